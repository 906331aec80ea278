section
/-- whether point x keeps the set v from being open, against the least sets r -/
def ps_ok (r : Nat → Int32) (v : Int32) (x : Nat) : Bool := if ((v >>> (nI x &&& 31)) &&& 1) = 1 then decide ((r x &&& (v ^^^ (-1))) = 0) else true
def ps_all (r : Nat → Int32) (v : Int32) : Nat → Bool
  | 0 => true
  | k + 1 => ps_all r v k && ps_ok r v k
def ps_os (r : Nat → Int32) (v : Int32) : Bool := ps_all r v 5
/-- how many of the first k sets are open -/
def ps_cnt (r : Nat → Int32) : Nat → Nat
  | 0 => 0
  | k + 1 => ps_cnt r k + (ps_os r (nI k)).toNat
/-- the inner points below k -/
def ps_inn (r : Nat → Int32) (v : Int32) : Nat → Int32
  | 0 => 0
  | k + 1 => ps_inn r v k ||| (if (r k &&& (v ^^^ (-1))) = 0 then (1 : Int32) <<< (nI k &&& 31) else 0)
/-- a space's least sets: as made, and with the set st opened -/
def ps_pl (x : Nat) : Int32 := 31
def ps_row (st : Nat) (x : Nat) : Int32 := if ((nI st >>> (nI x &&& 31)) &&& 1) = 1 then nI st else 31

theorem ps_all_in {r : Nat → Int32} {v : Int32} {n : Nat} (h : ps_all r v n = true) : ∀ i, i < n → ps_ok r v i = true := by
  induction n with
  | zero => exact fun i hi => absurd hi (by omega)
  | succ n ih =>
    have h2 : (ps_all r v n && ps_ok r v n) = true := h
    rw [Bool.and_eq_true] at h2
    intro i hi
    by_cases e : i = n
    · rw [e]; exact h2.2
    · exact ih h2.1 i (by omega)
theorem ps_os_f {r : Nat → Int32} {v : Int32} {i : Nat} (hi : i < 5) (h : ps_ok r v i = false) : ps_os r v = false := by
  cases e : ps_os r v with
  | false => rfl
  | true =>
    have := ps_all_in (n := 5) e i hi
    rw [h] at this
    exact absurd this (by decide)
theorem ps_cnt_le (r : Nat → Int32) (a d : Nat) : ps_cnt r a ≤ ps_cnt r (a + d) := by
  induction d with
  | zero => exact Nat.le_refl _
  | succ d ih => exact Nat.le_trans ih (Nat.le_add_right _ _)
theorem ps_cnt_1 {r : Nat → Int32} {i : Nat} (h : ps_os r (nI i) = true) : ps_cnt r (i + 1) = ps_cnt r i + 1 := by
  show ps_cnt r i + (ps_os r (nI i)).toNat = _
  rw [h]; rfl
theorem ps_cnt_0 {r : Nat → Int32} {i : Nat} (h : ps_os r (nI i) = false) : ps_cnt r (i + 1) = ps_cnt r i := by
  show ps_cnt r i + (ps_os r (nI i)).toNat = _
  rw [h]; rfl
theorem ps_cnt_lt {r : Nat → Int32} {i : Nat} (hi : i < 32) (h : ps_os r (nI i) = true) : ps_cnt r i < ps_cnt r 32 := by
  have h1 := ps_cnt_1 h
  have h2 := ps_cnt_le r (i + 1) (32 - (i + 1))
  rw [show i + 1 + (32 - (i + 1)) = 32 by omega] at h2
  omega
theorem ps_cnt_b (r : Nat → Int32) (n : Nat) : ps_cnt r n ≤ n := by
  induction n with
  | zero => exact Nat.le_refl _
  | succ n ih =>
    cases h : ps_os r (nI n) with
    | true => rw [ps_cnt_1 h]; omega
    | false => rw [ps_cnt_0 h]; omega

theorem ps_pl_os : ∀ v, v < 32 → ps_os ps_pl (nI v) = (decide (v = 0) || decide (v = 31)) := by decide +kernel
theorem ps_pl_cnt : ps_cnt ps_pl 32 = 2 := by decide +kernel
theorem ps_pl_inn : ∀ v, v < 32 → ps_inn ps_pl (nI v) 5 = if v = 31 then 31 else 0 := by decide +kernel
theorem ps_row_os : ∀ st, st < 32 → ∀ v, v < 32 → ps_os (ps_row st) (nI v) = (decide (v = 0) || decide (v = 31) || decide (v = st)) := by decide +kernel
theorem ps_row_cnt : ∀ st, st < 32 → ps_cnt (ps_row st) 32 = if st = 0 ∨ st = 31 then 2 else 3 := by decide +kernel
theorem ps_row_inn : ∀ st, st < 32 → ∀ v, v < 32 → ps_inn (ps_row st) (nI v) 5 = if v = 31 then 31 else if (nI st &&& (nI v ^^^ (-1))) = 0 then nI st else 0 := by decide +kernel
theorem ps_row_0 : ∀ x, x < 5 → ps_row 0 x = 31 := by decide +kernel
theorem ps_and31 : ∀ st, st < 32 → (31 : Int32) &&& nI st = nI st := by decide +kernel
theorem ps_n3 : ∀ i, i < 32 → ¬ nI i = -3 := by decide +kernel

theorem ps_out3 {t : Int32} (h : 2 < t) : 3 ≤ t := by
  rw [Int32.lt_iff_toInt_lt] at h
  rw [Int32.le_iff_toInt_le]
  have e2 : (2 : Int32).toInt = 2 := by decide
  have e3 : (3 : Int32).toInt = 3 := by decide
  omega
theorem ps_out5 {t : Int32} (h : 4 < t) : 5 ≤ t := by
  rw [Int32.lt_iff_toInt_lt] at h
  rw [Int32.le_iff_toInt_le]
  have e2 : (4 : Int32).toInt = 4 := by decide
  have e3 : (5 : Int32).toInt = 5 := by decide
  omega
theorem ps_of {x M : Int32} {n : Nat} (hM : M.toInt = n) (h : ¬ x < 0) (h5 : ¬ M < x) : ∃ j : Nat, j < n + 1 ∧ x = nI j := by
  obtain ⟨j, hj, e⟩ := nI_of2 hM h (Int32.not_lt.mp h5)
  exact ⟨j, by omega, e⟩
theorem ps_of2 {x : Int32} (h : ¬ x < 0) (h5 : ¬ 2 < x) : ∃ j : Nat, j < 3 ∧ x = nI j := ps_of (n := 2) (by decide) h h5
theorem ps_of4 {x : Int32} (h : ¬ x < 0) (h5 : ¬ 4 < x) : ∃ j : Nat, j < 5 ∧ x = nI j := ps_of (n := 4) (by decide) h h5
theorem ps_of31 {x : Int32} (h : ¬ x < 0) (h5 : ¬ 31 < x) : ∃ j : Nat, j < 32 ∧ x = nI j := ps_of (n := 31) (by decide) h h5
theorem ps_ix (p i : Nat) : (5 : Int32) * nI p + nI i = nI (5 * p + i) := by
  show nI 5 * nI p + nI i = _
  rw [pk_mul, nI_add]
end
section
theorem ps_init {post : St2 → Prop} (H : ∀ b1 : Nat → Int32, (∀ j, j < 20 → b1 j = 31) → post (b1, (fun _ => 0), (fun _ => 0))) : wpX_init post 3 30 () := by
  unfold wpX_init
  refine ⟨by omega, by omega, by omega, by omega, by omega, by omega, ?_⟩
  exact pk_loop (fun n i s => wX_init_28 post 3 30 3 30 n (nI i) s (fun _ => 0) (fun _ => 0)) (fun i s => ∀ j, j < i → s j = 31) 20 0 (fun _ => 0) (by omega) (fun j hj => absurd hj (by omega))
    (fun n s h => pk_le 20 20 (fun _ => H s h) (fun z => absurd z (by omega)))
    (fun n i s hi h hw => pk_le 20 i (fun z => absurd z (by omega)) (fun _ => ⟨pk_in i 20 hi, nm_e (nm_r (nI_1 i) (hw _ (fun j hj => by
      rw [nI_clamp (by omega)]
      by_cases e : j = i
      · rw [e, pk_us]
      · rw [pk_un e]; exact h j (by omega))))⟩))
theorem ps_sp0 {post : Int32 → Prop} {t : Int32} (h : t < 0 ∨ 2 < t) (hp : post 0) : wpX_isSpace post () t := by
  unfold wpX_isSpace
  exact br_c (fun _ => hp) (fun z => h.elim (fun y => absurd y z) (fun y => br_t (ps_out3 y) hp))
theorem ps_sp1 {post : Int32 → Prop} {p : Nat} (h : p < 3) (hp : post 1) : wpX_isSpace post () (nI p) := by
  unfold wpX_isSpace
  exact br_f (nI_pos (by omega)) (br_f (nI_ge (b := 3) h (by decide)) hp)
theorem ps_set0 {post : Int32 → Prop} {t : Int32} (h : t < 0 ∨ 31 < t) (hp : post 0) : wpX_isSet post () t := by
  unfold wpX_isSet
  exact br_c (fun _ => hp) (fun z => h.elim (fun y => absurd y z) (fun y => br_t y hp))
theorem ps_set1 {post : Int32 → Prop} {p : Nat} (h : p < 32) (hp : post 1) : wpX_isSet post () (nI p) := by
  unfold wpX_isSet
  exact br_f (nI_pos (by omega)) (br_f (nI_nlt (a := 31) (by omega) (by decide)) hp)
theorem ps_pt0 {post : Int32 → Prop} {t : Int32} (h : t < 0 ∨ 4 < t) (hp : post 0) : wpX_isPoint post () t := by
  unfold wpX_isPoint
  exact br_c (fun _ => hp) (fun z => h.elim (fun y => absurd y z) (fun y => br_t (ps_out5 y) hp))
theorem ps_pt1 {post : Int32 → Prop} {p : Nat} (h : p < 5) (hp : post 1) : wpX_isPoint post () (nI p) := by
  unfold wpX_isPoint
  exact br_f (nI_pos (by omega)) (br_f (nI_ge (b := 5) h (by decide)) hp)
theorem ps_about {post : Int32 → Prop} {p i : Nat} {a1 a2 a3 : Nat → Int32} {y : Int32} (hp : p < 3) (hi : i < 5) (hr : a1 (5 * p + i) = y) (h : post y) : wpX_about post (a1, a2, a3) (nI p) (nI i) := by
  show vp_in (5 * nI p + nI i) 20 ∧ post (a1 (5 * nI p + nI i).toNatClampNeg)
  rw [ps_ix, nI_clamp (by omega), hr]
  exact ⟨vp_in_nI (by omega) (by omega), h⟩
theorem ps_addOpen {post : St2 → Prop} {p st : Nat} {a1 a2 a3 : Nat → Int32} (hp : p < 3) (hst : st < 32) (ha : ∀ j, j < 20 → a1 j = 31)
    (H : ∀ b1 : Nat → Int32, (∀ q x, q < 3 → x < 5 → b1 (5 * q + x) = if q = p then ps_row st x else 31) → post (b1, a2, a3)) : wpX_addOpen post (a1, a2, a3) (nI p) (nI st) := by
  unfold wpX_addOpen
  refine pk_loop (fun n i s => wX_addOpen_2 post (nI p) (nI st) n (nI i) s a2 a3) (fun i s => ∀ q x, q < 3 → x < 5 → s (5 * q + x) = if q = p ∧ x < i then ps_row st x else 31) 5 0 a1 (by omega) ?_ ?_ ?_
  · intro q x hq hx
    rw [ha _ (by omega), if_neg (by omega)]
  · intro n s h
    refine pk_le 5 5 (fun _ => H s (fun q x hq hx => ?_)) (fun z => absurd z (by omega))
    rw [h q x hq hx]
    by_cases e : q = p
    · rw [if_pos ⟨e, hx⟩, if_pos e]
    · rw [if_neg (fun z => e z.1), if_neg e]
  · intro n i s hi h hw
    refine pk_le 5 i (fun z => absurd z (by omega)) (fun _ => ?_)
    refine ⟨fun hb => br_f (by decide) ?_, fun hb => br_t rfl (nm_r (nI_1 i) (hw s (fun q x hq hx => ?_)))⟩
    · rw [ps_ix, nI_clamp (by omega)]
      refine ⟨vp_in_nI (by omega) (by omega), vp_in_nI (by omega) (by omega), nm_e (nm_r (nI_1 i) (hw _ (fun q x hq hx => ?_)))⟩
      by_cases e : 5 * q + x = 5 * p + i
      · have e1 : q = p := by omega
        have e2 : x = i := by omega
        rw [e, pk_us, h p i hp hi, if_neg (by omega), ps_and31 st hst, if_pos ⟨e1, by omega⟩, e2]
        unfold ps_row
        rw [if_pos hb]
      · rw [pk_un e, h q x hq hx]
        by_cases e3 : q = p ∧ x < i
        · rw [if_pos e3, if_pos ⟨e3.1, by omega⟩]
        · rw [if_neg e3, if_neg (by omega)]
    · rw [h q x hq hx]
      by_cases e3 : q = p ∧ x < i
      · rw [if_pos e3, if_pos ⟨e3.1, by omega⟩]
      · rw [if_neg e3]
        by_cases e4 : q = p ∧ x < i + 1
        · rw [if_pos e4, show x = i by omega]
          unfold ps_row
          rw [if_neg hb]
        · rw [if_neg e4]
theorem ps_isOpenSet {post : Int32 → Prop} {p : Nat} {v : Int32} {a1 a2 a3 : Nat → Int32} {r : Nat → Int32} (hp : p < 3) (hr : ∀ x, x < 5 → a1 (5 * p + x) = r x)
    (h1 : ps_os r v = true → post 1) (h0 : ps_os r v = false → post 0) : wpX_isOpenSet post (a1, a2, a3) (nI p) v := by
  unfold wpX_isOpenSet
  refine pk_loop (σ := Unit) (fun n i _ => wX_isOpenSet_2 post (nI p) v a1 a2 a3 n (nI i)) (fun i _ => ps_all r v i = true) 5 0 () (by omega) rfl
    (fun n _ h => pk_le 5 5 (fun _ => h1 h) (fun z => absurd z (by omega))) ?_
  intro n i _ hi h hw
  refine pk_le 5 i (fun z => absurd z (by omega)) (fun _ => ?_)
  have go : ps_ok r v i = true → ps_all r v (i + 1) = true := fun z => by
    show (ps_all r v i && ps_ok r v i) = true
    rw [h, z]; rfl
  refine ⟨fun hb => br_f (by decide) (ps_about hp hi (hr i hi) (br_c (fun hz => nm_r (nI_1 i) (hw () (go ?_))) (fun hz => h0 (ps_os_f hi ?_)))), fun hb => br_t rfl (nm_r (nI_1 i) (hw () (go ?_)))⟩
  · unfold ps_ok
    rw [if_pos hb]
    exact decide_eq_true hz
  · unfold ps_ok
    rw [if_pos hb]
    exact decide_eq_false hz
  · unfold ps_ok
    rw [if_neg hb]
theorem ps_count {post : Int32 → Prop} {p : Nat} {a1 a2 a3 : Nat → Int32} {r : Nat → Int32} (hp : p < 3) (hr : ∀ x, x < 5 → a1 (5 * p + x) = r x)
    (H : post (nI (ps_cnt r 32))) : wpX_count post (a1, a2, a3) (nI p) := by
  unfold wpX_count
  refine pk_loop (σ := Unit) (fun n i _ => wX_count_4 post (nI p) a1 a2 a3 n (nI (ps_cnt r i)) (nI i)) (fun _ _ => True) 32 0 () (by omega) trivial
    (fun n _ _ => pk_le 32 32 (fun _ => H) (fun z => absurd z (by omega))) ?_
  intro n i _ hi _ hw
  refine pk_le 32 i (fun z => absurd z (by omega)) (fun _ => ?_)
  refine ps_isOpenSet hp hr (fun ho => br_f (by decide) (nm_r ?_ (nm_r (nI_1 i) (hw () trivial)))) (fun ho => br_t rfl (nm_r ?_ (nm_r (nI_1 i) (hw () trivial))))
  · rw [ps_cnt_1 ho, nI_1]
  · rw [ps_cnt_0 ho]
    show nI (ps_cnt r i) + nI 0 = _
    rw [nI_add]; rfl
theorem ps_innerOf {post : Int32 → Prop} {p : Nat} {v : Int32} {a1 a2 a3 : Nat → Int32} {r : Nat → Int32} (hp : p < 3) (hr : ∀ x, x < 5 → a1 (5 * p + x) = r x)
    (H : post (ps_inn r v 5)) : wpX_innerOf post (a1, a2, a3) (nI p) v := by
  unfold wpX_innerOf
  refine pk_loop (σ := Unit) (fun n i _ => wX_innerOf_5 post (nI p) v a1 a2 a3 n (ps_inn r v i) (nI i)) (fun _ _ => True) 5 0 () (by omega) trivial
    (fun n _ _ => pk_le 5 5 (fun _ => H) (fun z => absurd z (by omega))) ?_
  intro n i _ hi _ hw
  refine pk_le 5 i (fun z => absurd z (by omega)) (fun _ => ?_)
  refine ps_about hp hi (hr i hi) (br_c (fun hz => nm_r ?_ (nm_r (nI_1 i) (hw () trivial))) (fun hz => nm_r ?_ (nm_r (nI_1 i) (hw () trivial))))
  · show _ = ps_inn r v i ||| (if (r i &&& (v ^^^ (-1))) = 0 then (1 : Int32) <<< (nI i &&& 31) else 0)
    rw [if_pos hz]
  · show _ = ps_inn r v i ||| (if (r i &&& (v ^^^ (-1))) = 0 then (1 : Int32) <<< (nI i &&& 31) else 0)
    rw [if_neg hz]
theorem ps_openAtL {post : Int32 → Prop} {p : Nat} {x : Int32} {a1 a2 a3 : Nat → Int32} {r : Nat → Int32} (hp : p < 3) (hr : ∀ x, x < 5 → a1 (5 * p + x) = r x)
    (H0 : (∀ j, j < ps_cnt r 32 → ¬ x = nI j) → post (-3)) (H1 : ∀ y, ¬ y = -3 → (∃ j, j < ps_cnt r 32 ∧ x = nI j) → post y) : ∃ n, wX_openAt_14 post (nI p) x a1 a2 a3 n 0 0 := by
  refine pk_loop (σ := Unit) (fun n i _ => wX_openAt_14 post (nI p) x a1 a2 a3 n (nI (ps_cnt r i)) (nI i)) (fun i _ => ∀ j, j < ps_cnt r i → ¬ x = nI j) 32 0 () (by omega) (fun j hj => absurd hj (Nat.not_lt_zero j))
    (fun n _ h => pk_le 32 32 (fun _ => H0 h) (fun z => absurd z (by omega))) ?_
  intro n i _ hi h hw
  refine pk_le 32 i (fun z => absurd z (by omega)) (fun _ => ?_)
  refine ps_isOpenSet hp hr (fun ho => br_f (by decide) (br_c (fun e => H1 _ (ps_n3 i hi) ⟨ps_cnt r i, ps_cnt_lt hi ho, e.symm⟩) (fun e => nm_r ?_ (nm_r (nI_1 i) (hw () (fun j hj => ?_)))))) (fun ho => br_t rfl (nm_r (nI_1 i) ?_))
  · rw [ps_cnt_1 ho, nI_1]
  · rw [ps_cnt_1 ho] at hj
    by_cases ej : j = ps_cnt r i
    · rw [ej]; exact fun z => e z.symm
    · exact h j (by omega)
  · have t : wX_openAt_14 post (nI p) x a1 a2 a3 n (nI (ps_cnt r (i + 1))) (nI (i + 1)) := hw () (fun j hj => h j (by rw [ps_cnt_0 ho] at hj; exact hj))
    rw [ps_cnt_0 ho] at t
    exact t

theorem ps_openA {post : Int32 → St2 → Prop} {t v : Int32} {a1 a2 a3 : Nat → Int32} (h : t < 0 ∨ 2 < t) (hp : post (-1) (a1, a2, a3)) : wpX_open post (a1, a2, a3) t v := by
  unfold wpX_open
  exact ps_sp0 h (br_t rfl hp)
theorem ps_openB {post : Int32 → St2 → Prop} {p : Nat} {v : Int32} {a1 a2 a3 : Nat → Int32} (hp3 : p < 3) (h : v < 0 ∨ 31 < v) (hp : post (-2) (a1, a2, a3)) : wpX_open post (a1, a2, a3) (nI p) v := by
  unfold wpX_open
  exact ps_sp1 hp3 (br_f (by decide) (ps_set0 h (br_t rfl hp)))
theorem ps_openC {post : Int32 → St2 → Prop} {p st : Nat} {a1 a2 a3 : Nat → Int32} (hp3 : p < 3) (hst : st < 32) (ha : ∀ j, j < 20 → a1 j = 31)
    (H : ∀ b1 : Nat → Int32, (∀ q x, q < 3 → x < 5 → b1 (5 * q + x) = if q = p then ps_row st x else 31) → post (nI (ps_cnt (ps_row st) 32)) (b1, a2, a3)) : wpX_open post (a1, a2, a3) (nI p) (nI st) := by
  unfold wpX_open
  refine ps_sp1 hp3 (br_f (by decide) (ps_set1 hst (br_f (by decide) (ps_addOpen hp3 hst ha (fun b1 hb => ?_)))))
  exact ps_count hp3 (r := ps_row st) (fun x hx => by rw [hb p x hp3 hx, if_pos rfl]) (H b1 hb)
theorem ps_isOpenA {post : Int32 → Prop} {t v : Int32} {a1 a2 a3 : Nat → Int32} (h : t < 0 ∨ 2 < t) (hp : post (-1)) : wpX_isOpen post (a1, a2, a3) t v := by
  unfold wpX_isOpen
  exact ps_sp0 h (br_t rfl hp)
theorem ps_isOpenB {post : Int32 → Prop} {p : Nat} {v : Int32} {a1 a2 a3 : Nat → Int32} (hp3 : p < 3) (h : v < 0 ∨ 31 < v) (hp : post (-2)) : wpX_isOpen post (a1, a2, a3) (nI p) v := by
  unfold wpX_isOpen
  exact ps_sp1 hp3 (br_f (by decide) (ps_set0 h (br_t rfl hp)))
theorem ps_isOpenC {post : Int32 → Prop} {p v : Nat} {a1 a2 a3 : Nat → Int32} {r : Nat → Int32} (hp3 : p < 3) (hv : v < 32) (hr : ∀ x, x < 5 → a1 (5 * p + x) = r x)
    (H : ∀ y : Int32, (ps_os r (nI v) = true → y = 1) → (ps_os r (nI v) = false → y = 0) → post y) : wpX_isOpen post (a1, a2, a3) (nI p) (nI v) := by
  unfold wpX_isOpen
  refine ps_sp1 hp3 (br_f (by decide) (ps_set1 hv (br_f (by decide) (ps_isOpenSet hp3 hr (fun ho => br_f (by decide) ?_) (fun ho => br_t rfl ?_)))))
  · exact H 1 (fun _ => rfl) (fun z => absurd (ho.symm.trans z) (by decide))
  · exact H 0 (fun z => absurd (ho.symm.trans z) (by decide)) (fun _ => rfl)
theorem ps_innerA {post : Int32 → Prop} {t v : Int32} {a1 a2 a3 : Nat → Int32} (h : t < 0 ∨ 2 < t) (hp : post (-1)) : wpX_inner post (a1, a2, a3) t v := by
  unfold wpX_inner
  exact ps_sp0 h (br_t rfl hp)
theorem ps_innerB {post : Int32 → Prop} {p : Nat} {v : Int32} {a1 a2 a3 : Nat → Int32} (hp3 : p < 3) (h : v < 0 ∨ 31 < v) (hp : post (-2)) : wpX_inner post (a1, a2, a3) (nI p) v := by
  unfold wpX_inner
  exact ps_sp1 hp3 (br_f (by decide) (ps_set0 h (br_t rfl hp)))
theorem ps_innerC {post : Int32 → Prop} {p v : Nat} {a1 a2 a3 : Nat → Int32} {r : Nat → Int32} (hp3 : p < 3) (hv : v < 32) (hr : ∀ x, x < 5 → a1 (5 * p + x) = r x)
    (H : post (ps_inn r (nI v) 5)) : wpX_inner post (a1, a2, a3) (nI p) (nI v) := by
  unfold wpX_inner
  exact ps_sp1 hp3 (br_f (by decide) (ps_set1 hv (br_f (by decide) (ps_innerOf hp3 hr H))))
theorem ps_aroundA {post : Int32 → Prop} {t v : Int32} {a1 a2 a3 : Nat → Int32} (h : t < 0 ∨ 2 < t) (hp : post (-1)) : wpX_around post (a1, a2, a3) t v := by
  unfold wpX_around
  exact ps_sp0 h (br_t rfl hp)
theorem ps_aroundB {post : Int32 → Prop} {p : Nat} {v : Int32} {a1 a2 a3 : Nat → Int32} (hp3 : p < 3) (h : v < 0 ∨ 4 < v) (hp : post (-2)) : wpX_around post (a1, a2, a3) (nI p) v := by
  unfold wpX_around
  exact ps_sp1 hp3 (br_f (by decide) (ps_pt0 h (br_t rfl hp)))
theorem ps_aroundC {post : Int32 → Prop} {p v : Nat} {a1 a2 a3 : Nat → Int32} {r : Nat → Int32} (hp3 : p < 3) (hv : v < 5) (hr : ∀ x, x < 5 → a1 (5 * p + x) = r x)
    (H : post (r v)) : wpX_around post (a1, a2, a3) (nI p) (nI v) := by
  unfold wpX_around
  exact ps_sp1 hp3 (br_f (by decide) (ps_pt1 hv (br_f (by decide) (ps_about hp3 hv (hr v hv) H))))
theorem ps_openAtA {post : Int32 → Prop} {t v : Int32} {a1 a2 a3 : Nat → Int32} (h : t < 0 ∨ 2 < t) (hp : post (-1)) : wpX_openAt post (a1, a2, a3) t v := by
  unfold wpX_openAt
  exact ps_sp0 h (br_t rfl hp)
theorem ps_openAtC {post : Int32 → Prop} {p : Nat} {x : Int32} {a1 a2 a3 : Nat → Int32} {r : Nat → Int32} (hp3 : p < 3) (hr : ∀ x, x < 5 → a1 (5 * p + x) = r x)
    (H0 : (∀ j, j < ps_cnt r 32 → ¬ x = nI j) → post (-3)) (H1 : ∀ y, ¬ y = -3 → (∃ j, j < ps_cnt r 32 ∧ x = nI j) → post y) : wpX_openAt post (a1, a2, a3) (nI p) x := by
  unfold wpX_openAt
  exact ps_sp1 hp3 (br_f (by decide) (ps_openAtL hp3 hr H0 H1))
end
section
/-- what the law knows of the space x2 that it asks about: x10 says whether it is one, x9 whether the set x1 was opened in it; x8 is then how many sets are open -/
def ps_T (x1 x2 x8 x9 x10 : Int32) (a1 : Nat → Int32) : Prop :=
  ((x2 < 0 ∨ 2 < x2) ∧ x10 = 0) ∨ (∃ p, p < 3 ∧ x2 = nI p ∧ x10 = 1 ∧
    ((x9 = 0 ∧ ∀ x, x < 5 → a1 (5 * p + x) = ps_pl x) ∨ (x9 = 1 ∧ ∃ st, st < 32 ∧ x1 = nI st ∧ x8 = nI (ps_cnt (ps_row st) 32) ∧ ∀ x, x < 5 → a1 (5 * p + x) = ps_row st x)))
/-- a flag z and what it says of v: a set or none -/
def ps_S (z v : Int32) : Prop := (z = 0 ∧ (v < 0 ∨ 31 < v)) ∨ (z = 1 ∧ ∃ n, n < 32 ∧ v = nI n)
theorem ps_10 : ¬ (1 : Int32) = 0 := by decide

theorem ps_358n {post : Int32 → St0 → Prop} {mc ms : Nat} {x2 x4 x10 z0 : Int32} {kc ks : Nat} {a1 a2 a3 : Nat → Int32} (h2 : x2 < 0 ∨ 2 < x2) (h10 : x10 = 0) (hp : post 1 ()) : wL_lawOf_358 post mc ms x2 x4 x10 z0 kc ks a1 a2 a3 := by
  unfold wL_lawOf_358
  refine ps_openAtA h2 (br_f (by decide) ?_)
  unfold wL_lawOf_378
  refine br_t h10 ?_
  unfold wL_lawOf_399 wL_lawOf_400
  exact br_f (by decide) (br_t h10 (ps_openAtA h2 (br_t rfl hp)))
theorem ps_358 {post : Int32 → St0 → Prop} {mc ms : Nat} {x4 : Int32} {p : Nat} {kc ks : Nat} {a1 a2 a3 : Nat → Int32} {r : Nat → Int32} (hp3 : p < 3) (hr : ∀ x, x < 5 → a1 (5 * p + x) = r x) (hp : post 1 ()) :
    wL_lawOf_358 post mc ms (nI p) x4 1 (nI (ps_cnt r 32)) kc ks a1 a2 a3 := by
  have hb : ps_cnt r 32 ≤ 32 := ps_cnt_b r 32
  unfold wL_lawOf_358
  refine ps_openAtC hp3 hr (fun h0 => br_t rfl ?_) (fun y hy hj => br_f hy ?_)
  · have g : wL_lawOf_399 post mc ms (nI p) x4 1 0 kc ks a1 a2 a3 := by
      unfold wL_lawOf_399 wL_lawOf_400
      exact br_t rfl hp
    unfold wL_lawOf_378
    refine br_f ps_10 (br_c (fun _ => g) (fun h4 => br_c (fun _ => g) (fun h5 => ?_)))
    rcases pk_ix x4 (n := ps_cnt r 32) (by omega) with z | z | ⟨j, hj, e⟩
    · exact absurd z h4
    · exact absurd z h5
    · exact absurd e (h0 j hj)
  · obtain ⟨j, hj, e⟩ := hj
    rw [e]
    unfold wL_lawOf_378
    refine br_f ps_10 (br_f (nI_pos (by omega)) (br_f (nI_ge hj (by omega)) ?_))
    unfold wL_lawOf_400
    exact br_t rfl hp
theorem ps_342 {post : Int32 → St0 → Prop} {mc ms : Nat} {x1 x2 x4 x8 x9 x10 z0 z1 : Int32} {kc ks : Nat} {a1 a2 a3 : Nat → Int32} (hT : ps_T x1 x2 x8 x9 x10 a1) (hz : z1 = z0) (hp : post 1 ()) : wL_lawOf_342 post mc ms x2 x4 x8 x9 x10 z0 z1 kc ks a1 a2 a3 := by
  unfold wL_lawOf_342
  refine br_t hz ?_
  rcases hT with ⟨h2, h10⟩ | ⟨p, hp3, e2, e10, ⟨e9, hr⟩ | ⟨e9, st, hst, e1, e8, hr⟩⟩
  · exact br_c (fun _ => ps_358n h2 h10 hp) (fun _ => ps_358n h2 h10 hp)
  · refine br_t e9 ?_
    have t := ps_358 (mc := mc) (ms := ms) (x4 := x4) (kc := kc) (ks := ks) (a2 := a2) (a3 := a3) hp3 hr hp
    rw [ps_pl_cnt] at t
    rw [e2, e10]
    exact t
  · refine br_f (by rw [e9]; exact ps_10) ?_
    rw [e2, e10, e8]
    exact ps_358 hp3 hr hp
theorem ps_340 {post : Int32 → St0 → Prop} {mc ms : Nat} {x1 x2 x4 x8 x9 x10 z0 : Int32} {kc ks : Nat} {a1 a2 a3 : Nat → Int32} (hT : ps_T x1 x2 x8 x9 x10 a1) (hz : z0 = 31) (hp : post 1 ()) : wL_lawOf_340 post mc ms x2 x4 x8 x9 x10 z0 kc ks a1 a2 a3 := by
  unfold wL_lawOf_340
  exact ps_342 hT hz hp
theorem ps_288 {post : Int32 → St0 → Prop} {mc ms : Nat} {x1 x2 x4 x8 x9 x10 z0 : Int32} {kc ks : Nat} {a1 a2 a3 : Nat → Int32} (hT : ps_T x1 x2 x8 x9 x10 a1) (hz : (z0 = 0 ∧ (x4 < 0 ∨ 4 < x4)) ∨ (z0 = 1 ∧ ∃ k, k < 5 ∧ x4 = nI k)) (hp : post 1 ()) :
    wL_lawOf_288 post mc ms x1 x2 x4 x8 x9 x10 z0 kc ks a1 a2 a3 := by
  have hT' := hT
  unfold wL_lawOf_288
  rcases hT with ⟨h2, h10⟩ | ⟨p, hp3, e2, e10, hR⟩
  · exact ps_aroundA h2 (br_t h10 (ps_342 hT' rfl hp))
  · have n10 : ¬ x10 = 0 := by rw [e10]; exact ps_10
    rcases hz with ⟨ez, h4⟩ | ⟨ez, k, hk, e4⟩
    · rw [e2] at hT' ⊢
      exact ps_aroundB hp3 h4 (br_f n10 (br_t ez (ps_342 hT' rfl hp)))
    · have nz : ¬ z0 = 0 := by rw [ez]; exact ps_10
      rw [e2] at hT' ⊢
      rw [e4]
      rcases hR with ⟨e9, hr⟩ | ⟨e9, st, hst, e1, e8, hr⟩
      · exact ps_aroundC hp3 hk hr (br_f n10 (br_f nz (br_t e9 (ps_340 hT' rfl hp))))
      · have n9 : ¬ x9 = 0 := by rw [e9]; exact ps_10
        rw [e1] at hT' ⊢
        refine ps_aroundC hp3 hk hr (br_f n10 (br_f nz (br_f n9 (br_c (fun z => ps_340 hT' ?_ hp) (fun _ => br_c (fun z => ps_342 hT' ?_ hp) (fun z => ps_340 hT' ?_ hp))))))
        · have e0 : st = 0 := (nI_eq (a := st) (b := 0) (by omega) (by omega)).mp z
          rw [e0]
          exact ps_row_0 k hk
        · unfold ps_row
          rw [if_pos z]
        · unfold ps_row
          rw [if_neg z]
theorem ps_267 {post : Int32 → St0 → Prop} {mc ms : Nat} {x1 x2 x4 x8 x9 x10 z0 z1 : Int32} {kc ks : Nat} {a1 a2 a3 : Nat → Int32} (hT : ps_T x1 x2 x8 x9 x10 a1) (hz : z1 = z0) (hp : post 1 ()) : wL_lawOf_267 post mc ms x1 x2 x4 x8 x9 x10 z0 z1 kc ks a1 a2 a3 := by
  unfold wL_lawOf_267 wL_lawOf_287
  exact br_t hz (br_c (fun h => ps_288 hT (Or.inl ⟨rfl, Or.inl h⟩) hp) (fun h => br_c (fun g => ps_288 hT (Or.inl ⟨rfl, Or.inr g⟩) hp) (fun g => ps_288 hT (Or.inr ⟨rfl, ps_of4 h g⟩) hp)))
theorem ps_237 {post : Int32 → St0 → Prop} {mc ms : Nat} {x1 x2 x3 x4 x8 x9 x10 x11 z0 : Int32} {kc ks : Nat} {a1 a2 a3 : Nat → Int32} (hT : ps_T x1 x2 x8 x9 x10 a1) (hS : ps_S x11 x3)
    (hz : (x3 = 31 ∧ z0 = 31) ∨ (¬ x3 = 31 ∧ ¬ x9 = 0 ∧ (x1 &&& (x3 ^^^ (-1))) = 0 ∧ z0 = x1) ∨ (¬ x3 = 31 ∧ (x9 = 0 ∨ ¬ (x1 &&& (x3 ^^^ (-1))) = 0) ∧ z0 = 0)) (hp : post 1 ()) :
    wL_lawOf_237 post mc ms x1 x2 x3 x4 x8 x9 x10 x11 z0 kc ks a1 a2 a3 := by
  have hT' := hT
  unfold wL_lawOf_237
  rcases hT with ⟨h2, h10⟩ | ⟨p, hp3, e2, e10, hR⟩
  · exact ps_innerA h2 (br_t h10 (ps_267 hT' rfl hp))
  · have n10 : ¬ x10 = 0 := by rw [e10]; exact ps_10
    rcases hS with ⟨ez, h3⟩ | ⟨ez, v, hv, e3⟩
    · rw [e2] at hT' ⊢
      exact ps_innerB hp3 h3 (br_f n10 (br_t ez (ps_267 hT' rfl hp)))
    · have nz : ¬ x11 = 0 := by rw [ez]; exact ps_10
      have e31 : x3 = 31 ↔ v = 31 := by
        rw [e3]
        exact nI_eq (a := v) (b := 31) (by omega) (by omega)
      rw [e2] at hT' ⊢
      rcases hR with ⟨e9, hr⟩ | ⟨e9, st, hst, e1, e8, hr⟩
      · have E : ps_inn ps_pl (nI v) 5 = z0 := by
          rw [ps_pl_inn v hv]
          rcases hz with ⟨h1, h2⟩ | ⟨h1, h2, h3, h4⟩ | ⟨h1, h2, h3⟩
          · rw [if_pos (e31.mp h1), h2]
          · exact absurd e9 h2
          · rw [if_neg (fun z => h1 (e31.mpr z)), h3]
        rw [e3]
        exact ps_innerC hp3 hv hr (br_f n10 (br_f nz (ps_267 hT' E hp)))
      · have n9 : ¬ x9 = 0 := by rw [e9]; exact ps_10
        have E : ps_inn (ps_row st) (nI v) 5 = z0 := by
          rw [ps_row_inn st hst v hv, ← e1, ← e3]
          rcases hz with ⟨h1, h2⟩ | ⟨h1, h2, h3, h4⟩ | ⟨h1, h2, h3⟩
          · rw [if_pos (e31.mp h1), h2]
          · rw [if_neg (fun z => h1 (e31.mpr z)), if_pos h3, h4]
          · rw [if_neg (fun z => h1 (e31.mpr z)), if_neg (h2.resolve_left n9), h3]
        rw [e3]
        exact ps_innerC hp3 hv hr (br_f n10 (br_f nz (ps_267 hT' E hp)))
theorem ps_203 {post : Int32 → St0 → Prop} {mc ms : Nat} {x1 x2 x3 x4 x8 x9 x10 x11 z0 z1 : Int32} {kc ks : Nat} {a1 a2 a3 : Nat → Int32} (hT : ps_T x1 x2 x8 x9 x10 a1) (hS : ps_S x11 x3) (hz : z1 = z0) (hp : post 1 ()) :
    wL_lawOf_203 post mc ms x1 x2 x3 x4 x8 x9 x10 x11 z0 z1 kc ks a1 a2 a3 := by
  unfold wL_lawOf_203 wL_lawOf_236
  exact br_t hz (br_c (fun h => ps_237 hT hS (Or.inl ⟨h, rfl⟩) hp) (fun h => br_c (fun g => ps_237 hT hS (Or.inr (Or.inr ⟨h, Or.inl g, rfl⟩)) hp)
    (fun g => br_c (fun f => ps_237 hT hS (Or.inr (Or.inl ⟨h, g, f, rfl⟩)) hp) (fun f => ps_237 hT hS (Or.inr (Or.inr ⟨h, Or.inr f, rfl⟩)) hp))))
theorem ps_150 {post : Int32 → St0 → Prop} {mc ms : Nat} {x1 x2 x3 x4 x8 x9 x10 z0 : Int32} {kc ks : Nat} {a1 a2 a3 : Nat → Int32} (hT : ps_T x1 x2 x8 x9 x10 a1) (hS : ps_S z0 x3) (hp : post 1 ()) :
    wL_lawOf_150 post mc ms x1 x2 x3 x4 x8 x9 x10 z0 kc ks a1 a2 a3 := by
  have hT' := hT
  have hS' := hS
  unfold wL_lawOf_150 wL_lawOf_198 wL_lawOf_202
  rcases hT with ⟨h2, h10⟩ | ⟨p, hp3, e2, e10, hR⟩
  · exact ps_isOpenA h2 (br_t h10 (ps_203 hT' hS' rfl hp))
  · have n10 : ¬ x10 = 0 := by rw [e10]; exact ps_10
    rcases hS with ⟨ez, h3⟩ | ⟨ez, v, hv, e3⟩
    · rw [e2] at hT' ⊢
      exact ps_isOpenB hp3 h3 (br_f n10 (br_t ez (ps_203 hT' hS' rfl hp)))
    · have nz : ¬ z0 = 0 := by rw [ez]; exact ps_10
      rw [e3] at hS' ⊢
      have e31 : nI v = 31 ↔ v = 31 := nI_eq (a := v) (b := 31) (by omega) (by omega)
      have e0 : nI v = 0 ↔ v = 0 := nI_eq (a := v) (b := 0) (by omega) (by omega)
      rw [e2] at hT' ⊢
      rcases hR with ⟨e9, hr⟩ | ⟨e9, st, hst, e1, e8, hr⟩
      · refine ps_isOpenC hp3 hv hr (fun y y1 y0 => ?_)
        rw [ps_pl_os v hv] at y1 y0
        refine br_f n10 (br_f nz (br_c (fun g => ps_203 hT' hS' (y1 ?_) hp) (fun g => br_c (fun f => ps_203 hT' hS' (y1 ?_) hp) (fun f => br_t e9 (ps_203 hT' hS' (y0 ?_) hp)))))
        · rw [e0.mp g]; rfl
        · rw [e31.mp f]; rfl
        · rw [e0] at g
          rw [e31] at f
          rw [decide_eq_false g, decide_eq_false f]; rfl
      · have n9 : ¬ x9 = 0 := by rw [e9]; exact ps_10
        have es : nI v = x1 ↔ v = st := by
          rw [e1]
          exact nI_eq (by omega) (by omega)
        refine ps_isOpenC hp3 hv hr (fun y y1 y0 => ?_)
        rw [ps_row_os st hst v hv] at y1 y0
        refine br_f n10 (br_f nz (br_c (fun g => ps_203 hT' hS' (y1 ?_) hp) (fun g => br_c (fun f => ps_203 hT' hS' (y1 ?_) hp) (fun f => br_f n9 (br_c (fun d => ps_203 hT' hS' (y1 ?_) hp) (fun d => ps_203 hT' hS' (y0 ?_) hp))))))
        · rw [e0.mp g]; rfl
        · rw [e31.mp f]; rfl
        · rw [es] at d
          rw [decide_eq_true d, Bool.or_true]
        · rw [e0] at g
          rw [e31] at f
          rw [es] at d
          rw [decide_eq_false g, decide_eq_false f, decide_eq_false d]; rfl
theorem ps_133 {post : Int32 → St0 → Prop} {mc ms : Nat} {x1 x2 x3 x4 x8 x9 z0 : Int32} {kc ks : Nat} {a1 a2 a3 : Nat → Int32} (hT : ps_T x1 x2 x8 x9 z0 a1) (hp : post 1 ()) :
    wL_lawOf_133 post mc ms x1 x2 x3 x4 x8 x9 z0 kc ks a1 a2 a3 := by
  unfold wL_lawOf_133 wL_lawOf_149
  exact br_c (fun h => ps_150 hT (Or.inl ⟨rfl, Or.inl h⟩) hp) (fun h => br_c (fun g => ps_150 hT (Or.inl ⟨rfl, Or.inr g⟩) hp) (fun g => ps_150 hT (Or.inr ⟨rfl, ps_of31 h g⟩) hp))
theorem ps_117 {post : Int32 → St0 → Prop} {mc ms : Nat} {x1 x2 x3 x4 x8 z0 : Int32} {kc ks : Nat} {a1 a2 a3 : Nat → Int32}
    (hO : ∀ p, p < 3 → x2 = nI p → ((z0 = 0 ∧ ∀ x, x < 5 → a1 (5 * p + x) = ps_pl x) ∨ (z0 = 1 ∧ ∃ st, st < 32 ∧ x1 = nI st ∧ x8 = nI (ps_cnt (ps_row st) 32) ∧ ∀ x, x < 5 → a1 (5 * p + x) = ps_row st x))) (hp : post 1 ()) :
    wL_lawOf_117 post mc ms x1 x2 x3 x4 x8 z0 kc ks a1 a2 a3 := by
  unfold wL_lawOf_117 wL_lawOf_132
  refine br_c (fun h => ps_133 (Or.inl ⟨Or.inl h, rfl⟩) hp) (fun h => br_c (fun g => ps_133 (Or.inl ⟨Or.inr g, rfl⟩) hp) (fun g => ?_))
  obtain ⟨p, hp3, e⟩ := ps_of2 h g
  exact ps_133 (Or.inr ⟨p, hp3, e, rfl, hO p hp3 e⟩) hp
theorem ps_92a {post : Int32 → St0 → Prop} {mc ms : Nat} {x0 x1 x2 x3 x4 x6 x7 x8 z0 z1 : Int32} {kc ks : Nat} {a1 a2 a3 : Nat → Int32} (h67 : x6 = 0 ∨ x7 = 0) (ha : ∀ j, j < 20 → a1 j = 31) (hz : z1 = z0) (hp : post 1 ()) :
    wL_lawOf_92 post mc ms x0 x1 x2 x3 x4 x6 x7 x8 z0 z1 kc ks a1 a2 a3 := by
  have g : wL_lawOf_117 post mc ms x1 x2 x3 x4 x8 0 kc ks a1 a2 a3 := ps_117 (fun p hp3 e => Or.inl ⟨rfl, fun x hx => ha _ (by omega)⟩) hp
  unfold wL_lawOf_92 wL_lawOf_116
  exact br_t hz (br_c (fun _ => g) (fun n6 => br_t (h67.resolve_left n6) g))
theorem ps_92b {post : Int32 → St0 → Prop} {mc ms : Nat} {x2 x3 x4 x6 x7 x8 z0 z1 : Int32} {q st : Nat} {kc ks : Nat} {a1 a2 a3 : Nat → Int32} (e6 : x6 = 1) (e7 : x7 = 1) (hq : q < 3) (hst : st < 32) (e8 : x8 = nI (ps_cnt (ps_row st) 32))
    (ha : ∀ p x, p < 3 → x < 5 → a1 (5 * p + x) = if p = q then ps_row st x else 31) (hz : z1 = z0) (hp : post 1 ()) :
    wL_lawOf_92 post mc ms (nI q) (nI st) x2 x3 x4 x6 x7 x8 z0 z1 kc ks a1 a2 a3 := by
  unfold wL_lawOf_92 wL_lawOf_116
  refine br_t hz (br_f (by rw [e6]; exact ps_10) (br_f (by rw [e7]; exact ps_10) (br_c (fun e => ?_) (fun e => ?_))))
  · refine ps_117 (fun p hp3 e' => Or.inr ⟨rfl, st, hst, rfl, e8, fun x hx => ?_⟩) hp
    have epq : p = q := (nI_eq (by omega) (by omega)).mp (e'.symm.trans e)
    rw [ha p x hp3 hx, if_pos epq]
  · refine ps_117 (fun p hp3 e' => Or.inl ⟨rfl, fun x hx => ?_⟩) hp
    rw [ha p x hp3 hx, if_neg (fun z => e (by rw [e', z]))]
    rfl
theorem ps_62 {post : Int32 → St0 → Prop} {mc ms : Nat} {x0 x1 x2 x3 x4 x6 x7 z0 : Int32} {kc ks : Nat} {a1 a2 a3 : Nat → Int32} (h0 : (x6 = 0 ∧ (x0 < 0 ∨ 2 < x0)) ∨ (x6 = 1 ∧ ∃ p, p < 3 ∧ x0 = nI p)) (hS : ps_S x7 x1)
    (hz : ∀ st, st < 32 → x1 = nI st → z0 = nI (ps_cnt (ps_row st) 32)) (ha : ∀ j, j < 20 → a1 j = 31) (hp : post 1 ()) :
    wL_lawOf_62 post mc ms x0 x1 x2 x3 x4 x6 x7 z0 kc ks a1 a2 a3 := by
  unfold wL_lawOf_62
  rcases h0 with ⟨e6, h0⟩ | ⟨e6, q, hq, e0⟩
  · exact ps_openA h0 (br_t e6 (ps_92a (Or.inl e6) ha rfl hp))
  · have n6 : ¬ x6 = 0 := by rw [e6]; exact ps_10
    rw [e0]
    rcases hS with ⟨e7, h1⟩ | ⟨e7, st, hst, e1⟩
    · exact ps_openB hq h1 (br_f n6 (br_t e7 (ps_92a (Or.inr e7) ha rfl hp)))
    · have n7 : ¬ x7 = 0 := by rw [e7]; exact ps_10
      have ez := hz st hst e1
      rw [e1]
      exact ps_openC hq hst ha (fun b1 hb => br_f n6 (br_f n7 (ps_92b e6 e7 hq hst ez hb ez.symm hp)))
theorem ps_40 {post : Int32 → St0 → Prop} {mc ms : Nat} {x0 x1 x2 x3 x4 x6 z0 : Int32} {kc ks : Nat} {a1 a2 a3 : Nat → Int32} (h0 : (x6 = 0 ∧ (x0 < 0 ∨ 2 < x0)) ∨ (x6 = 1 ∧ ∃ p, p < 3 ∧ x0 = nI p)) (hS : ps_S z0 x1)
    (ha : ∀ j, j < 20 → a1 j = 31) (hp : post 1 ()) : wL_lawOf_40 post mc ms x0 x1 x2 x3 x4 x6 z0 kc ks a1 a2 a3 := by
  unfold wL_lawOf_40 wL_lawOf_61
  refine br_c (fun e => ps_62 h0 hS (fun st hst e1 => ?_) ha hp) (fun e => br_c (fun g => ps_62 h0 hS (fun st hst e1 => ?_) ha hp) (fun g => br_c (fun f => ps_62 h0 hS (fun st hst e1 => ?_) ha hp) (fun f => ps_62 h0 hS (fun st hst e1 => ?_) ha hp)))
  · exfalso
    rcases hS with ⟨_, h⟩ | ⟨h, _⟩
    · rw [e1] at h
      rcases h with h | h
      · exact nI_pos (by omega) h
      · exact nI_nlt (a := 31) (b := st) (by omega) (by decide) h
    · exact ps_10 (h.symm.trans e)
  · have es : st = 0 := (nI_eq (a := st) (b := 0) (by omega) (by omega)).mp (e1.symm.trans g)
    rw [ps_row_cnt st hst, if_pos (Or.inl es)]; rfl
  · have es : st = 31 := (nI_eq (a := st) (b := 31) (by omega) (by omega)).mp (e1.symm.trans f)
    rw [ps_row_cnt st hst, if_pos (Or.inr es)]; rfl
  · have e0 : ¬ st = 0 := fun z => g (by rw [e1, z]; rfl)
    have e3 : ¬ st = 31 := fun z => f (by rw [e1, z]; rfl)
    rw [ps_row_cnt st hst, if_neg (by omega)]; rfl
theorem ps_23 {post : Int32 → St0 → Prop} {mc ms : Nat} {x0 x1 x2 x3 x4 z0 : Int32} {kc ks : Nat} {a1 a2 a3 : Nat → Int32} (h0 : (z0 = 0 ∧ (x0 < 0 ∨ 2 < x0)) ∨ (z0 = 1 ∧ ∃ p, p < 3 ∧ x0 = nI p))
    (ha : ∀ j, j < 20 → a1 j = 31) (hp : post 1 ()) : wL_lawOf_23 post mc ms x0 x1 x2 x3 x4 z0 kc ks a1 a2 a3 := by
  unfold wL_lawOf_23 wL_lawOf_39
  exact br_c (fun h => ps_40 h0 (Or.inl ⟨rfl, Or.inl h⟩) ha hp) (fun h => br_c (fun g => ps_40 h0 (Or.inl ⟨rfl, Or.inr g⟩) ha hp) (fun g => ps_40 h0 (Or.inr ⟨rfl, ps_of31 h g⟩) ha hp))
theorem ps_lawOf {post : Int32 → St0 → Prop} {p0 p1 p2 p3 p4 : Int32} (hp : post 1 ()) : wpL_lawOf post 4 33 () p0 p1 p2 p3 p4 := by
  unfold wpL_lawOf wL_lawOf_22
  refine ⟨by omega, by omega, 3, 30, by omega, by omega, ps_init (fun b1 hb => ?_)⟩
  exact br_c (fun h => ps_23 (Or.inl ⟨rfl, Or.inl h⟩) hb hp) (fun h => br_c (fun g => ps_23 (Or.inl ⟨rfl, Or.inr g⟩) hb hp) (fun g => ps_23 (Or.inr ⟨rfl, ps_of2 h g⟩) hb hp))
theorem ps_cell {post : Int32 → Prop} {L : Nat} {xs : Nat → Int32} (k : Nat) (hL : L ≤ 5) (hk : k < 5) (H : ∀ r, post r) : wpL_cellAt post L xs () (nI k) := by
  unfold wpL_cellAt
  exact pk_le L k (fun _ => H _) (fun h => ⟨pk_in k L h, H _⟩)
theorem i_vc (xs : Nat → Int32) (L : Nat) (hL : L ≤ 5) : wpL_law (fun r => r = 1) L xs := by
  unfold wpL_law
  exact ps_cell 0 hL (by omega) (fun r1 => ps_cell 1 hL (by omega) (fun r2 => ps_cell 2 hL (by omega) (fun r3 => ps_cell 3 hL (by omega) (fun r4 => ps_cell 4 hL (by omega) (fun r5 => ⟨4, 33, by omega, by omega, ps_lawOf rfl⟩)))))
end
