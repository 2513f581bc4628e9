/-! the least and the greatest of some pins of a net -/
def pLo (v : Nat → Int) (f : Nat → Nat × Int × Nat) (n : Nat) : Nat → Int
  | 0 => 1000000
  | m + 1 => if (f m).1 = n then min (pLo v f n m) (v m) else pLo v f n m
def pHi (v : Nat → Int) (f : Nat → Nat × Int × Nat) (n : Nat) : Nat → Int
  | 0 => -1000000
  | m + 1 => if (f m).1 = n then max (pHi v f n m) (v m) else pHi v f n m
def kPf (C : Chp) : Nat → Nat × Int × Nat := (kPins C).2
def kPn (C : Chp) : Nat := (kPins C).1
def kMany (C : Chp) (n : Nat) : Nat := pMany (kPf C) n (kPn C)
def pvX (C : Chp) (p : Nat) : Int := pX C (kPf C p)
def pvY (C : Chp) (p : Nat) : Int := pY C (kPf C p)
def kWire (C : Chp) (n : Nat) : Int := pHi (pvX C) (kPf C) n (kPn C) - pLo (pvX C) (kPf C) n (kPn C) + pHi (pvY C) (kPf C) n (kPn C) - pLo (pvY C) (kPf C) n (kPn C)
theorem min_facts (x y : Int) : min x y ≤ x ∧ min x y ≤ y ∧ (min x y = x ∨ min x y = y) := ⟨Int.min_le_left x y, Int.min_le_right x y, (Int.le_total x y).elim (fun h => .inl (Int.min_eq_left h)) (fun h => .inr (Int.min_eq_right h))⟩
theorem max_facts (x y : Int) : x ≤ max x y ∧ y ≤ max x y ∧ (max x y = x ∨ max x y = y) := ⟨Int.le_max_left x y, Int.le_max_right x y, (Int.le_total x y).elim (fun h => .inr (Int.max_eq_right h)) (fun h => .inl (Int.max_eq_left h))⟩
section LOHI
variable {v : Nat → Int} {f : Nat → Nat × Int × Nat} {n m : Nat}
theorem pLo_none (h : pPrev f n m = -1) : pLo v f n m = 1000000 ∧ pHi v f n m = -1000000 := by
  induction m with
  | zero => exact ⟨rfl, rfl⟩
  | succ m ih =>
    have e : pPrev f n (m + 1) = if (f m).1 = n then (m : Int) else pPrev f n m := rfl
    rw [e] at h
    by_cases q : (f m).1 = n
    · rw [if_pos q] at h; omega
    · rw [if_neg q] at h
      show (if _ then _ else _) = _ ∧ (if _ then _ else _) = _
      rw [if_neg q, if_neg q]; exact ih h
theorem pLo_prev {q : Nat} (h : pPrev f n m = (q : Int)) : pLo v f n m = min (pLo v f n q) (v q) ∧ pHi v f n m = max (pHi v f n q) (v q) := by
  induction m with
  | zero => have : (-1 : Int) = q := h; omega
  | succ m ih =>
    have e : pPrev f n (m + 1) = if (f m).1 = n then (m : Int) else pPrev f n m := rfl
    rw [e] at h
    show (if _ then _ else _) = _ ∧ (if _ then _ else _) = _
    by_cases z : (f m).1 = n
    · rw [if_pos z] at h
      have : m = q := by omega
      subst this
      rw [if_pos z, if_pos z]; exact ⟨rfl, rfl⟩
    · rw [if_neg z] at h ⊢
      rw [if_neg z]; exact ih h
theorem pLo_rng {a b : Int} (h : ∀ p, p < m → a ≤ v p ∧ v p ≤ b) (ha : -1000000 ≤ a) (hb : b ≤ 1000000) : (a ≤ pLo v f n m ∨ b < a) ∧ pLo v f n m ≤ 1000000 ∧ (pHi v f n m ≤ b ∨ b < a) ∧ -1000000 ≤ pHi v f n m ∧ (pMany f n m ≠ 0 → pLo v f n m ≤ b ∧ a ≤ pHi v f n m ∧ pLo v f n m ≤ pHi v f n m) := by
  induction m with
  | zero => exact ⟨by show a ≤ (1000000 : Int) ∨ _; omega, Int.le_refl _, by show (-1000000 : Int) ≤ b ∨ _; omega, Int.le_refl _, fun g => absurd rfl g⟩
  | succ m ih =>
    have i := ih (fun p hp => h p (by omega))
    have hm := h m (by omega)
    show (a ≤ (if _ then _ else _) ∨ _) ∧ (if _ then _ else _) ≤ (1000000 : Int) ∧ ((if _ then _ else _) ≤ b ∨ _) ∧ (-1000000 : Int) ≤ (if _ then _ else _) ∧ (pMany f n m + (if _ then _ else _) ≠ 0 → (if _ then _ else _) ≤ b ∧ a ≤ (if _ then _ else _) ∧ (if _ then _ else _) ≤ (if _ then _ else _ : Int))
    by_cases q : (f m).1 = n
    · simp only [if_pos q]
      have e1 := min_facts (pLo v f n m) (v m)
      have e2 := max_facts (pHi v f n m) (v m)
      generalize min (pLo v f n m) (v m) = x at e1 ⊢
      generalize max (pHi v f n m) (v m) = y at e2 ⊢
      by_cases z : pMany f n m = 0
      · omega
      · have := i.2.2.2.2 z; omega
    · simp only [if_neg q]
      exact ⟨i.1, i.2.1, i.2.2.1, i.2.2.2.1, fun g => i.2.2.2.2 (by omega)⟩
end LOHI
/-- where pins stand when a chip has places -/
theorem pXY_rng {C : Chp} (w : WFC C) (wp : WFP C) (h0 : C 16 0 ≠ 0) {p : Nat} (hp : p < kPn C) : 0 ≤ pvX C p ∧ pvX C p < (kS C + 2 : Nat) ∧ 0 ≤ pvY C p ∧ pvY C p < kH C := by
  have ok := (kPins_ok w).1 p hp
  have p1 := wp.1
  have w1 := w.1
  have wi := w.i
  have wo := w.o
  have hH : kH C = max (3 * C 16 0 + 2) (max (C 0 0) (C 2 0)) := by unfold kH; rw [if_neg h0]
  have hS : ((kS C + 2 : Nat) : Int) = C 15 0 + 2 := by unfold kS; omega
  rw [hH, hS]
  unfold pvX pvY pX pY kPf
  rcases ok.2 with ⟨q1, q2⟩ | ⟨q1, q2⟩ | ⟨q1, q2, q3⟩
  · rw [q1, if_pos rfl, if_pos (by omega)]; omega
  · rw [q1, if_neg (by omega), if_pos rfl, if_pos (by omega)]; omega
  · rw [if_neg (by omega), if_neg (by omega), if_neg (by omega)]
    have := wp.2.1 h0 ((kPins C).2 p).2.1.toNat (by omega)
    omega
theorem kS_le {C : Chp} (wp : WFP C) : kS C ≤ 60 := by have := wp.1; unfold kS; omega
theorem kH_le {C : Chp} (w : WFC C) (wp : WFP C) : 0 ≤ kH C ∧ kH C ≤ 38 := by
  have := wp.1; have := w.1; unfold kH; split <;> omega
theorem kWire_rng {C : Chp} (w : WFC C) (wp : WFP C) (h0 : C 16 0 ≠ 0) (n : Nat) (hm : kMany C n ≠ 0) : 0 ≤ kWire C n ∧ kWire C n ≤ 100 := by
  have hs := kS_le wp
  have hh := kH_le w wp
  have a := (pLo_rng (v := pvX C) (f := kPf C) (n := n) (m := kPn C) (a := 0) (b := 61) (fun p hp => by have := pXY_rng w wp h0 hp; omega) (by omega) (by omega)).2.2.2.2 hm
  have b := (pLo_rng (v := pvY C) (f := kPf C) (n := n) (m := kPn C) (a := 0) (b := 37) (fun p hp => by have := pXY_rng w wp h0 hp; omega) (by omega) (by omega)).2.2.2.2 hm
  have a1 := (pLo_rng (v := pvX C) (f := kPf C) (n := n) (m := kPn C) (a := 0) (b := 61) (fun p hp => by have := pXY_rng w wp h0 hp; omega) (by omega) (by omega))
  have b1 := (pLo_rng (v := pvY C) (f := kPf C) (n := n) (m := kPn C) (a := 0) (b := 37) (fun p hp => by have := pXY_rng w wp h0 hp; omega) (by omega) (by omega))
  unfold kWire
  omega
/-! each net has a pin -/
theorem pMany_mono {f : Nat → Nat × Int × Nat} {n m m' : Nat} (h : m ≤ m') : pMany f n m ≤ pMany f n m' := by
  induction m' with
  | zero => have : m = 0 := by omega
            subst this; exact Nat.le_refl _
  | succ m' ih =>
    by_cases e : m = m' + 1
    · subst e; exact Nat.le_refl _
    · exact Nat.le_trans (ih (by omega)) (Nat.le_add_right _ _)
def pHas (s : Pst) (n : Nat) : Prop := pMany s.2 n s.1 ≠ 0
theorem pHas_add {s : Pst} {n : Nat} {net o : Int} {j : Nat} (h : pHas s n ∨ net = (n : Int)) : pHas (pAdd s net o j) n := by
  unfold pHas pAdd
  by_cases q : net < 0
  · rw [if_pos q]
    rcases h with h | h
    · exact h
    · omega
  · rw [if_neg q]
    show pMany (updN s.2 s.1 (net.toNat, o, j)) n s.1 + (if (updN s.2 s.1 (net.toNat, o, j) s.1).1 = n then 1 else 0) ≠ 0
    rw [updN_eq, pMany_cg (g := s.2) (fun p hp => updN_ne (by omega))]
    rcases h with h | h
    · unfold pHas at h; omega
    · show _ + (if net.toNat = n then 1 else 0) ≠ 0
      rw [if_pos (by omega)]; omega
theorem pHas_ins {n : Nat} : ∀ i, n < i → pHas (pIns i) n := by
  intro i
  induction i with
  | zero => intro h; omega
  | succ i ih =>
    intro h
    refine pHas_add ?_
    by_cases e : n = i
    · exact .inr (by omega)
    · exact .inl (ih (by omega))
theorem pHas_outs {C : Chp} {n : Nat} (h : pHas (pIns (kI C)) n) : ∀ i, pHas (pOuts C i) n := by
  intro i
  induction i with
  | zero => exact h
  | succ i ih => exact pHas_add (.inl ih)
theorem pHas_el {C : Chp} {n : Nat} {s : Pst} {e : Nat} : ∀ i, (pHas s n ∨ ∃ j, j < i ∧ kNp C e j = (n : Int)) → pHas (pEl C s e i) n := by
  intro i
  induction i with
  | zero => rintro (h | ⟨j, h, _⟩); exact h; omega
  | succ i ih =>
    rintro (h | ⟨j, h1, h2⟩)
    · exact pHas_add (.inl (ih (.inl h)))
    · by_cases e : j = i
      · subst e; exact pHas_add (.inr h2)
      · exact pHas_add (.inl (ih (.inr ⟨j, by omega, h2⟩)))
theorem pHas_els {C : Chp} {n : Nat} : ∀ i, (pHas (pOuts C (kO C)) n ∨ ∃ e j, e < i ∧ j < kSz C e ∧ kNp C e j = (n : Int)) → pHas (pEls C i) n := by
  intro i
  induction i with
  | zero => rintro (h | ⟨e, j, h, _⟩); exact h; omega
  | succ i ih =>
    rintro (h | ⟨e, j, h1, h2, h3⟩)
    · exact pHas_el _ (.inl (ih (.inl h)))
    · by_cases q : e = i
      · subst q; exact pHas_el _ (.inr ⟨j, h2, h3⟩)
      · exact pHas_el _ (.inl (ih (.inr ⟨e, j, by omega, h2, h3⟩)))
theorem kMany_pos {C : Chp} (w : WFC C) {n : Nat} (h : n < kN C) : kMany C n ≠ 0 := by
  have hn := w.nums
  show pHas (pEls C (kE C)) n
  refine pHas_els _ ?_
  by_cases q : n < kI C
  · exact .inl (pHas_outs (pHas_ins _ q) _)
  · by_cases z : n < kB C
    · refine .inr ⟨n - kI C, 1, by unfold kE; omega, by unfold kSz; rw [if_pos (by omega)]; omega, ?_⟩
      unfold kNp; rw [if_pos (by omega), if_pos rfl]; omega
    · refine .inr ⟨kR C + (n - kB C), kAr C (n - kB C), by unfold kE; omega, ?_, ?_⟩
      · unfold kSz; rw [if_neg (by omega), show kR C + (n - kB C) - kR C = n - kB C by omega]; omega
      · unfold kNp; rw [if_neg (by omega), show kR C + (n - kB C) - kR C = n - kB C by omega, if_pos rfl]; omega
theorem kMany_le {C : Chp} (w : WFC C) {n : Nat} : kMany C n ≤ 640 := Nat.le_trans pMany_le (kPins_ok w).2
