/-! rows of code of the class -/
def okCap (v : Int) : Prop := ∃ k : Nat, k ≤ 5 ∧ v = ((256 * 2 ^ k : Nat) : Int)
theorem okCap.rng {v : Int} (h : okCap v) : 256 ≤ v ∧ v ≤ 8192 := by
  obtain ⟨k, hk, rfl⟩ := h
  have h1 : 2 ^ k ≤ 2 ^ 5 := Nat.pow_le_pow_right (by omega) hk
  have h2 : 0 < 2 ^ k := Nat.two_pow_pos k
  omega
/-- a row of ints that grows: its cells, its room -/
def RwK (S : Sto) (a : Nat) (l : List Int) : Prop := gI S a 1 = (l.length : Int) ∧ (∀ i, i < l.length → gI S (a + 1) i = l.getD i 0) ∧ okCap (gI S a 2) ∧ (l.length : Int) ≤ gI S a 2
/-- what a growing row may change: its cells, its size and room; how much is made -/
def GrK (a : Nat) (S z : Sto) : Prop := (∀ b i, b ≠ a + 1 → ¬ (b = a ∧ (i = 1 ∨ i = 2)) → gI z b i = gI S b i) ∧ (∀ b i, gL z b i = gL S b i) ∧ (∀ b i, ¬ (b = a ∧ i = 0) → gR z b i = gR S b i) ∧ nC S ≤ nC z ∧ gI z a 2 = gI S a 2 * ((2 ^ (nC z - nC S) : Nat) : Int) ∧ (nS z : Int) = nS S + 2 * (gI z a 2 - gI S a 2)
section RWK
variable {S z y : Sto} {a : Nat} {l : List Int} {v : Int}
theorem GrK.refl : GrK a S S := ⟨fun _ _ _ _ => rfl, fun _ _ => rfl, fun _ _ _ => rfl, Nat.le_refl _, by rw [Nat.sub_self]; show _ = _ * 1; omega, by omega⟩
theorem GrK.tr (h : GrK a S z) (g : GrK a z y) : GrK a S y := by
  obtain ⟨h1, h2, h3, h4, h5, h6⟩ := h
  obtain ⟨g1, g2, g3, g4, g5, g6⟩ := g
  refine ⟨fun b i q1 q2 => (g1 b i q1 q2).trans (h1 b i q1 q2), fun b i => (g2 b i).trans (h2 b i), fun b i q => (g3 b i q).trans (h3 b i q), Nat.le_trans h4 g4, ?_, by omega⟩
  rw [g5, h5, Int.mul_assoc, ← Int.natCast_mul, ← Nat.pow_add, show nC z - nC S + (nC y - nC z) = nC y - nC S by omega]
theorem app_d {w : Int} {i : Nat} : (l ++ [w]).getD i 0 = if i = l.length then w else l.getD i 0 := by
  rw [List.getD_eq_getElem?_getD, List.getD_eq_getElem?_getD]
  by_cases g : i < l.length
  · rw [List.getElem?_append_left g, if_neg (by omega)]
  · rw [List.getElem?_append_right (by omega)]
    by_cases e : i = l.length
    · rw [if_pos e, e, Nat.sub_self]; rfl
    · rw [if_neg e, List.getElem?_eq_none (show l.length ≤ i by omega)]
      have : ([w] : List Int)[i - l.length]? = none := List.getElem?_eq_none (by show 1 ≤ _; omega)
      rw [this]
theorem gI_grow {n b i : Nat} : gI (rGrow S a n) b i = if b = a + 1 ∧ n ≤ i then 0 else if b = a ∧ i = 2 then w32 (2 * n) else gI S b i := by
  show (if b = a + 1 ∧ n ≤ i then (0 : Int32) else if b = a ∧ i = 2 then Int32.ofInt (2 * n) else S.1 b i).toInt = _
  split
  · rfl
  · split
    · rfl
    · rfl
/-- an int is put behind -/
theorem k_radd (h : RwK S a l) (hl : l.length < 8192) (hv : -2147483648 ≤ v ∧ v < 2147483648) (hC : nC S ≤ 900000) (hS : nS S ≤ 6000000) : WP (mX6_add S a v) (fun z => RwK z a (l ++ [v]) ∧ GrK a S z) := by
  obtain ⟨h1, h2, h3, h4⟩ := h
  have hr := h3.rng
  unfold mX6_add
  refine WP_call (R := fun z => gI z a 1 = (l.length : Int) ∧ (∀ i, i < l.length → gI z (a + 1) i = l.getD i 0) ∧ okCap (gI z a 2) ∧ (l.length : Int) < gI z a 2 ∧ GrK a S z) ?_ (fun z hz => ?_)
  · unfold mX6_grow
    by_cases e : gI S a 1 = gI S a 2
    · have hc : cCB = 939359 := rfl
      have hs : cSB = 6273932 := rfl
      rw [if_pos e, if_pos ⟨by omega, by omega, by omega, by omega⟩, h1, Int.toNat_natCast]
      obtain ⟨k, hk, ek⟩ := h3
      have hk5 : k < 5 := by
        by_cases q : k = 5
        · subst q
          have : (256 * 2 ^ 5 : Nat) = 8192 := rfl
          omega
        · omega
      have el : l.length = 256 * 2 ^ k := by omega
      have e2 : gI (rGrow S a l.length) a 2 = 2 * (l.length : Int) := by
        rw [gI_grow, if_neg (by omega), if_pos ⟨rfl, rfl⟩, w32_id (by omega)]
      refine WP_some.2 ⟨?_, fun i hi => ?_, ⟨k + 1, by omega, ?_⟩, by omega, fun b i q1 q2 => ?_, fun _ _ => rfl, fun b i q => ?_, ?_, ?_, ?_⟩
      · rw [gI_grow, if_neg (by omega), if_neg (by omega)]; exact h1
      · rw [gI_grow, if_neg (by omega), if_neg (by omega)]; exact h2 i hi
      · rw [e2, el, Nat.pow_succ]; omega
      · rw [gI_grow, if_neg (by omega), if_neg (by omega)]
      · show (if b = a ∧ i = 0 then nC S else S.2.2.1 b i) = _
        rw [if_neg q]; rfl
      · show nC S ≤ nC S + 1; omega
      · rw [e2, ← h1, e]
        show _ = _ * ((2 ^ (nC S + 1 - nC S) : Nat) : Int)
        rw [Nat.add_sub_cancel_left]; omega
      · rw [e2]
        show ((nS S + 2 * l.length : Nat) : Int) = _
        omega
    · rw [if_neg e]
      exact WP_some.2 ⟨h1, h2, h3, by omega, GrK.refl⟩
  · obtain ⟨z1, z2, z3, z4, z5⟩ := hz
    rw [if_pos ⟨by omega, by omega⟩, z1, Int.toNat_natCast]
    generalize hx : sI (sI z a 1 ((l.length : Int) + 1)) (a + 1) l.length v = x
    have x2 : gI x a 2 = gI z a 2 := by rw [← hx, hI_sI_a (by omega), hI_sI_i (by decide)]
    refine WP_some.2 ⟨⟨?_, fun i hi => ?_, by rw [x2]; exact z3, ?_⟩, z5.tr ⟨fun b i q1 q2 => ?_, fun b i => ?_, fun b i _ => ?_, ?_, ?_, ?_⟩⟩
    · rw [← hx, hI_sI_a (by omega), gI_sI_eq, List.length_append, w32_id (by omega)]; rfl
    · rw [← hx, hI_sI, app_d]
      by_cases g : i = l.length
      · rw [if_pos ⟨rfl, g⟩, if_pos g, w32_id hv]
      · rw [if_neg (fun q => g q.2), if_neg g, hI_sI_a (by omega)]
        rw [List.length_append] at hi
        simp only [List.length] at hi
        exact z2 i (by omega)
    · rw [x2, List.length_append]; show ((l.length + 1 : Nat) : Int) ≤ _; omega
    · rw [← hx, hI_sI_a q1, hI_sI, if_neg (fun q => q2 ⟨q.1, Or.inl q.2⟩)]
    · rw [← hx, gL_sI, gL_sI]
    · rw [← hx]; rfl
    · rw [← hx]; exact Nat.le_refl _
    · rw [x2, ← hx]
      show _ = _ * ((2 ^ (nC z - nC z) : Nat) : Int)
      rw [Nat.sub_self]; show _ = _ * 1; omega
    · rw [x2, ← hx]
      show ((nS z : Nat) : Int) = _
      omega
/-- rows of three -/
def flat3 : List Row3 → List Int
  | [] => []
  | r :: l => r.1 :: r.2.1 :: r.2.2 :: flat3 l
theorem flat3_app : ∀ (k m : List Row3), flat3 (k ++ m) = flat3 k ++ flat3 m
  | [], m => rfl
  | r :: k, m => by show r.1 :: r.2.1 :: r.2.2 :: flat3 (k ++ m) = _; rw [flat3_app k m]; rfl
theorem flat3_len : ∀ (k : List Row3), (flat3 k).length = 3 * k.length
  | [] => rfl
  | r :: k => by show (flat3 k).length + 1 + 1 + 1 = 3 * (k.length + 1); rw [flat3_len k]; omega
def w3ok (r : Row3) : Prop := (-2147483648 ≤ r.1 ∧ r.1 < 2147483648) ∧ (-2147483648 ≤ r.2.1 ∧ r.2.1 < 2147483648) ∧ (-2147483648 ≤ r.2.2 ∧ r.2.2 < 2147483648)
theorem GrK.c (g : GrK a S z) (h : okCap (gI S a 2)) (h2 : okCap (gI z a 2)) : nC z ≤ nC S + 5 ∧ nS z ≤ nS S + 16000 := by
  obtain ⟨g1, g2, g3, g4, g5, g6⟩ := g
  have r1 := h.rng
  have r2 := h2.rng
  refine ⟨?_, by omega⟩
  refine Classical.byContradiction (fun q => ?_)
  have h3 : 2 ^ 6 ≤ 2 ^ (nC z - nC S) := Nat.pow_le_pow_right (by omega) (by omega)
  have h4 : gI S a 2 * (64 : Int) ≤ gI S a 2 * ((2 ^ (nC z - nC S) : Nat) : Int) := Int.mul_le_mul_of_nonneg_left (by omega) (by omega)
  omega
theorem k_radd3 {k : List Row3} {r : Row3} (h : RwK S a (flat3 k)) (hl : k.length ≤ 2700) (hr : w3ok r) (hC : nC S ≤ 899000) (hS : nS S ≤ 5900000) : WP (bX (mX6_add S a r.1) fun x1 => bX (mX6_add x1 a r.2.1) fun x2 => bX (mX6_add x2 a r.2.2) fun x3 => some x3) (fun z => RwK z a (flat3 (k ++ [r])) ∧ GrK a S z) := by
  have e := flat3_len k
  refine WP_call (k_radd h (by omega) hr.1 (by omega) (by omega)) (fun x1 hx1 => ?_)
  obtain ⟨a1, a2⟩ := hx1
  have c1 := a2.c h.2.2.1 a1.2.2.1
  refine WP_call (k_radd a1 (by rw [List.length_append]; show _ + 1 < _; omega) hr.2.1 (by omega) (by omega)) (fun x2 hx2 => ?_)
  obtain ⟨b1, b2⟩ := hx2
  have c2 := b2.c a1.2.2.1 b1.2.2.1
  refine WP_call (k_radd b1 (by rw [List.length_append, List.length_append]; show _ + 1 + 1 < _; omega) hr.2.2 (by omega) (by omega)) (fun x3 hx3 => ?_)
  obtain ⟨d1, d2⟩ := hx3
  refine WP_some.2 ⟨?_, (a2.tr b2).tr d2⟩
  rw [flat3_app]
  rw [List.append_assoc, List.append_assoc] at d1
  exact d1
theorem k_put3 {k : List Row3} {p q r : Int} (h : RwK S 170 (flat3 k)) (hl : k.length ≤ 2700) (hr : w3ok (p, q, r)) (hC : nC S ≤ 899000) (hS : nS S ≤ 5900000) : WP (mX5_put S p q r) (fun z => RwK z 170 (flat3 (k ++ [(p, q, r)])) ∧ GrK 170 S z) := by
  unfold mX5_put
  exact k_radd3 h hl hr hC hS
end RWK
