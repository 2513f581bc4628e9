/-! the grid: neighbours, kept points, prices, ways -/
noncomputable def cI (p : Prop) (a b : Int) : Int := @ite Int p (Classical.propDecidable p) a b
theorem cI_t {p : Prop} {a b : Int} (h : p) : cI p a b = a := if_pos h
theorem cI_f {p : Prop} {a b : Int} (h : ¬ p) : cI p a b = b := if_neg h
theorem cI_cg {p q : Prop} {a b : Int} (h : p ↔ q) : cI p a b = cI q a b := by rw [propext h]
def nxF (C : Chp) (p j : Nat) : Int :=
  if j = 0 then (if p < kLy C ∧ p % kW C ≠ 0 then (p : Int) - 1 else -1)
  else if j = 1 then (if p < kLy C ∧ p % kW C ≠ kW C - 1 then (p : Int) + 1 else -1)
  else if j = 2 then (if kLy C ≤ p ∧ (p - kLy C) / kW C ≠ 0 then (p : Int) - (kW C : Int) else -1)
  else if j = 3 then (if kLy C ≤ p ∧ (p - kLy C) / kW C ≠ kHn C - 1 then (p : Int) + (kW C : Int) else -1)
  else (if kLy C ≤ p then (p : Int) - (kLy C : Int) else (p : Int) + (kLy C : Int))
theorem dm_lt {x W H : Nat} (h : x < W * H) : x / W < H ∧ 0 < W ∧ x % W < W ∧ W * (x / W) + x % W = x := by
  have hW : 0 < W := Nat.pos_of_ne_zero (fun e => by rw [e, Nat.zero_mul] at h; omega)
  exact ⟨Nat.div_lt_of_lt_mul h, hW, Nat.mod_lt _ hW, Nat.div_add_mod _ _⟩
theorem mul_up {W a H : Nat} (h : a ≤ H) : W * a ≤ W * H := Nat.mul_le_mul_left W h
theorem kLy_eq (C : Chp) : kLy C = kW C * kHn C := rfl
/-- what a step is -/
def stK (C : Chp) (p q : Nat) : Nat := if max p q - min p q = kLy C then 4 else if max p q - min p q = 1 then 1 else 2
section GRID
variable {C : Chp} {p : Nat}
/-- places of neighbours, each in its direction -/
theorem nxF_cases (hp : p < 2 * kLy C) {j q : Nat} (hj : j < 5) (h : nxF C p j = (q : Int)) :
    (j = 0 ∧ p < kLy C ∧ q + 1 = p ∧ q % kW C + 1 < kW C ∧ p % kW C ≠ 0) ∨ (j = 1 ∧ q < kLy C ∧ q = p + 1 ∧ p % kW C + 1 < kW C ∧ q % kW C ≠ 0) ∨
    (j = 2 ∧ kLy C ≤ q ∧ q + kW C = p ∧ (q - kLy C) / kW C ≠ kHn C - 1 ∧ 2 ≤ kHn C) ∨ (j = 3 ∧ kLy C ≤ p ∧ q = p + kW C ∧ q < 2 * kLy C ∧ (q - kLy C) / kW C ≠ 0 ∧ 2 ≤ kHn C) ∨ (j = 4 ∧ ((kLy C ≤ p ∧ q + kLy C = p ∧ q < kLy C) ∨ (p < kLy C ∧ q = p + kLy C))) := by
  have e := kLy_eq C
  unfold nxF at h
  by_cases j0 : j = 0
  · rw [if_pos j0] at h
    by_cases g : p < kLy C ∧ p % kW C ≠ 0
    · rw [if_pos g] at h
      obtain ⟨g1, g2, g3, g4⟩ := dm_lt (e ▸ g.1)
      have hq : q + 1 = p := by omega
      refine .inl ⟨j0, g.1, hq, ?_, g.2⟩
      have : q = kW C * (p / kW C) + (p % kW C - 1) := by omega
      rw [this, Nat.mul_add_mod, Nat.mod_eq_of_lt (by omega)]; omega
    · rw [if_neg g] at h; omega
  · rw [if_neg j0] at h
    by_cases j1 : j = 1
    · rw [if_pos j1] at h
      by_cases g : p < kLy C ∧ p % kW C ≠ kW C - 1
      · rw [if_pos g] at h
        obtain ⟨g1, g2, g3, g4⟩ := dm_lt (e ▸ g.1)
        have hq : q = p + 1 := by omega
        have m := mul_up (W := kW C) (show p / kW C + 1 ≤ kHn C by omega)
        rw [Nat.mul_succ] at m
        refine .inr (.inl ⟨j1, by omega, hq, by omega, ?_⟩)
        have : q = kW C * (p / kW C) + (p % kW C + 1) := by omega
        rw [this, Nat.mul_add_mod, Nat.mod_eq_of_lt (by omega)]; omega
      · rw [if_neg g] at h; omega
    · rw [if_neg j1] at h
      by_cases j2 : j = 2
      · rw [if_pos j2] at h
        by_cases g : kLy C ≤ p ∧ (p - kLy C) / kW C ≠ 0
        · rw [if_pos g] at h
          obtain ⟨g1, g2, g3, g4⟩ := dm_lt (x := p - kLy C) (W := kW C) (H := kHn C) (by omega)
          obtain ⟨ga, gb⟩ := g
          have m := mul_up (W := kW C) (Nat.pos_of_ne_zero gb)
          rw [Nat.mul_succ, Nat.mul_zero] at m
          have hq : q + kW C = p := by omega
          have eq1 : p - kLy C = (q - kLy C) + kW C := by omega
          have e2 : (p - kLy C) / kW C = (q - kLy C) / kW C + 1 := by rw [eq1, Nat.add_div_right _ g2]
          generalize (p - kLy C) / kW C = a at *
          generalize (q - kLy C) / kW C = b at *
          exact .inr (.inr (.inl ⟨j2, by omega, hq, by omega, by omega⟩))
        · rw [if_neg g] at h; omega
      · rw [if_neg j2] at h
        by_cases j3 : j = 3
        · rw [if_pos j3] at h
          by_cases g : kLy C ≤ p ∧ (p - kLy C) / kW C ≠ kHn C - 1
          · rw [if_pos g] at h
            obtain ⟨g1, g2, g3, g4⟩ := dm_lt (x := p - kLy C) (W := kW C) (H := kHn C) (by omega)
            obtain ⟨ga, gb⟩ := g
            have hq : q = p + kW C := by omega
            have eq1 : q - kLy C = (p - kLy C) + kW C := by omega
            have e2 : (q - kLy C) / kW C = (p - kLy C) / kW C + 1 := by rw [eq1, Nat.add_div_right _ g2]
            generalize (p - kLy C) / kW C = a at *
            generalize (q - kLy C) / kW C = b at *
            have m := mul_up (W := kW C) (show a + 1 + 1 ≤ kHn C by omega)
            rw [Nat.mul_succ, Nat.mul_succ] at m
            exact .inr (.inr (.inr (.inl ⟨j3, ga, hq, by omega, by omega, by omega⟩)))
          · rw [if_neg g] at h; omega
        · rw [if_neg j3] at h
          have j4 : j = 4 := by omega
          refine .inr (.inr (.inr (.inr ⟨j4, ?_⟩)))
          by_cases g : kLy C ≤ p
          · rw [if_pos g] at h; exact .inl ⟨g, by omega, by omega⟩
          · rw [if_neg g] at h; exact .inr ⟨by omega, by omega⟩
theorem nxF_rng (hp : p < 2 * kLy C) {j : Nat} (hj : j < 5) : nxF C p j = -1 ∨ ∃ q : Nat, nxF C p j = (q : Int) ∧ q < 2 * kLy C ∧ q ≠ p := by
  have e := kLy_eq C
  by_cases h : nxF C p j = -1
  · exact .inl h
  · have nn : 0 ≤ nxF C p j := by
      unfold nxF at h ⊢
      by_cases j0 : j = 0
      · rw [if_pos j0] at h ⊢
        by_cases g : p < kLy C ∧ p % kW C ≠ 0
        · rw [if_pos g]
          have : p ≠ 0 := fun e => by rw [e, Nat.zero_mod] at g; exact g.2 rfl
          omega
        · rw [if_neg g] at h; exact absurd rfl h
      · rw [if_neg j0] at h ⊢
        by_cases j1 : j = 1
        · rw [if_pos j1] at h ⊢
          by_cases g : p < kLy C ∧ p % kW C ≠ kW C - 1
          · rw [if_pos g]; omega
          · rw [if_neg g] at h; exact absurd rfl h
        · rw [if_neg j1] at h ⊢
          by_cases j2 : j = 2
          · rw [if_pos j2] at h ⊢
            by_cases g : kLy C ≤ p ∧ (p - kLy C) / kW C ≠ 0
            · rw [if_pos g]
              obtain ⟨g1, g2, g3, g4⟩ := dm_lt (x := p - kLy C) (W := kW C) (H := kHn C) (by omega)
              have m := mul_up (W := kW C) (Nat.pos_of_ne_zero g.2)
              rw [Nat.mul_succ, Nat.mul_zero] at m
              omega
            · rw [if_neg g] at h; exact absurd rfl h
          · rw [if_neg j2] at h ⊢
            by_cases j3 : j = 3
            · rw [if_pos j3] at h ⊢
              by_cases g : kLy C ≤ p ∧ (p - kLy C) / kW C ≠ kHn C - 1
              · rw [if_pos g]; omega
              · rw [if_neg g] at h; exact absurd rfl h
            · rw [if_neg j3] at h ⊢
              by_cases g : kLy C ≤ p
              · rw [if_pos g]; omega
              · rw [if_neg g]; omega
    obtain ⟨q, hq⟩ : ∃ q : Nat, nxF C p j = (q : Int) := ⟨(nxF C p j).toNat, by omega⟩
    have W2 : 2 ≤ kW C := by show 2 ≤ kS C + 2; omega
    rcases nxF_cases hp hj hq with c | c | c | c | c <;> exact .inr ⟨q, hq, by omega, by omega⟩
/-- neighbours are neighbours of each other -/
theorem nxF_sym (hp : p < 2 * kLy C) {j q : Nat} (hj : j < 5) (h : nxF C p j = (q : Int)) : ∃ i, i < 5 ∧ nxF C q i = (p : Int) := by
  rcases nxF_cases hp hj h with c | c | c | c | c
  · refine ⟨1, by omega, ?_⟩
    unfold nxF
    rw [if_neg (by omega), if_pos rfl, if_pos ⟨by omega, by omega⟩]; omega
  · refine ⟨0, by omega, ?_⟩
    unfold nxF
    rw [if_pos rfl, if_pos ⟨by omega, c.2.2.2.2⟩]; omega
  · refine ⟨3, by omega, ?_⟩
    unfold nxF
    rw [if_neg (by omega), if_neg (by omega), if_neg (by omega), if_pos rfl, if_pos ⟨by omega, c.2.2.2.1⟩]; omega
  · refine ⟨2, by omega, ?_⟩
    unfold nxF
    rw [if_neg (by omega), if_neg (by omega), if_pos rfl, if_pos ⟨by omega, c.2.2.2.2.1⟩]; omega
  · refine ⟨4, by omega, ?_⟩
    unfold nxF
    rw [if_neg (by omega), if_neg (by omega), if_neg (by omega), if_neg (by omega)]
    rcases c.2 with c | c
    · rw [if_neg (by omega)]; omega
    · rw [if_pos (by omega)]; omega
/-- the steps that there are -/
theorem stK_cases (hp : p < 2 * kLy C) {j q : Nat} (hj : j < 5) (h : nxF C p j = (q : Int)) :
    (stK C p q = 1 ∧ max p q = min p q + 1 ∧ min p q + 1 < kLy C ∧ min p q % kW C + 1 < kW C) ∨ (stK C p q = 2 ∧ kLy C ≤ min p q ∧ max p q = min p q + kW C ∧ max p q < 2 * kLy C) ∨ (stK C p q = 4 ∧ min p q < kLy C ∧ max p q = min p q + kLy C) := by
  have e := kLy_eq C
  have W2 : 2 ≤ kW C := by show 2 ≤ kS C + 2; omega
  have LyW : 0 < kHn C → kW C ≤ kLy C := fun g => by
    have m := mul_up (W := kW C) (show 1 ≤ kHn C from g)
    rw [Nat.mul_one] at m; omega
  have LyW2 : 2 ≤ kHn C → 2 * kW C ≤ kLy C := fun g => by
    have m := mul_up (W := kW C) g
    omega
  have H0 : p < kLy C → 0 < kHn C := fun g => Nat.pos_of_ne_zero (fun z => by rw [e, z, Nat.mul_zero] at g; omega)
  unfold stK
  rcases nxF_cases hp hj h with c | c | c | c | c
  · have := LyW (H0 c.2.1)
    have m1 : max p q = p := Nat.max_eq_left (by omega)
    have m2 : min p q = q := Nat.min_eq_right (by omega)
    rw [m1, m2, if_neg (by omega), if_pos (by omega)]
    exact .inl ⟨rfl, by omega, by omega, by omega⟩
  · have := LyW (H0 (show p < kLy C by omega))
    have m1 : max p q = q := Nat.max_eq_right (by omega)
    have m2 : min p q = p := Nat.min_eq_left (by omega)
    rw [m1, m2, if_neg (by omega), if_pos (by omega)]
    exact .inl ⟨rfl, by omega, by omega, by omega⟩
  · have := LyW2 c.2.2.2.2
    have m1 : max p q = p := Nat.max_eq_left (by omega)
    have m2 : min p q = q := Nat.min_eq_right (by omega)
    rw [m1, m2, if_neg (by omega), if_neg (by omega)]
    exact .inr (.inl ⟨rfl, by omega, by omega, by omega⟩)
  · have := LyW2 c.2.2.2.2.2
    have m1 : max p q = q := Nat.max_eq_right (by omega)
    have m2 : min p q = p := Nat.min_eq_left (by omega)
    rw [m1, m2, if_neg (by omega), if_neg (by omega)]
    exact .inr (.inl ⟨rfl, by omega, by omega, by omega⟩)
  · rcases c.2 with c | c
    · have m1 : max p q = p := Nat.max_eq_left (by omega)
      have m2 : min p q = q := Nat.min_eq_right (by omega)
      rw [m1, m2, if_pos (by omega)]
      exact .inr (.inr ⟨rfl, by omega, by omega⟩)
    · have m1 : max p q = q := Nat.max_eq_right (by omega)
      have m2 : min p q = p := Nat.min_eq_left (by omega)
      rw [m1, m2, if_pos (by omega)]
      exact .inr (.inr ⟨rfl, by omega, by omega⟩)
/-- where a pin stands, as a number -/
def pp (C : Chp) (i : Nat) : Nat := (pvY C i).toNat * kW C + (pvX C i).toNat
theorem pp_lt (w : WFC C) (wp : WFP C) (h0 : C 16 0 ≠ 0) {i : Nat} (hi : i < kPn C) : pp C i < kLy C ∧ (pp C i : Int) = pvY C i * (kW C : Int) + pvX C i ∧ pp C i / kW C = (pvY C i).toNat ∧ pp C i % kW C = (pvX C i).toNat := by
  have r := pXY_rng w wp h0 hi
  have e := kLy_eq C
  have hx : (pvX C i).toNat < kW C := by show _ < kS C + 2; omega
  have hy : (pvY C i).toNat < kHn C := by show _ < (kH C).toNat; omega
  have m := mul_up (W := kW C) (show (pvY C i).toNat + 1 ≤ kHn C by omega)
  rw [Nat.mul_succ] at m
  have c : (pvY C i).toNat * kW C = kW C * (pvY C i).toNat := Nat.mul_comm _ _
  refine ⟨by unfold pp; omega, ?_, ?_, ?_⟩
  · unfold pp
    rw [Int.natCast_add, Int.natCast_mul, Int.toNat_of_nonneg (by omega), Int.toNat_of_nonneg (by omega)]
  · unfold pp
    rw [c, Nat.mul_add_div (by omega), Nat.div_eq_of_lt hx]; omega
  · unfold pp
    rw [c, Nat.mul_add_mod, Nat.mod_eq_of_lt hx]
/-- pins are told by owner and number -/
def PNt (C : Chp) (s : Pst) : Prop := ∀ p, p < s.1 → ((s.2 p).1 : Int) = if (s.2 p).2.1 = -1 then ((s.2 p).2.2 : Int) else if (s.2 p).2.1 = -2 then C 6 (s.2 p).2.2 else kNp C (s.2 p).2.1.toNat (s.2 p).2.2
theorem pAdd_nt {s : Pst} {net o : Int} {j : Nat} (h : PNt C s) (hn : net = if o = -1 then (j : Int) else if o = -2 then C 6 j else kNp C o.toNat j) : PNt C (pAdd s net o j) := by
  unfold pAdd
  by_cases q : net < 0
  · rw [if_pos q]; exact h
  · rw [if_neg q]
    intro p hp
    have hp : p < s.1 + 1 := hp
    by_cases e : p = s.1
    · have ez : ((s.1 + 1, updN s.2 s.1 (net.toNat, o, j)) : Pst).2 p = (net.toNat, o, j) := by rw [e]; exact updN_eq
      rw [ez]
      show (net.toNat : Int) = if o = -1 then (j : Int) else if o = -2 then C 6 j else kNp C o.toNat j
      rw [← hn]; omega
    · have ez : ((s.1 + 1, updN s.2 s.1 (net.toNat, o, j)) : Pst).2 p = s.2 p := updN_ne e
      rw [ez]
      exact h p (by omega)
theorem pIns_nt : ∀ i, PNt C (pIns i) := fun i => by
  induction i with
  | zero => exact fun p hp => absurd hp (Nat.not_lt_zero _)
  | succ i ih => exact pAdd_nt ih (by rw [if_pos rfl])
theorem pOuts_nt : ∀ i, PNt C (pOuts C i) := fun i => by
  induction i with
  | zero => exact pIns_nt _
  | succ i ih => exact pAdd_nt ih (by rw [if_neg (by decide), if_pos rfl])
theorem pEl_nt {s : Pst} {e : Nat} (h : PNt C s) : ∀ j, PNt C (pEl C s e j) := fun j => by
  induction j with
  | zero => exact h
  | succ j ih => exact pAdd_nt ih (by rw [if_neg (by omega), if_neg (by omega), Int.toNat_natCast])
theorem pEls_nt : ∀ e, PNt C (pEls C e) := fun e => by
  induction e with
  | zero => exact pOuts_nt _
  | succ e ih => exact pEl_nt ih _
/-- two pins at one point are of one net -/
theorem pp_net (w : WFC C) (wp : WFP C) (h0 : C 16 0 ≠ 0) {i j : Nat} (hi : i < kPn C) (hj : j < kPn C) (h : pp C i = pp C j) : (kPf C i).1 = (kPf C j).1 := by
  have a := pp_lt w wp h0 hi
  have b := pp_lt w wp h0 hj
  have ra := pXY_rng w wp h0 hi
  have rb := pXY_rng w wp h0 hj
  have ex : pvX C i = pvX C j := by
    have : (pvX C i).toNat = (pvX C j).toNat := by rw [← a.2.2.2, ← b.2.2.2, h]
    omega
  have ey : pvY C i = pvY C j := by
    have : (pvY C i).toNat = (pvY C j).toNat := by rw [← a.2.2.1, ← b.2.2.1, h]
    omega
  have pn : PNt C (kPins C) := pEls_nt (kE C)
  have na := pn i hi
  have nb := pn j hj
  have oa := ((kPins_ok w).1 i hi).2
  have ob := ((kPins_ok w).1 j hj).2
  have w1 := wp.1
  unfold pvX pX at ex
  unfold pvY pY at ey
  show ((kPins C).2 i).1 = ((kPins C).2 j).1
  unfold kPf at ex ey
  generalize (kPins C).2 i = s at *
  generalize (kPins C).2 j = t at *
  have same : s.2.1 = t.2.1 ∧ s.2.2 = t.2.2 := by
    rcases oa with ⟨a1, a2⟩ | ⟨a1, a2⟩ | ⟨a1, a2, a3⟩ <;> rcases ob with ⟨b1, b2⟩ | ⟨b1, b2⟩ | ⟨b1, b2, b3⟩
    · rw [if_pos (by omega), if_pos (by omega)] at ey; omega
    · rw [if_pos a1, if_neg (by omega), if_pos b1] at ex; omega
    · have := wp.2.1 h0 t.2.1.toNat (by omega)
      rw [if_pos a1, if_neg (by omega), if_neg (by omega)] at ex; omega
    · rw [if_neg (by omega), if_pos a1, if_pos b1] at ex; omega
    · rw [if_pos (by omega), if_pos (by omega)] at ey; omega
    · have := wp.2.1 h0 t.2.1.toNat (by omega)
      rw [if_neg (by omega), if_pos a1, if_neg (by omega), if_neg (by omega)] at ex; omega
    · have := wp.2.1 h0 s.2.1.toNat (by omega)
      rw [if_neg (by omega), if_neg (by omega), if_pos b1] at ex; omega
    · have := wp.2.1 h0 s.2.1.toNat (by omega)
      rw [if_neg (by omega), if_neg (by omega), if_neg (by omega), if_pos b1] at ex; omega
    · rw [if_neg (by omega), if_neg (by omega), if_neg (by omega), if_neg (by omega)] at ex
      rw [if_neg (by omega), if_neg (by omega)] at ey
      by_cases q : s.2.1.toNat = t.2.1.toNat
      · rw [q] at ex; omega
      · have := wp.2.2 h0 s.2.1.toNat t.2.1.toNat (by omega) (by omega) q (by omega)
        omega
  have : (s.1 : Int) = (t.1 : Int) := by rw [na, nb, same.1, same.2]
  omega
/-- the net whose pin stands at a point, or -1 -/
def kpt (C : Chp) : Nat → Nat → Int
  | 0, _ => -1
  | m + 1, p => if p = pp C m then ((kPf C m).1 : Int) else kpt C m p
abbrev kp (C : Chp) (p : Nat) : Int := kpt C (kPn C) p
theorem kpt_rng (w : WFC C) : ∀ m, m ≤ kPn C → -1 ≤ kpt C m p ∧ kpt C m p < kN C := by
  intro m
  induction m with
  | zero => intro _; show (-1 : Int) ≤ -1 ∧ (-1 : Int) < _; omega
  | succ m ih =>
    intro h
    have := ih (by omega)
    have o := ((kPins_ok w).1 m (show m < kPn C by omega)).1
    have o : (kPf C m).1 < kN C := o
    show -1 ≤ (if p = pp C m then _ else _) ∧ (if p = pp C m then _ else _) < (kN C : Int)
    split <;> omega
theorem kpt_pin (w : WFC C) (wp : WFP C) (h0 : C 16 0 ≠ 0) {i : Nat} : ∀ m, m ≤ kPn C → i < m → kpt C m (pp C i) = ((kPf C i).1 : Int) := by
  intro m
  induction m with
  | zero => intro _ h; omega
  | succ m ih =>
    intro h hi
    show (if pp C i = pp C m then _ else _) = _
    by_cases q : pp C i = pp C m
    · rw [if_pos q, pp_net w wp h0 (show i < kPn C by omega) (show m < kPn C by omega) q]
    · rw [if_neg q]
      exact ih (by omega) (by
        by_cases e : i = m
        · exact absurd (by rw [e]) q
        · omega)
theorem kp_pin (w : WFC C) (wp : WFP C) (h0 : C 16 0 ≠ 0) {i : Nat} (hi : i < kPn C) : kp C (pp C i) = ((kPf C i).1 : Int) := kpt_pin w wp h0 _ (Nat.le_refl _) hi
/-- the price of a point for a net that does not own it -/
def prF (C R : Chp) (n : Nat) (dear : Bool) (p : Nat) : Nat := if R 20 p = -1 ∧ (kp C p = -1 ∨ kp C p = (n : Int)) then 1 else if kp C p = -1 ∧ dear = true then 11 else 0
theorem prF_le {R : Chp} {n : Nat} {dear : Bool} : prF C R n dear p = 0 ∨ prF C R n dear p = 1 ∨ (prF C R n dear p = 11 ∧ dear = true) := by
  unfold prF
  split
  · exact .inr (.inl rfl)
  · split
    · rename_i h; exact .inr (.inr ⟨rfl, h.2⟩)
    · exact .inl rfl
/-- least costs from what a net owns -/
def DOk (C R : Chp) (n : Nat) (dear : Bool) (d : Nat → Int) : Prop :=
  ∀ p, p < 2 * kLy C → -1 ≤ d p ∧ (R 20 p = (n : Int) → d p = 0) ∧
    (R 20 p ≠ (n : Int) → d p ≠ -1 → 0 < prF C R n dear p ∧ ∃ j q : Nat, j < 5 ∧ q < 2 * kLy C ∧ nxF C q j = (p : Int) ∧ d q ≠ -1 ∧ d p = d q + (prF C R n dear p : Int)) ∧
    (d p ≠ -1 → ∀ j q : Nat, j < 5 → nxF C p j = (q : Int) → R 20 q ≠ (n : Int) → 0 < prF C R n dear q → d q ≠ -1 ∧ d q ≤ d p + (prF C R n dear q : Int))
theorem DOk.le {R : Chp} {n : Nat} {dear : Bool} {d d' : Nat → Int} (h : DOk C R n dear d) (g : DOk C R n dear d') : ∀ N : Nat, ∀ p, p < 2 * kLy C → d p ≠ -1 → d p < (N : Int) → d' p ≠ -1 ∧ d' p ≤ d p := by
  intro N
  induction N with
  | zero => intro p hp h1 h2; have := (h p hp).1; omega
  | succ N ih =>
    intro p hp h1 h2
    by_cases q : R 20 p = (n : Int)
    · rw [(h p hp).2.1 q, (g p hp).2.1 q]; omega
    · obtain ⟨a, j, y, b1, b2, b3, b4, b5⟩ := (h p hp).2.2.1 q h1
      have := ih y b2 b4 (by omega)
      have e := (g y b2).2.2.2 this.1 j p b1 b3 q a
      exact ⟨e.1, by omega⟩
theorem DOk.eq {R : Chp} {n : Nat} {dear : Bool} {d d' : Nat → Int} (h : DOk C R n dear d) (g : DOk C R n dear d') (hp : p < 2 * kLy C) : d p = d' p := by
  have a := (h p hp).1
  have b := (g p hp).1
  by_cases q : d p = -1
  · by_cases q' : d' p = -1
    · rw [q, q']
    · have := (g.le h (d' p + 1).toNat p hp q' (by omega)).1
      exact absurd q this
  · have x := h.le g (d p + 1).toNat p hp q (by omega)
    have y := g.le h (d' p + 1).toNat p hp x.1 (by omega)
    omega
noncomputable def dF (C R : Chp) (n : Nat) (dear : Bool) : Nat → Int := Classical.epsilon (DOk C R n dear)
theorem dF_ok {R : Chp} {n : Nat} {dear : Bool} {d : Nat → Int} (h : DOk C R n dear d) : DOk C R n dear (dF C R n dear) := Classical.epsilon_spec ⟨d, h⟩
end GRID
