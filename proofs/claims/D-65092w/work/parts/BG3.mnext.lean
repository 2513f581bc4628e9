/-! the reference: neighbours and prices -/
def MOw (S : Sto) (k : Nat) (C R : Chp) : Prop := (∀ p, p < 2 * kLy C → gI S 2135 (4712 * k + p) = R 20 p ∧ gI S 2136 (4712 * k + p) = R 21 p ∧ gI S 2137 (4712 * k + p) = R 31 p ∧ gI S 2138 (4712 * k + p) = R 32 p) ∧ ∀ n, n < kN C → gI S 2139 (256 * k + n) = R 22 n
def MRt (S : Sto) (k : Nat) (C : Chp) : Prop := (gI S 2000 177 = (k : Int) ∧ gI S 2000 174 = (kW C : Int) ∧ gI S 2000 175 = (kHn C : Int) ∧ gI S 2000 176 = ((2 * kLy C : Nat) : Int)) ∧ ∀ p, p < 2 * kLy C → gI S 2140 p = kp C p
/-- what connecting a net may change -/
def CM (k : Nat) (S z : Sto) : Prop := (∀ a i, ¬ (2141 ≤ a ∧ a ≤ 2144) → ¬ (2135 ≤ a ∧ a ≤ 2138 ∧ 4712 * k ≤ i ∧ i < 4712 * k + 4712) → ¬ (a = 2139 ∧ 256 * k ≤ i ∧ i < 256 * k + 256) → gI z a i = gI S a i) ∧ (∀ a i, ¬ (2141 ≤ a ∧ a ≤ 2144) → gL z a i = gL S a i) ∧ (∀ a i, gR z a i = gR S a i) ∧ nC z = nC S ∧ nS z = nS S
section MNEXT
variable {S z y : Sto} {k n : Nat} {C R : Chp}
theorem CM.refl : CM k S S := ⟨fun _ _ _ _ _ => rfl, fun _ _ _ => rfl, fun _ _ => rfl, rfl, rfl⟩
theorem CM.tr (h : CM k S z) (g : CM k z y) : CM k S y := ⟨fun a i q1 q2 q3 => (g.1 a i q1 q2 q3).trans (h.1 a i q1 q2 q3), fun a i q => (g.2.1 a i q).trans (h.2.1 a i q), fun a i => (g.2.2.1 a i).trans (h.2.2.1 a i), g.2.2.2.1.trans h.2.2.2.1, g.2.2.2.2.trans h.2.2.2.2⟩
theorem CM.sI (h : CM k S z) {a i : Nat} {v : Int} (q : (2141 ≤ a ∧ a ≤ 2144) ∨ (2135 ≤ a ∧ a ≤ 2138 ∧ 4712 * k ≤ i ∧ i < 4712 * k + 4712) ∨ (a = 2139 ∧ 256 * k ≤ i ∧ i < 256 * k + 256)) : CM k S (sI z a i v) := ⟨fun b j q1 q2 q3 => by
  rw [hI_sI, if_neg (by rintro ⟨rfl, rfl⟩; omega)]; exact h.1 b j q1 q2 q3, h.2.1, h.2.2.1, h.2.2.2.1, h.2.2.2.2⟩
theorem CM.of {lo hi : Nat} (c : Ch lo hi S z) (q : 2141 ≤ lo ∧ hi ≤ 2144) : CM k S z := ⟨fun a i q1 _ _ => c.1 a i (by omega), fun a i q1 => c.2.1 a i (by omega), c.2.2.1, c.2.2.2.1, c.2.2.2.2⟩
theorem MRt.cm (h : MRt S k C) (c : CM k S z) : MRt z k C :=
  ⟨⟨(c.1 _ _ (by omega) (by omega) (by omega)).trans h.1.1, (c.1 _ _ (by omega) (by omega) (by omega)).trans h.1.2.1, (c.1 _ _ (by omega) (by omega) (by omega)).trans h.1.2.2.1, (c.1 _ _ (by omega) (by omega) (by omega)).trans h.1.2.2.2⟩, fun p hp => (c.1 _ _ (by omega) (by omega) (by omega)).trans (h.2 p hp)⟩
theorem MOw.ch {lo hi : Nat} (h : MOw S k C R) (c : Ch lo hi S z) (q : 2141 ≤ lo ∨ hi < 2135) : MOw z k C R :=
  ⟨fun p hp => ⟨(c.1 _ _ (by omega)).trans (h.1 p hp).1, (c.1 _ _ (by omega)).trans (h.1 p hp).2.1, (c.1 _ _ (by omega)).trans (h.1 p hp).2.2.1, (c.1 _ _ (by omega)).trans (h.1 p hp).2.2.2⟩, fun n hn => (c.1 _ _ (by omega)).trans (h.2 n hn)⟩
theorem MOw.eq {R' : Chp} (h : MOw S k C R) (e : rEq R R') : MOw S k C R' :=
  ⟨fun p hp => ⟨(h.1 p hp).1.trans (e 20 p (by omega)), (h.1 p hp).2.1.trans (e 21 p (by omega)), (h.1 p hp).2.2.1.trans (e 31 p (by omega)), (h.1 p hp).2.2.2.trans (e 32 p (by omega))⟩, fun n hn => (h.2 n hn).trans (e 22 n (by omega))⟩
theorem m_next (h : MRt S k C) (g : GSz C) {p j : Nat} (hp : p < 2 * kLy C) (hj : j < 5) : mX23_next S (p : Int) (j : Int) = some (nxF C p j) := by
  obtain ⟨⟨h1, h2, h3, h4⟩, h5⟩ := h
  obtain ⟨g1, g2, g3, g4, g5, g6, g7, g8⟩ := g
  have e := kLy_eq C
  have eL : (kW C : Int) * (kHn C : Int) = (kLy C : Int) := by rw [e, Int.natCast_mul]
  have e1 : w32 (kLy C : Int) = (kLy C : Int) := w32_id (by omega)
  have e2 : w32 (p : Int) = (p : Int) := w32_id (by omega)
  unfold mX23_next
  rw [h2, h3, gnz_i (by omega), gnz_i (by omega), gnz_i (by omega), eL, e1, e2]
  have jj : j = 0 ∨ j = 1 ∨ j = 2 ∨ j = 3 ∨ j = 4 := by omega
  by_cases u : kLy C ≤ p
  · have u' : (kLy C : Int) ≤ (p : Int) := by omega
    have x1 : w32 (1 : Int) = 1 := rfl
    obtain ⟨d1, d2, d3, d4⟩ := dm_lt (x := p - kLy C) (W := kW C) (H := kHn C) (by omega)
    have ed : p / kW C % kHn C = (p - kLy C) / kW C := by
      have : p = (p - kLy C) + kW C * kHn C := by omega
      rw [show p / kW C = (p - kLy C) / kW C + kHn C by rw [this, Nat.add_mul_div_left _ _ d2]; rw [← this], Nat.add_mod_right, Nat.mod_eq_of_lt d1]
    have pd : p / kW C ≤ p := Nat.div_le_self _ _
    have dv : aRem (aDiv (p : Int) (kW C : Int)) (kHn C : Int) = (((p - kLy C) / kW C : Nat) : Int) := by
      rw [aDiv_nn (by omega) (by omega), ← Int.natCast_ediv, aRem_nn (by generalize p / kW C = a at *; omega) (by omega), ← Int.natCast_emod, ed]
    have wd : w32 (((p - kLy C) / kW C : Nat) : Int) = (((p - kLy C) / kW C : Nat) : Int) := w32_id (by generalize (p - kLy C) / kW C = a at *; omega)
    rw [if_pos u', x1]
    rcases jj with rfl | rfl | rfl | rfl | rfl
    · rw [if_pos (by decide), if_neg (by decide), bX_some, if_neg (by decide), bX_some]
      rw [nx0, if_neg (by omega)]
    · rw [if_neg (by decide), if_pos (by decide), if_neg (by decide), bX_some, if_neg (by decide), bX_some]
      rw [nx1, if_neg (by omega)]
    · rw [if_neg (by decide), if_neg (by decide), if_pos (by decide), if_pos (by decide), dv, wd]
      rw [nx2]
      by_cases q : (p - kLy C) / kW C = 0
      · rw [if_neg (by rw [q]; decide), bX_some, if_neg (by decide), bX_some, if_neg (fun g => g.2 q)]
      · rw [if_pos (by generalize (p - kLy C) / kW C = a at *; omega), bX_some, if_pos rfl, bX_some, if_pos ⟨u, q⟩]
    · rw [if_neg (by decide), if_neg (by decide), if_neg (by decide), if_pos (by decide), if_pos (by decide), dv, wd, w32_id (x := (kHn C : Int) - 1) (by omega)]
      rw [nx3]
      by_cases q : (p - kLy C) / kW C = kHn C - 1
      · rw [if_neg (by rw [q]; omega), bX_some, if_neg (by decide), bX_some, if_neg (fun g => g.2 q)]
      · rw [if_pos (by generalize (p - kLy C) / kW C = a at *; omega), bX_some, if_pos rfl, bX_some, if_pos ⟨u, q⟩]
    · rw [if_neg (by decide), if_neg (by decide), if_neg (by decide), if_neg (by decide), if_pos (by decide)]
      rw [nx4, if_pos u]
  · have u' : ¬ (kLy C : Int) ≤ (p : Int) := by omega
    have x0 : w32 (0 : Int) = 0 := rfl
    have md : aRem (p : Int) (kW C : Int) = ((p % kW C : Nat) : Int) := by
      rw [aRem_nn (by omega) (by omega), Int.natCast_emod]
    obtain ⟨d1, d2, d3, d4⟩ := dm_lt (x := p) (W := kW C) (H := kHn C) (by omega)
    have wm : w32 ((p % kW C : Nat) : Int) = ((p % kW C : Nat) : Int) := w32_id (by generalize p % kW C = a at *; omega)
    rw [if_neg u', x0]
    rcases jj with rfl | rfl | rfl | rfl | rfl
    · rw [if_pos (by decide), if_pos rfl, md, wm]
      rw [nx0]
      by_cases q : p % kW C = 0
      · rw [if_neg (by rw [q]; decide), bX_some, if_neg (by decide), bX_some, if_neg (fun g => g.2 q)]
      · rw [if_pos (by generalize p % kW C = a at *; omega), bX_some, if_pos rfl, bX_some, if_pos ⟨by omega, q⟩]
    · rw [if_neg (by decide), if_pos (by decide), if_pos rfl, md, wm, w32_id (x := (kW C : Int) - 1) (by omega)]
      rw [nx1]
      by_cases q : p % kW C = kW C - 1
      · rw [if_neg (by rw [q]; omega), bX_some, if_neg (by decide), bX_some, if_neg (fun g => g.2 q)]
      · rw [if_pos (by generalize p % kW C = a at *; omega), bX_some, if_pos rfl, bX_some, if_pos ⟨by omega, q⟩]
    · rw [if_neg (by decide), if_neg (by decide), if_pos (by decide), if_neg (fun g => g rfl), bX_some, if_neg (by decide), bX_some]
      rw [nx2, if_neg (fun g => u g.1)]
    · rw [if_neg (by decide), if_neg (by decide), if_neg (by decide), if_pos (by decide), if_neg (fun g => g rfl), bX_some, if_neg (by decide), bX_some]
      rw [nx3, if_neg (fun g => u g.1)]
    · rw [if_neg (by decide), if_neg (by decide), if_neg (by decide), if_neg (by decide), if_neg (fun g => g rfl)]
      rw [nx4, if_neg u]
theorem m_own (h : MRt S k C) (o : MOw S k C R) (hk : k < 4) (g : GSz C) {p : Nat} (hp : p < 2 * kLy C) : mX23_netAt S (p : Int) = some (R 20 p) := by
  have g5 := g.2.2.2.2.1
  have zt : (4712 * (k : Int) + (p : Int)).toNat = 4712 * k + p := by omega
  unfold mX23_netAt
  rw [h.1.1, rdI_e (by omega), zt, (o.1 p hp).1]
theorem m_price (h : MRt S k C) (o : MOw S k C R) (hV : RInv C R) (hk : k < 4) (g : GSz C) (w : WFC C) {p : Nat} (hp : p < 2 * kLy C) (hn : n < kN C) (hne : R 20 p ≠ (n : Int)) {dear : Bool} : mX23_price S (p : Int) (n : Int) (if dear = true then 1 else 0) = some (prF C R n dear p : Int) := by
  have g5 := g.2.2.2.2.1
  have g7 := g.2.2.2.2.2.2.1
  have kr := kpt_rng (p := p) w (kPn C) (Nat.le_refl _)
  have kr : -1 ≤ kp C p ∧ kp C p < kN C := kr
  have rg := (hV.1.1 p hp)
  have hI := hV.2.1 p hp
  have z1 : w32 (kp C p) = kp C p := w32_id (by omega)
  have z2 : w32 (n : Int) = (n : Int) := w32_id (by omega)
  have z0 : w32 (R 20 p) = R 20 p := w32_id (by omega)
  have e6 := h.2 p hp
  have last : (bX (bX (if ¬ w32 (R 20 p) = (-1) then bX (some (R 20 p)) fun x4 => if w32 x4 = w32 (n : Int) then some true else some false else some true) fun b => if b = true then some 1 else if ¬ w32 (if dear = true then (1 : Int) else 0) = 0 then some 11 else some 0) fun y5 => some y5) = some (if R 20 p = -1 then (1 : Int) else if dear = true then 11 else 0) := by
    rw [z0]
    by_cases q : R 20 p = -1
    · rw [if_neg (fun g => g q), bX_some, if_pos rfl, bX_some, if_pos q]
    · rw [if_pos q, bX_some, z0, z2, if_neg hne, bX_some, if_neg (by decide), if_neg q]
      cases dear with
      | true => rfl
      | false => rfl
  unfold mX23_price
  rw [rdI_e (by omega), Int.toNat_natCast, e6, z1]
  by_cases q1 : kp C p = -1
  · rw [if_neg (fun g => g q1), bX_some, if_neg (by decide), m_own h o hk g hp, bX_some, last]
    unfold prF
    by_cases q : R 20 p = -1
    · rw [if_pos q, if_pos ⟨q, .inl q1⟩]; rfl
    · rw [if_neg q]
      by_cases d : dear = true
      · rw [if_pos d, if_neg (fun g => q g.1), if_pos ⟨q1, d⟩]; rfl
      · rw [if_neg d, if_neg (fun g => q g.1), if_neg (fun g => d g.2)]; rfl
  · rw [if_pos q1, rdI_e (by omega), Int.toNat_natCast, e6, z1]
    by_cases q2 : kp C p = (n : Int)
    · have q : R 20 p = -1 := (hI q1).elim id (fun g => absurd (g.trans q2) hne)
      rw [if_neg (fun g => g (by rw [z2]; exact q2)), bX_some, if_neg (by decide), m_own h o hk g hp, bX_some, last]
      unfold prF
      rw [if_pos q, if_pos ⟨q, .inr q2⟩]; rfl
    · rw [if_pos (by rw [z2]; exact q2), bX_some, if_pos rfl]
      unfold prF
      rw [if_neg (fun g => g.2.elim q1 q2), if_neg (fun g => q1 g.1)]; rfl
end MNEXT
