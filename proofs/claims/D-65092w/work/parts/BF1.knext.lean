/-! the class: neighbours and prices -/
theorem gnz_i {τ : Type} {v : Int} {k : Option τ} (h : 0 < v ∧ v < 2147483648) : gnz v k = k := by unfold gnz; rw [w32_id (by omega), if_neg (by omega)]
/-- wires at work: class -/
def KRt (S : Sto) (k : Nat) (C : Chp) : Prop := (gR S 229 1 = 344 + 22 * k ∧ gI S 229 2 = (kW C : Int) ∧ gI S 229 3 = (kLy C : Int) ∧ gI S 229 4 = ((2 * kLy C : Nat) : Int) ∧ gI S (344 + 22 * k) 13 = (kHn C : Int)) ∧ ∀ p, p < 2 * kLy C → gI S 230 p = kp C p
def KOw (S : Sto) (k : Nat) (C R : Chp) : Prop := (∀ p, p < 2 * kLy C → gI S (344 + 22 * k + 12) p = R 20 p ∧ gI S (344 + 22 * k + 13) p = R 21 p + 2 * R 31 p + 4 * R 32 p) ∧ ∀ n, n < kN C → gI S (344 + 22 * k + 14) n = R 22 n
/-- ranges of wires -/
def RRg (C R : Chp) : Prop := (∀ p, p < 2 * kLy C → -1 ≤ R 20 p ∧ R 20 p < kN C ∧ (R 21 p = 0 ∨ R 21 p = 1) ∧ (R 31 p = 0 ∨ R 31 p = 1) ∧ (R 32 p = 0 ∨ R 32 p = 1)) ∧ ∀ n, n < kN C → R 22 n = 0 ∨ R 22 n = 1
/-- sizes of the grid -/
def GSz (C : Chp) : Prop := 2 ≤ kW C ∧ kW C ≤ 62 ∧ 1 ≤ kHn C ∧ kHn C ≤ 38 ∧ kLy C ≤ 2356 ∧ kW C ≤ kLy C ∧ kN C ≤ 162 ∧ kPn C ≤ 640
theorem GSz_of {C : Chp} (w : WFC C) (wp : WFP C) (h0 : C 16 0 ≠ 0) : GSz C := by
  have h1 := kS_le wp
  have h2 := kH_le w wp
  have h3 := kLy_le w wp
  have h4 := w.nums
  have h5 := (kPins_ok w).2
  have p1 := wp.1
  have hH : kH C = max (3 * C 16 0 + 2) (max (C 0 0) (C 2 0)) := by unfold kH; rw [if_neg h0]
  have e := kLy_eq C
  have hh : 1 ≤ kHn C := by show 1 ≤ (kH C).toNat; omega
  have m := mul_up (W := kW C) hh
  rw [Nat.mul_one] at m
  exact ⟨by show 2 ≤ kS C + 2; omega, by show kS C + 2 ≤ 62; omega, hh, by show (kH C).toNat ≤ 38; omega, h3, by omega, by omega, h5⟩
theorem nx0 (C : Chp) (p : Nat) : nxF C p 0 = (if p < kLy C ∧ p % kW C ≠ 0 then (p : Int) - 1 else -1) := rfl
theorem nx1 (C : Chp) (p : Nat) : nxF C p 1 = (if p < kLy C ∧ p % kW C ≠ kW C - 1 then (p : Int) + 1 else -1) := rfl
theorem nx2 (C : Chp) (p : Nat) : nxF C p 2 = (if kLy C ≤ p ∧ (p - kLy C) / kW C ≠ 0 then (p : Int) - (kW C : Int) else -1) := rfl
theorem nx3 (C : Chp) (p : Nat) : nxF C p 3 = (if kLy C ≤ p ∧ (p - kLy C) / kW C ≠ kHn C - 1 then (p : Int) + (kW C : Int) else -1) := rfl
theorem nx4 (C : Chp) (p : Nat) : nxF C p 4 = (if kLy C ≤ p then (p : Int) - (kLy C : Int) else (p : Int) + (kLy C : Int)) := rfl
theorem nat_z {x : Nat} (h : (x : Int) = 0) : x = 0 := Int.ofNat.inj (show Int.ofNat x = Int.ofNat 0 from h)
section KNEXT
variable {S : Sto} {k : Nat} {C R : Chp}
theorem k_next (h : KRt S k C) (hk : k < 4) (g : GSz C) {p j : Nat} (hp : p < 2 * kLy C) (hj : j < 5) : mX15_next S (p : Int) (j : Int) = some (nxF C p j) := by
  obtain ⟨⟨h1, h2, h3, h4, h5⟩, h6⟩ := h
  obtain ⟨g1, g2, g3, g4, g5, g6, g7, g8⟩ := g
  have e1 : w32 (kLy C : Int) = (kLy C : Int) := w32_id (by omega)
  have e2 : w32 (p : Int) = (p : Int) := w32_id (by omega)
  unfold mX15_next
  rw [h2, h3, gnz_i (by omega), gnz_i (by omega), e1, e2]
  have jj : j = 0 ∨ j = 1 ∨ j = 2 ∨ j = 3 ∨ j = 4 := by omega
  by_cases u : kLy C ≤ p
  · have u' : (kLy C : Int) ≤ (p : Int) := by omega
    have x1 : w32 (1 : Int) = 1 := rfl
    have dv : aDiv ((p : Int) - (kLy C : Int)) (kW C : Int) = (((p - kLy C) / kW C : Nat) : Int) := by
      rw [aDiv_nn (by omega) (by omega), show (p : Int) - (kLy C : Int) = ((p - kLy C : Nat) : Int) by omega, Int.natCast_ediv]
    obtain ⟨d1, d2, d3, d4⟩ := dm_lt (x := p - kLy C) (W := kW C) (H := kHn C) (by have := kLy_eq C; omega)
    have wd : w32 (((p - kLy C) / kW C : Nat) : Int) = (((p - kLy C) / kW C : Nat) : Int) := w32_id (by generalize (p - kLy C) / kW C = a at *; omega)
    have at1 : (if ¬ (1 : Int) = 0 then (p : Int) - (kLy C : Int) else (p : Int)) = (p : Int) - (kLy C : Int) := if_pos (by decide)
    rw [if_pos u', x1, at1]
    rcases jj with rfl | rfl | rfl | rfl | rfl
    · rw [if_pos (by decide), if_neg (by decide), bX_some, if_pos rfl, bX_some]
      rw [nx0, if_neg (by omega)]
    · rw [if_neg (by decide), if_pos (by decide), if_neg (by decide), bX_some, if_pos rfl, bX_some]
      rw [nx1, if_neg (by omega)]
    · rw [if_neg (by decide), if_neg (by decide), if_pos (by decide), if_pos (by decide), dv, wd]
      rw [nx2]
      by_cases q : (p - kLy C) / kW C = 0
      · rw [if_pos (by rw [q]; rfl), bX_some, if_pos rfl, bX_some, if_neg (fun g => g.2 q)]
      · rw [if_neg (fun g => q (nat_z g)), bX_some, if_neg (by decide), bX_some, if_pos ⟨u, q⟩]
    · rw [if_neg (by decide), if_neg (by decide), if_neg (by decide), if_pos (by decide), if_pos (by decide), h1, gk_chip hk, h5, dv, wd, w32_id (by omega)]
      rw [nx3]
      by_cases q : (p - kLy C) / kW C = kHn C - 1
      · rw [if_pos (by rw [q]; omega), bX_some, if_pos rfl, bX_some, if_neg (fun g => g.2 q)]
      · rw [if_neg (fun g => q (by generalize (p - kLy C) / kW C = a at *; omega)), bX_some, if_neg (by decide), bX_some, if_pos ⟨u, q⟩]
    · rw [if_neg (by decide), if_neg (by decide), if_neg (by decide), if_neg (by decide), if_pos (by decide)]
      rw [nx4, if_pos u]
  · have u' : ¬ (kLy C : Int) ≤ (p : Int) := by omega
    have x0 : w32 (0 : Int) = 0 := rfl
    have md : aRem (p : Int) (kW C : Int) = ((p % kW C : Nat) : Int) := by
      rw [aRem_nn (by omega) (by omega), Int.natCast_emod]
    obtain ⟨d1, d2, d3, d4⟩ := dm_lt (x := p) (W := kW C) (H := kHn C) (by have := kLy_eq C; omega)
    have wm : w32 ((p % kW C : Nat) : Int) = ((p % kW C : Nat) : Int) := w32_id (by generalize p % kW C = a at *; omega)
    have at0 : (if ¬ (0 : Int) = 0 then (p : Int) - (kLy C : Int) else (p : Int)) = (p : Int) := if_neg (fun g => g rfl)
    rw [if_neg u', x0, at0]
    rcases jj with rfl | rfl | rfl | rfl | rfl
    · rw [if_pos (by decide), if_pos rfl, md, wm]
      rw [nx0]
      by_cases q : p % kW C = 0
      · rw [if_pos (by rw [q]; rfl), bX_some, if_pos rfl, bX_some, if_neg (fun g => g.2 q)]
      · rw [if_neg (fun g => q (nat_z g)), bX_some, if_neg (by decide), bX_some, if_pos ⟨by omega, q⟩]
    · rw [if_neg (by decide), if_pos (by decide), if_pos rfl, md, wm, w32_id (by omega)]
      rw [nx1]
      by_cases q : p % kW C = kW C - 1
      · rw [if_pos (by rw [q]; omega), bX_some, if_pos rfl, bX_some, if_neg (fun g => g.2 q)]
      · rw [if_neg (fun g => q (by generalize p % kW C = a at *; omega)), bX_some, if_neg (by decide), bX_some, if_pos ⟨by omega, q⟩]
    · rw [if_neg (by decide), if_neg (by decide), if_pos (by decide), if_neg (fun g => g rfl), bX_some, if_pos rfl, bX_some]
      rw [nx2, if_neg (fun g => u g.1)]
    · rw [if_neg (by decide), if_neg (by decide), if_neg (by decide), if_pos (by decide), if_neg (fun g => g rfl), bX_some, if_pos rfl, bX_some]
      rw [nx3, if_neg (fun g => u g.1)]
    · rw [if_neg (by decide), if_neg (by decide), if_neg (by decide), if_neg (by decide), if_neg (fun g => g rfl)]
      rw [nx4, if_neg u]
abbrev freR (C R : Chp) (n p : Nat) : Prop := R 20 p = -1 ∧ (kp C p = -1 ∨ kp C p = (n : Int))
theorem k_isFree (h : KRt S k C) (o : KOw S k C R) (rr : RRg C R) (hk : k < 4) (g : GSz C) (w : WFC C) {p n : Nat} (hp : p < 2 * kLy C) (hn : n < kN C) : mX15_isFree S (p : Int) (n : Int) = some (if freR C R n p then 1 else 0) := by
  obtain ⟨⟨h1, h2, h3, h4, h5⟩, h6⟩ := h
  obtain ⟨g1, g2, g3, g4, g5, g6, g7, g8⟩ := g
  have ow := (o.1 p hp).1
  have rg := rr.1 p hp
  have kr := kpt_rng (p := p) w (kPn C) (Nat.le_refl _)
  have e6 := h6 p hp
  have z0 : w32 (R 20 p) = R 20 p := w32_id (by omega)
  have z1 : w32 (kp C p) = kp C p := w32_id (by have : kp C p = kpt C (kPn C) p := rfl; omega)
  have z2 : w32 (n : Int) = (n : Int) := w32_id (by omega)
  unfold mX15_isFree
  rw [h1, gk_chip hk, rdI_e (by omega), Int.toNat_natCast, ow, z0]
  by_cases q : R 20 p = -1
  · rw [if_pos q, rdI_e (by omega), Int.toNat_natCast, e6, z1]
    by_cases q2 : kp C p = -1
    · rw [if_neg (fun g => g q2), bX_some, if_pos rfl, bX_some, gz_1, if_pos ⟨q, .inl q2⟩]
    · rw [if_pos q2, rdI_e (by omega), Int.toNat_natCast, e6, z1, z2]
      by_cases q3 : kp C p = (n : Int)
      · rw [if_pos q3, bX_some, if_pos rfl, bX_some, gz_1, if_pos ⟨q, .inr q3⟩]
      · rw [if_neg q3, bX_some, if_neg (by decide), bX_some, gz_0, if_neg (fun g => g.2.elim q2 q3)]
  · rw [if_neg q, bX_some, if_neg (by decide), bX_some, gz_0, if_neg (fun g => q g.1)]
theorem k_price (h : KRt S k C) (o : KOw S k C R) (rr : RRg C R) (hk : k < 4) (g : GSz C) (w : WFC C) {p n : Nat} (hp : p < 2 * kLy C) (hn : n < kN C) : mX15_price S (p : Int) (n : Int) = some (prF C R n true p : Int) := by
  have kr := kpt_rng (p := p) w (kPn C) (Nat.le_refl _)
  have z1 : w32 (kp C p) = kp C p := w32_id (by have : kp C p = kpt C (kPn C) p := rfl; have := g.2.2.2.2.2.2.1; omega)
  have e6 := h.2 p hp
  have g5 := g.2.2.2.2.1
  unfold mX15_price prF
  rw [k_isFree h o rr hk g w hp hn, bX_some]
  by_cases q : R 20 p = -1 ∧ (kp C p = -1 ∨ kp C p = (n : Int))
  · rw [if_pos q, if_pos (by decide), bX_some, if_pos q]; rfl
  · rw [if_neg q, if_neg (by decide), if_neg q, rdI_e (by omega), Int.toNat_natCast, e6, z1]
    by_cases q2 : kp C p = -1
    · rw [if_pos q2, bX_some, if_pos ⟨q2, rfl⟩]; rfl
    · rw [if_neg q2, bX_some, if_neg (fun g => q2 g.1)]; rfl
/-- what a search may change -/
theorem KRt.ch {z : Sto} {lo hi : Nat} (h : KRt S k C) (c : Ch lo hi S z) (hk : k < 4) (q : 231 ≤ lo ∧ hi ≤ 239) : KRt z k C :=
  ⟨⟨(c.2.2.1 _ _).trans h.1.1, (c.1 _ _ (by omega)).trans h.1.2.1, (c.1 _ _ (by omega)).trans h.1.2.2.1, (c.1 _ _ (by omega)).trans h.1.2.2.2.1, (c.1 _ _ (by omega)).trans h.1.2.2.2.2⟩, fun p hp => (c.1 _ _ (by omega)).trans (h.2 p hp)⟩
theorem KOw.ch {z : Sto} {lo hi : Nat} (h : KOw S k C R) (c : Ch lo hi S z) (q : hi < 344) : KOw z k C R :=
  ⟨fun p hp => ⟨(c.1 _ _ (by omega)).trans (h.1 p hp).1, (c.1 _ _ (by omega)).trans (h.1 p hp).2⟩, fun n hn => (c.1 _ _ (by omega)).trans (h.2 n hn)⟩
end KNEXT
