/-! add: a box more -/
def okA (p2 p3 p4 p5 p6 : Int) : Prop := (0 ≤ p2 ∧ p2 ≤ 2) ∧ (-1000 ≤ p3 ∧ p3 < p5 ∧ p5 ≤ 1000) ∧ (-1000 ≤ p4 ∧ p4 < p6 ∧ p6 ≤ 1000)
theorem k_isPlace {p : Int} (hp : -2147483648 ≤ p ∧ p < 2147483648) : mX1_isPlace p = some (if -1000 ≤ p ∧ p ≤ 1000 then 1 else 0) := by
  unfold mX1_isPlace
  rw [w32_id hp]
  by_cases q1 : -1000 ≤ p
  · by_cases q2 : p ≤ 1000
    · rw [if_pos q1, if_pos q2, if_pos ⟨q1, q2⟩]; rfl
    · rw [if_pos q1, if_neg q2, if_neg (fun g => q2 g.2)]; rfl
  · rw [if_neg q1, if_neg (fun g => q1 g.1)]; rfl
theorem m_isSpan {a b : Int} (ha : -2147483648 ≤ a ∧ a < 2147483648) (hb : -2147483648 ≤ b ∧ b < 2147483648) : mX23_isSpan a b = some (if -1000 ≤ a ∧ a < b ∧ b ≤ 1000 then 1 else 0) := by
  unfold mX23_isSpan
  rw [w32_id ha, w32_id hb]
  by_cases q1 : -1000 ≤ a
  · by_cases q2 : a < b
    · by_cases q3 : b ≤ 1000
      · rw [if_pos q1, if_pos q2, if_pos q3, if_pos ⟨q1, q2, q3⟩]; rfl
      · rw [if_pos q1, if_pos q2, if_neg q3, if_neg (fun g => q3 g.2.2)]; rfl
    · rw [if_pos q1, if_neg q2, if_neg (fun g => q2 g.2.1)]; rfl
  · rw [if_neg q1, if_neg (fun g => q1 g.1)]; rfl
/-- what the class asks of a box -/
theorem k_okA {p2 p3 p4 p5 p6 : Int} (h2 : -2147483648 ≤ p2 ∧ p2 < 2147483648) (h3 : -2147483648 ≤ p3 ∧ p3 < 2147483648) (h4 : -2147483648 ≤ p4 ∧ p4 < 2147483648) (h5 : -2147483648 ≤ p5 ∧ p5 < 2147483648) (h6 : -2147483648 ≤ p6 ∧ p6 < 2147483648) [Decidable (okA p2 p3 p4 p5 p6)] :
    (bX (if 0 ≤ w32 p2 then if w32 p2 ≤ 2 then bX (mX1_isPlace p3) fun x2 => if ¬ w32 x2 = 0 then bX (mX1_isPlace p4) fun x3 => if ¬ w32 x3 = 0 then bX (mX1_isPlace p5) fun x4 => if ¬ w32 x4 = 0 then bX (mX1_isPlace p6) fun x5 => if ¬ w32 x5 = 0 then if w32 p3 < w32 p5 then if w32 p4 < w32 p6 then some true else some false else some false else some false else some false else some false else some false else some false else some false) fun b => if b = true then some (1 : Int) else some 0) = some (if okA p2 p3 p4 p5 p6 then 1 else 0) := by
  have t1 : ¬ w32 1 = 0 := by decide
  have t0 : ¬ ¬ w32 0 = 0 := by decide
  rw [k_isPlace h3, k_isPlace h4, k_isPlace h5, k_isPlace h6, w32_id h2, w32_id h3, w32_id h4, w32_id h5, w32_id h6]
  by_cases g1 : 0 ≤ p2
  · rw [if_pos g1]
    by_cases g2 : p2 ≤ 2
    · rw [if_pos g2]
      by_cases g3 : -1000 ≤ p3 ∧ p3 ≤ 1000
      · rw [if_pos g3, bX_some, if_pos t1]
        by_cases g4 : -1000 ≤ p4 ∧ p4 ≤ 1000
        · rw [if_pos g4, bX_some, if_pos t1]
          by_cases g5 : -1000 ≤ p5 ∧ p5 ≤ 1000
          · rw [if_pos g5, bX_some, if_pos t1]
            by_cases g6 : -1000 ≤ p6 ∧ p6 ≤ 1000
            · rw [if_pos g6, bX_some, if_pos t1]
              by_cases g7 : p3 < p5
              · rw [if_pos g7]
                by_cases g8 : p4 < p6
                · rw [if_pos g8, if_pos (by unfold okA; omega)]; rfl
                · rw [if_neg g8, if_neg (by unfold okA; omega)]; rfl
              · rw [if_neg g7, if_neg (by unfold okA; omega)]; rfl
            · rw [if_neg g6, bX_some, if_neg t0, if_neg (by unfold okA; omega)]; rfl
          · rw [if_neg g5, bX_some, if_neg t0, if_neg (by unfold okA; omega)]; rfl
        · rw [if_neg g4, bX_some, if_neg t0, if_neg (by unfold okA; omega)]; rfl
      · rw [if_neg g3, bX_some, if_neg t0, if_neg (by unfold okA; omega)]; rfl
    · rw [if_neg g2, if_neg (by unfold okA; omega)]; rfl
  · rw [if_neg g1, if_neg (by unfold okA; omega)]; rfl
/-- what the reference asks of it -/
theorem m_okA {p2 p3 p4 p5 p6 : Int} (h2 : -2147483648 ≤ p2 ∧ p2 < 2147483648) (h3 : -2147483648 ≤ p3 ∧ p3 < 2147483648) (h4 : -2147483648 ≤ p4 ∧ p4 < 2147483648) (h5 : -2147483648 ≤ p5 ∧ p5 < 2147483648) (h6 : -2147483648 ≤ p6 ∧ p6 < 2147483648) [Decidable (okA p2 p3 p4 p5 p6)] :
    (bX (mX23_within p2 0 2) fun x2 => (if ¬ w32 x2 = 0 then bX (mX23_isSpan p3 p5) fun x3 => if ¬ w32 x3 = 0 then bX (mX23_isSpan p4 p6) fun x4 => if w32 x4 = 0 then some true else some false else some true else some true)) = some (!decide (okA p2 p3 p4 p5 p6)) := by
  have t1 : ¬ w32 1 = 0 := by decide
  have t0 : ¬ ¬ w32 0 = 0 := by decide
  rw [m_within h2 (by omega) (by omega), m_isSpan h3 h5, m_isSpan h4 h6, bX_some]
  by_cases g1 : p2 < 0
  · rw [if_neg (show ¬ ¬ p2 < 0 from fun g => g g1), if_neg t0, decide_eq_false (by unfold okA; omega)]; rfl
  · by_cases g2 : 2 < p2
    · rw [if_pos g1, if_neg (show ¬ ¬ 2 < p2 from fun g => g g2), if_neg t0, decide_eq_false (by unfold okA; omega)]; rfl
    · rw [if_pos g1, if_pos g2, if_pos t1, bX_some]
      by_cases g3 : -1000 ≤ p3 ∧ p3 < p5 ∧ p5 ≤ 1000
      · rw [if_pos g3, if_pos t1, bX_some]
        by_cases g4 : -1000 ≤ p4 ∧ p4 < p6 ∧ p6 ≤ 1000
        · rw [if_pos g4, if_neg t1, decide_eq_true (by unfold okA; omega)]; rfl
        · rw [if_neg g4, if_pos (show w32 0 = 0 from rfl), decide_eq_false (by unfold okA; omega)]; rfl
      · rw [if_neg g3, if_neg t0, decide_eq_false (by unfold okA; omega)]; rfl
def adV (p2 p3 p4 p5 p6 : Int) (j : Nat) : Int := if j = 0 then p2 else if j = 1 then p3 else if j = 2 then p4 else if j = 3 then p5 else p6
def adC (C : Chp) (v : Nat → Int) : Chp := fun f i => if f = 23 then C 23 0 + 1 else if f = 24 then (if i < 5 * kBx C then C 24 i else v (i - 5 * kBx C)) else C f i
theorem adC_o {C : Chp} {v : Nat → Int} {f i : Nat} (h : f ≠ 23) (h' : f ≠ 24) : adC C v f i = C f i := by unfold adC; rw [if_neg h, if_neg h']
theorem adC_24 {C : Chp} {v : Nat → Int} {i : Nat} : adC C v 24 i = if i < 5 * kBx C then C 24 i else v (i - 5 * kBx C) := rfl
theorem WFB_adC {C : Chp} {p2 p3 p4 p5 p6 : Int} (w : WFB C) (h0 : C 23 0 ≠ -1) (h1 : C 23 0 < 2000) (g : okA p2 p3 p4 p5 p6) : WFB (adC C (adV p2 p3 p4 p5 p6)) := by
  have hw := w.1
  have e23 : adC C (adV p2 p3 p4 p5 p6) 23 0 = C 23 0 + 1 := rfl
  have hk : kBx (adC C (adV p2 p3 p4 p5 p6)) = kBx C + 1 := by unfold kBx; rw [e23]; omega
  refine ⟨⟨by rw [e23]; omega, by rw [e23]; omega, fun _ => hw.2.2 h0⟩, fun b' hb' => ?_⟩
  rw [hk] at hb'
  simp only [adC_24]
  by_cases q : b' < kBx C
  · rw [if_pos (by omega), if_pos (by omega), if_pos (by omega), if_pos (by omega), if_pos (by omega)]
    exact w.2 b' q
  · have e : b' = kBx C := by omega
    subst e
    rw [if_neg (by omega), if_neg (by omega), if_neg (by omega), if_neg (by omega), if_neg (by omega)]
    have z0 : 5 * kBx C - 5 * kBx C = 0 := by omega
    have z1 : 5 * kBx C + 1 - 5 * kBx C = 1 := by omega
    have z2 : 5 * kBx C + 2 - 5 * kBx C = 2 := by omega
    have z3 : 5 * kBx C + 3 - 5 * kBx C = 3 := by omega
    have z4 : 5 * kBx C + 4 - 5 * kBx C = 4 := by omega
    rw [z0, z1, z2, z3, z4]
    unfold okA at g
    show 0 ≤ p2 ∧ p2 ≤ 2 ∧ -1000 ≤ p3 ∧ p3 < p5 ∧ p5 ≤ 1000 ∧ -1000 ≤ p4 ∧ p4 < p6 ∧ p6 ≤ 1000
    omega
/-- five numbers in a row -/
def five (S : Sto) (T b : Nat) (p2 p3 p4 p5 p6 : Int) : Sto := sI (sI (sI (sI (sI S T b p2) T (b + 1) p3) T (b + 2) p4) T (b + 3) p5) T (b + 4) p6
theorem five_a {S : Sto} {T b a i : Nat} {p2 p3 p4 p5 p6 : Int} (h : ¬ (a = T ∧ b ≤ i ∧ i < b + 5)) : gI (five S T b p2 p3 p4 p5 p6) a i = gI S a i := by
  unfold five
  rw [hI_sI, if_neg (by omega), hI_sI, if_neg (by omega), hI_sI, if_neg (by omega), hI_sI, if_neg (by omega), hI_sI, if_neg (by omega)]
theorem five_e {S : Sto} {T b j : Nat} {p2 p3 p4 p5 p6 : Int} (g : okA p2 p3 p4 p5 p6) (hj : j < 5) : gI (five S T b p2 p3 p4 p5 p6) T (b + j) = adV p2 p3 p4 p5 p6 j := by
  unfold okA at g
  unfold five
  have z : j = 0 ∨ j = 1 ∨ j = 2 ∨ j = 3 ∨ j = 4 := by omega
  rcases z with rfl | rfl | rfl | rfl | rfl
  · rw [hI_sI_i (by omega), hI_sI_i (by omega), hI_sI_i (by omega), hI_sI_i (by omega)]; exact gI_set.trans (w32_id (by omega))
  · rw [hI_sI_i (by omega), hI_sI_i (by omega), hI_sI_i (by omega), gI_set, w32_id (by omega)]; rfl
  · rw [hI_sI_i (by omega), hI_sI_i (by omega), gI_set, w32_id (by omega)]; rfl
  · rw [hI_sI_i (by omega), gI_set, w32_id (by omega)]; rfl
  · rw [gI_set, w32_id (by omega)]; rfl
theorem m_lay {T : Sto} {k n : Nat} {p2 p3 p4 p5 p6 : Int} (h89 : gI T 2000 189 = 0) (h77 : gI T 2000 177 = (k : Int)) (h88 : gI T 2000 188 = (n : Int)) (hk : k < 4) (hn : n < 2000) : mX23_lay T p2 p3 p4 p5 p6 = some (sI (five T 2148 (10000 * k + 5 * n) p2 p3 p4 p5 p6) 2000 188 ((n : Int) + 1)) := by
  have y0 : (5 * (2000 * (k : Int) + (n : Int))).toNat = 10000 * k + 5 * n := by omega
  have y1 : (5 * (2000 * (k : Int) + (n : Int)) + 1).toNat = 10000 * k + 5 * n + 1 := by omega
  have y2 : (5 * (2000 * (k : Int) + (n : Int)) + 2).toNat = 10000 * k + 5 * n + 2 := by omega
  have y3 : (5 * (2000 * (k : Int) + (n : Int)) + 3).toNat = 10000 * k + 5 * n + 3 := by omega
  have y4 : (5 * (2000 * (k : Int) + (n : Int)) + 4).toNat = 10000 * k + 5 * n + 4 := by omega
  have f88 : gI (five T 2148 (10000 * k + 5 * n) p2 p3 p4 p5 p6) 2000 188 = (n : Int) := by rw [five_a (by omega)]; exact h88
  unfold mX23_lay
  rw [h89, h77, h88, bz_0, if_pos w32_0, wrI_e (by omega), wrI_e (by omega), wrI_e (by omega), wrI_e (by omega), wrI_e (by omega), y0, y1, y2, y3, y4, bX_some, wf_eq]
  show some (sI (five T 2148 (10000 * k + 5 * n) p2 p3 p4 p5 p6) 2000 188 (gI (five T 2148 (10000 * k + 5 * n) p2 p3 p4 p5 p6) 2000 188 + 1)) = _
  rw [f88]
