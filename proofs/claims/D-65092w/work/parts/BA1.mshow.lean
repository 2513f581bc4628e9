/-! what shows a fault: the reference's words -/
section MSHOW
variable {S : Sto} {k : Nat} {C : Chp}
theorem mask6 : ∀ b : Fin 6, ∀ i : Fin 64, tb (lShl 1 ((2 ^ b.val : Nat) : Int) - 1) i.val = decide (i.val < 2 ^ b.val) := by decide
theorem m_wordOfEnd {b : Nat → Nat → Bool} {n : Int} (hn : -2 ≤ n ∧ n < 256) (hv : ∀ i, i < 64 → 0 ≤ n → tb (gL S 2121 n.toNat) i = b i n.toNat) : WP (mX23_wordOfEnd S 2121 n) (fun v => ∀ i, i < 64 → tb v i = if n < 0 then decide (n = -2) else b i n.toNat) := by
  unfold mX23_wordOfEnd
  rw [w32_id (by omega)]
  by_cases q : n = -1
  · rw [if_pos q, bX_some]
    exact WP_some.2 (fun i hi => by rw [if_pos (by omega), decide_eq_false (by omega), tb_0])
  · rw [if_neg q]
    by_cases q2 : n = -2
    · rw [if_pos q2, bX_some]
      exact WP_some.2 (fun i hi => by rw [if_pos (by omega), decide_eq_true q2, tb_m1 hi])
    · rw [if_neg q2, rdL_e (by have : aN (kK 2121) = 256 := rfl; omega), bX_some]
      exact WP_some.2 (fun i hi => by rw [if_neg (by omega), hv i hi (by omega)])
def MRight (S : Sto) (C : Chp) (u : Nat) : Prop := ∀ i, i < 64 → (∀ j, j < kO C → tb (gL S 2176 j) i = kBit C (64 * u + i) (C 6 j)) ∧ ∀ j, j < kR C → tb (gL S 2176 (16 + j)) i = kBit C (64 * u + i) (C 7 j)
theorem m_layRight (r : RefK S k C) (w : WFC C) (hk : k < 4) {u : Nat} (hu : u < 64) : WP (mX23_layRight S (k : Int) (u : Int)) (fun z => MRight z C u) := by
  have hn := w.nums
  have w6 := w.2.2.2.1
  have w7 := w.2.2.2.2.1
  have eg := w.g
  have ei := w.i
  have er := w.r
  unfold mX23_layRight
  refine WP_callF (m_workNets (b := false) r w hk hu (by omega) (by omega) (fun i hi => tb_0)) fr_mX23_workNets (fun x hx hf => ?_)
  have kx : KeM S x := KeM.fr hf rfl
  have hv : ∀ (z : Sto), Ch 2176 2176 x z → ∀ n : Int, -2 ≤ n → n < kN C → WP (mX23_wordOfEnd z 2121 n) (fun v => ∀ i, i < 64 → tb v i = kBit C (64 * u + i) n) := fun z cz n n1 n2 =>
    (m_wordOfEnd (b := fun i m => kVal C (64 * u + i) m) (by omega) (fun i hi n0 => by rw [cz.2.1 2121 n.toNat (by omega)]; exact hx n.toNat (by omega) i hi)).mono (fun v hv i hi => hv i hi)
  have k1 : WP (lpF (mX23_layRight_L11 (k : Int)) (0, x)) (fun z => Ch 2176 2176 x z ∧ ∀ i, i < 64 → ∀ j, j < kO C → tb (gL z 2176 j) i = kBit C (64 * u + i) (C 6 j)) := by
    refine WP_cnt (kO C) (fun n z => z.1 = (n : Int) ∧ Ch 2176 2176 x z.2 ∧ ∀ i, i < 64 → ∀ j, j < n → tb (gL z.2 2176 j) i = kBit C (64 * u + i) (C 6 j)) (by unfold cFU; omega) ⟨rfl, Ch.refl, fun i hi j hj => absurd hj (Nat.not_lt_zero _)⟩ (fun n z hn' hI => ?_) (fun z hI => ?_)
    · obtain ⟨b1, b2, b3⟩ := hI
      have rz : RefK z.2 k C := (kx.K r).ch b2 (by omega)
      have eo := rz.1.2.2.1
      rw [w.o] at eo
      have e6 := rz.2.2.2.1 n hn'
      have w6n := w6 n hn'
      have zt : (16 * (k : Int) + (n : Int)).toNat = 16 * k + n := by omega
      unfold mX23_layRight_L11
      rw [rdI_e (by omega), Int.toNat_natCast, eo, b1, w32_id (by omega), w32_id (by omega), if_pos (by omega), rdI_e (by omega), zt, e6]
      refine WP_call (hv z.2 b2 (C 6 n) (by omega) (by omega)) (fun v hv' => ?_)
      rw [wrL_e (by omega), Int.toNat_natCast]
      refine WP_some.2 ⟨by show (n : Int) + 1 = _; omega, b2.sL (by omega), fun i hi j hj => ?_⟩
      dsimp only
      by_cases q : j = n
      · rw [q, gL_sLe ⟨rfl, rfl⟩]; exact hv' i hi
      · rw [gL_sLn (.inr q)]; exact b3 i hi j (by omega)
    · obtain ⟨b1, b2, b3⟩ := hI
      have rz : RefK z.2 k C := (kx.K r).ch b2 (by omega)
      have eo := rz.1.2.2.1
      rw [w.o] at eo
      unfold mX23_layRight_L11
      rw [rdI_e (by omega), Int.toNat_natCast, eo, b1, w32_id (by omega), if_neg (by omega)]
      exact WP_some.2 ⟨b2, b3⟩
  refine WP_call k1 (fun y hy => ?_)
  obtain ⟨y1, y2⟩ := hy
  have k2 : WP (lpF (mX23_layRight_L53 (k : Int)) (0, y)) (fun z => MRight z C u) := by
    refine WP_cnt (kR C) (fun n z => z.1 = (n : Int) ∧ Ch 2176 2176 x z.2 ∧ (∀ i, i < 64 → ∀ j, j < kO C → tb (gL z.2 2176 j) i = kBit C (64 * u + i) (C 6 j)) ∧ ∀ i, i < 64 → ∀ j, j < n → tb (gL z.2 2176 (16 + j)) i = kBit C (64 * u + i) (C 7 j)) (by unfold cFU; omega) ⟨rfl, y1, y2, fun i hi j hj => absurd hj (Nat.not_lt_zero _)⟩ (fun n z hn' hI => ?_) (fun z hI => ?_)
    · obtain ⟨b1, b2, b3, b4⟩ := hI
      have rz : RefK z.2 k C := (kx.K r).ch b2 (by omega)
      have eo := rz.1.2.1
      rw [w.r] at eo
      have e7 := rz.2.2.2.2.1 n hn'
      have w7n := w7 n hn'
      have zt : (6 * (k : Int) + (n : Int)).toNat = 6 * k + n := by omega
      have zt2 : (16 + (n : Int)).toNat = 16 + n := by omega
      unfold mX23_layRight_L53
      rw [rdI_e (by omega), Int.toNat_natCast, eo, b1, w32_id (by omega), w32_id (by omega), if_pos (by omega), rdI_e (by omega), zt, e7]
      refine WP_call (hv z.2 b2 (C 7 n) (by omega) (by omega)) (fun v hv' => ?_)
      rw [wrL_e (by omega), zt2]
      refine WP_some.2 ⟨by show (n : Int) + 1 = _; omega, b2.sL (by omega), fun i hi j hj => ?_, fun i hi j hj => ?_⟩
      · dsimp only; rw [gL_sLn (.inr (by omega))]; exact b3 i hi j hj
      · dsimp only
        by_cases q : j = n
        · rw [q, gL_sLe ⟨rfl, rfl⟩]; exact hv' i hi
        · rw [gL_sLn (.inr (by omega))]; exact b4 i hi j (by omega)
    · obtain ⟨b1, b2, b3, b4⟩ := hI
      have rz : RefK z.2 k C := (kx.K r).ch b2 (by omega)
      have eo := rz.1.2.1
      rw [w.r] at eo
      unfold mX23_layRight_L53
      rw [rdI_e (by omega), Int.toNat_natCast, eo, b1, w32_id (by omega), if_neg (by omega)]
      exact WP_some.2 (fun i hi => ⟨b3 i hi, b4 i hi⟩)
  refine WP_call k2 (fun z hz => WP_some.2 hz)
end MSHOW
