/-! a pattern added to the reference's set -/
section MADD
variable {S : Sto} {k : Nat} {C : Chp}
theorem m_add80 (r : RefK S k C) (w : WFC C) (hk : k < 4) {n p : Nat} (hn : n < 1224) (hp : p < 2 ^ kB C) (hR : MRight S C (p / 64)) (h0 : ∀ j, j < 20 → gL S 2175 (20 * (1280 * k + n) + j) = 0) :
    WP (lpF (mX23_addPattern_L80 (k : Int) (p : Int) (n : Int)) (0, S)) (fun z => (∀ a j, (a = 2172 ∨ a = 2173 ∨ a = 2174 ∨ a = 2175) → gI z a j = gI S a j) ∧ (∀ j, (j < 20 * (1280 * k + n) ∨ 20 * (1280 * k + n + 1) ≤ j) → gL z 2175 j = gL S 2175 j) ∧ ∀ f, f < kFa C → tb (gL z 2175 (20 * (1280 * k + n) + f / 64)) (f % 64) = kShow C f p) := by
  have hnn := w.nums
  have fa := kFa_le w
  have p12 : 2 ^ kB C ≤ 4096 := Nat.pow_le_pow_right (n := 2) (by omega) hnn.2.1
  have s6 : aShr (p : Int) 6 = ((p / 64 : Nat) : Int) := by rw [aShr_6, w32_id (by omega)]; omega
  have s63 : aAnd (p : Int) 63 = ((p % 64 : Nat) : Int) := by rw [aAnd_63]; omega
  refine WP_cnt (kFa C) (fun f z => z.1 = (f : Int) ∧ KeM S z.2 ∧ MRight z.2 C (p / 64) ∧ (∀ a j, (a = 2172 ∨ a = 2173 ∨ a = 2174 ∨ a = 2175) → gI z.2 a j = gI S a j) ∧ (∀ j, (j < 20 * (1280 * k + n) ∨ 20 * (1280 * k + n + 1) ≤ j) → gL z.2 2175 j = gL S 2175 j) ∧ ∀ g, g < 1280 → tb (gL z.2 2175 (20 * (1280 * k + n) + g / 64)) (g % 64) = (decide (g < f) && kShow C g p)) (by unfold cFU; omega)
    ⟨rfl, KeM.refl, hR, fun _ _ _ => rfl, fun _ _ => rfl, fun g hg => by dsimp only; rw [h0 _ (by omega), tb_0, decide_eq_false (Nat.not_lt_zero _), Bool.false_and]⟩ (fun f z hf hI => ?_) (fun z hI => ?_)
  · obtain ⟨b1, b2, b3, b4, b5, b6⟩ := hI
    have rz := b2.K r
    have f6 : aShr (f : Int) 6 = ((f / 64 : Nat) : Int) := by rw [aShr_6, w32_id (by omega)]; omega
    have f63 : aAnd (f : Int) 63 = ((f % 64 : Nat) : Int) := by rw [aAnd_63]; omega
    have zt : (20 * (1280 * (k : Int) + (n : Int)) + ((f / 64 : Nat) : Int)).toNat = 20 * (1280 * k + n) + f / 64 := by omega
    unfold mX23_addPattern_L80
    rw [m_faultCount rz w hk, bX_some, b1, w32_id (by omega), w32_id (by omega), if_pos (by omega), s6]
    refine WP_callF (m_shownWord rz w hk (by omega) hf b3) fr_mX23_shownWord (fun x hx hg => ?_)
    have kx := b2.tr (KeM.fr hg rfl)
    have t := hx (p % 64) (by omega)
    have msk : (decide (6 ≤ kB C) || decide (p % 64 < 2 ^ kB C)) = true := by
      have : p % 64 ≤ p := Nat.mod_le _ _
      rw [decide_eq_true (show p % 64 < 2 ^ kB C by omega), Bool.or_true]
    rw [show 64 * (p / 64) + p % 64 = p by omega, msk, Bool.and_true] at t
    have q := ush_is1 (x := x.1) (k := p % 64) (by omega)
    rw [t] at q
    have eL : ∀ j, gL x.2 2175 j = gL z.2 2175 j := fun j => hg.el rfl
    have eR : ∀ j, gL x.2 2176 j = gL z.2 2176 j := fun j => hg.el rfl
    rw [f6, f63, s63, rdL_e (by omega), zt, eL]
    refine WP_call (R := fun y => ∀ i, i < 64 → tb y i = (decide (i = f % 64) && kShow C f p)) ?_ (fun y hy => ?_)
    · cases e : kShow C f p with
      | true =>
        rw [e] at q
        rw [if_pos (show w32 (lCmp (lUsh x.1 ((p % 64 : Nat) : Int) &&& 1) 1) = 0 by rw [q]), if_pos (by decide)]
        exact WP_some.2 (fun i hi => by rw [tb_bit (by omega) hi, Bool.and_true])
      | false =>
        rw [e] at q
        rw [if_neg (show ¬ w32 (lCmp (lUsh x.1 ((p % 64 : Nat) : Int) &&& 1) 1) = 0 by rw [q]; decide), if_neg (by decide)]
        exact WP_some.2 (fun i hi => by rw [tb_0, Bool.and_false])
    rw [wrL_e (by omega), zt]
    refine WP_some.2 ⟨by show (f : Int) + 1 = _; omega, kx.sL, fun i hi => ⟨fun j hj => ?_, fun j hj => ?_⟩, fun a j ha => ?_, fun j hj => ?_, fun g hg' => ?_⟩
    · dsimp only; rw [gL_sLn (.inl (by omega)), eR]; exact (b3 i hi).1 j hj
    · dsimp only; rw [gL_sLn (.inl (by omega)), eR]; exact (b3 i hi).2 j hj
    · dsimp only
      rw [gI_sL, ← b4 a j ha]
      rcases ha with rfl | rfl | rfl | rfl <;> exact hg.ei rfl
    · dsimp only; rw [gL_sLn (.inr (by omega)), eL]; exact b5 j hj
    · dsimp only
      have old := b6 g hg'
      by_cases l : g / 64 = f / 64
      · rw [l, gL_sLe ⟨rfl, rfl⟩, tb_or, hy _ (by omega)]
        rw [l] at old
        rw [old]
        by_cases m : g = f
        · subst m
          rw [decide_eq_false (show ¬ g < g by omega), decide_eq_true rfl, decide_eq_true (show g < g + 1 by omega)]; rfl
        · rw [decide_eq_false (show ¬ g % 64 = f % 64 by omega), Bool.false_and, Bool.or_false]
          by_cases m2 : g < f
          · rw [decide_eq_true m2, decide_eq_true (show g < f + 1 by omega)]
          · rw [decide_eq_false m2, decide_eq_false (show ¬ g < f + 1 by omega)]
      · rw [gL_sLn (.inr (by omega)), eL, old]
        by_cases m2 : g < f
        · rw [decide_eq_true m2, decide_eq_true (show g < f + 1 by omega)]
        · rw [decide_eq_false m2, decide_eq_false (show ¬ g < f + 1 by omega)]
  · obtain ⟨b1, b2, b3, b4, b5, b6⟩ := hI
    unfold mX23_addPattern_L80
    rw [m_faultCount (b2.K r) w hk, bX_some, b1, w32_id (by omega), if_neg (by omega)]
    exact WP_some.2 ⟨b4, b5, fun f hf => by rw [b6 f (by omega), decide_eq_true hf, Bool.true_and]⟩
end MADD
