/-! a chip of which the places are others, and the wires and boxes are lost -/
section FCS
variable {C C' : Chp} {S : Sto} {L k : Nat}
theorem kL_cg (e : ∀ f i, f ≤ 12 → C' f i = C f i) : kL C' = kL C := by unfold kL; rw [e _ _ (by omega)]
theorem WFC.fc (w : WFC C) (e : ∀ f i, f ≤ 14 → C' f i = C f i) : WFC C' := by
  have e12 : ∀ f i, f ≤ 12 → C' f i = C f i := fun f i h => e f i (by omega)
  obtain ⟨n1, n2, n3, n4, n5, n6, n7, n8, n9⟩ := kNums_cg e12
  have n10 := kL_cg e12
  unfold WFC at w ⊢
  rw [n2, n3, n4, n10]
  simp (disch := omega) only [e, n7]
  exact w
theorem RepK.fc (h : RepK S L C) (e : ∀ f i, f ≤ 14 → C' f i = C f i) : RepK S L C' := by
  have e12 : ∀ f i, f ≤ 12 → C' f i = C f i := fun f i h => e f i (by omega)
  obtain ⟨n1, n2, n3, n4, n5, n6, n7, n8, n9⟩ := kNums_cg e12
  have n10 := kL_cg e12
  unfold RepK at h ⊢
  rw [n2, n3, n4, n10]
  simp (disch := omega) only [e]
  exact h
theorem RefK.fc (h : RefK S k C) (e : ∀ f i, f ≤ 14 → C' f i = C f i) : RefK S k C' := by
  have e12 : ∀ f i, f ≤ 12 → C' f i = C f i := fun f i h => e f i (by omega)
  obtain ⟨n1, n2, n3, n4, n5, n6, n7, n8, n9⟩ := kNums_cg e12
  have n10 := kL_cg e12
  unfold RefK at h ⊢
  rw [n2, n3, n4, n10]
  simp (disch := omega) only [e]
  exact h
theorem RepF.fc (h : RepF S L C) (e : ∀ f i, 25 ≤ f → f ≤ 27 → C' f i = C f i) : RepF S L C' := by
  unfold RepF kFs at h ⊢
  simp (disch := omega) only [e]
  exact h
theorem RefF.fc (h : RefF S k C) (e : ∀ f i, 25 ≤ f → f ≤ 27 → C' f i = C f i) : RefF S k C' := by
  unfold RefF kFs at h ⊢
  simp (disch := omega) only [e]
  exact h
theorem WFF.fc (h : WFF C) (e0 : ∀ f i, f ≤ 12 → C' f i = C f i) (e : ∀ f i, 25 ≤ f → f ≤ 27 → C' f i = C f i) : WFF C' := by
  obtain ⟨n1, n2, n3, n4, n5, n6, n7, n8, n9⟩ := kNums_cg e0
  unfold WFF kFs at h ⊢
  rw [n2, n3, n5]
  simp (disch := omega) only [e]
  exact h
end FCS
theorem lost {k L : Nat} {S S' : Sto} {C C' : Chp} (w : WFC C) (wx : WFX C) (r : RepK S L C) (m : RefK S k C) (rX : RepX S L C) (mX : RefX S k C)
    (ec : ∀ f i, f ≤ 14 → C' f i = C f i) (ec2 : ∀ f i, 25 ≤ f → f ≤ 30 → C' f i = C f i) (h19 : C' 19 0 = 0) (h23 : C' 23 0 = -1) (hP : WFP C') (rP : RepP S' L C') (mP : RefP S' k C')
    (e : ∀ a i, L ≤ a → a ≤ L + 21 → ¬ (a = L ∧ (i = 11 ∨ i = 12 ∨ i = 13 ∨ i = 16 ∨ i = 20)) → a ≠ L + 10 → a ≠ L + 11 → gI S' a i = gI S a i) (eL : ∀ i, gL S' (L + 21) i = gL S (L + 21) i)
    (x16 : gI S' L 16 = 0) (x20 : gI S' L 20 = -1) (e' : ∀ a i, ownC k a i → ¬ (a = 2122 ∨ a = 2123 ∨ a = 2134 ∨ a = 2146 ∨ a = 2124 ∨ a = 2125) → gI S' a i = gI S a i) (eL' : ∀ i, ownC k 2175 i → gL S' 2175 i = gL S 2175 i)
    (y34 : gI S' 2134 k = 0) (y46 : gI S' 2146 k = 0) : (WFC C' ∧ RepK S' L C' ∧ RefK S' k C') ∧ WFX C' ∧ RepX S' L C' ∧ RefX S' k C' := by
  have e12 : ∀ f i, f ≤ 12 → C' f i = C f i := fun f i h => ec f i (by omega)
  have ef : ∀ f i, 25 ≤ f → f ≤ 27 → C' f i = C f i := fun f i h1 h2 => ec2 f i h1 (by omega)
  have et : ∀ f i, 28 ≤ f → f ≤ 30 → C' f i = C f i := fun f i h1 h2 => ec2 f i (by omega) h2
  have hb : kBx C' = 0 := by unfold kBx; rw [h23]; rfl
  have hn := w.nums
  have hfa := kFa_le w
  have hf : kFs C ≤ 40 := by have := wx.2.2.2.1.1; unfold kFs; omega
  have hs : kSn C ≤ 1224 := by have := wx.2.2.2.2.1; unfold kSn; omega
  obtain ⟨_, _, _, rF, rT⟩ := rX
  obtain ⟨_, _, _, mF, mT⟩ := mX
  have r1 : RepK S' L C := by
    obtain ⟨z1, z2, z3, z4, z5, z6⟩ := r
    refine ⟨?_, fun g hg => ?_, fun g hg => ?_, fun g hg => ?_, fun g hg => ?_, fun g hg => ?_⟩
    · simp (disch := omega) only [e]; exact z1
    · rw [e _ _ (by omega) (by omega) (by omega) (by omega) (by omega)]; exact z2 g hg
    · rw [e _ _ (by omega) (by omega) (by omega) (by omega) (by omega)]; exact z3 g hg
    · rw [e _ _ (by omega) (by omega) (by omega) (by omega) (by omega)]; exact z4 g hg
    · rw [e _ _ (by omega) (by omega) (by omega) (by omega) (by omega)]; exact z5 g hg
    · simp (disch := omega) only [e]; exact z6 g hg
  have m1 : RefK S' k C := m.cg' w (fun a i l l2 => e' a i l (by omega))
  refine ⟨⟨w.fc ec, r1.fc ec, m1.fc ec⟩, ⟨hP, ⟨.inl h19, fun g => ?_⟩, ⟨⟨by rw [h23]; omega, by rw [h23]; omega, fun g => absurd h23 g⟩, fun b hb' => ?_⟩, wx.2.2.2.1.fc e12 ef, wx.2.2.2.2.fc e12 et⟩, ⟨rP, ⟨by rw [h19]; exact x16, fun g => ?_⟩, ⟨by rw [h23]; exact x20, fun i hi => ?_⟩, ?_, ?_⟩, ⟨mP, ⟨by rw [h19]; exact y34, fun g => ?_⟩, ⟨by rw [h23]; exact y46, fun g => absurd h23 g, fun i hi => ?_⟩, ?_, ?_⟩⟩
  · rw [h19] at g; exact absurd g (by decide)
  · rw [hb] at hb'; exact absurd hb' (Nat.not_lt_zero _)
  · rw [h19] at g; exact absurd g (by decide)
  · rw [hb] at hi; exact absurd hi (Nat.not_lt_zero _)
  · have : RepF S' L C := by unfold RepF at rF ⊢; simp (disch := omega) only [e]; exact rF
    exact this.fc ef
  · have : RepT S' L C := by unfold RepT at rT ⊢; simp (disch := omega) only [e, eL]; exact rT
    exact this.fc e12 et
  · rw [h19] at g; exact absurd g (by decide)
  · rw [hb] at hi; exact absurd hi (Nat.not_lt_zero _)
  · have : RefF S' k C := by
      refine ⟨?_, fun i hi => ?_⟩
      · rw [e' 2155 k (ownC_1 (by omega)) (by omega)]; exact mF.1
      · rw [e' 2156 _ ⟨by omega, show 40 * k ≤ _ by omega, show _ < 40 * k + 40 by omega⟩ (by omega), e' 2157 _ ⟨by omega, show 40 * k ≤ _ by omega, show _ < 40 * k + 40 by omega⟩ (by omega)]; exact mF.2 i hi
    exact this.fc ef
  · have : RefT S' k C := by
      refine ⟨?_, fun i hi => ?_, fun i f hi hf' => ?_, fun f hf' => ?_⟩
      · rw [e' 2172 k (ownC_1 (by omega)) (by omega)]; exact mT.1
      · rw [e' 2173 _ ⟨by omega, show 1280 * k ≤ _ by omega, show _ < 1280 * k + 1280 by omega⟩ (by omega), e' 2174 _ ⟨by omega, show 1280 * k ≤ _ by omega, show _ < 1280 * k + 1280 by omega⟩ (by omega)]; exact mT.2.1 i hi
      · rw [eL' _ ⟨by omega, show 25600 * k ≤ _ by omega, show _ < 25600 * k + 25600 by omega⟩]; exact mT.2.2.1 i f hi hf'
      · rw [e' 2177 _ ⟨by omega, show 1280 * k ≤ _ by omega, show _ < 1280 * k + 1280 by omega⟩ (by omega)]; exact mT.2.2.2 f hf'
    exact this.fc e12 et
