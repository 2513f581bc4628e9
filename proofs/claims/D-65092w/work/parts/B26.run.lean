/-! the states of chips -/
def setC (C : Chp) (f : Nat) (v : Int) : Chp := fun f' i => if f' = f then v else C f' i
theorem RepK.st {S S' : Sto} {L : Nat} {C : Chp} {v : Int} (h : RepK S L C) (e : ∀ a i, L ≤ a → a ≤ L + 21 → ¬ (a = L ∧ i = 5) → gI S' a i = gI S a i) (ev : gI S' L 5 = v) : RepK S' L (setC C 14 v) := by
  obtain ⟨⟨a1, a2, a3, a4, a5, a6, a7⟩, h2, h3, h4, h5, h6⟩ := h
  refine ⟨⟨(e _ _ (by omega) (by omega) (by omega)).trans a1, (e _ _ (by omega) (by omega) (by omega)).trans a2, (e _ _ (by omega) (by omega) (by omega)).trans a3, (e _ _ (by omega) (by omega) (by omega)).trans a4, (e _ _ (by omega) (by omega) (by omega)).trans a5, (e _ _ (by omega) (by omega) (by omega)).trans a6, ev⟩, fun n q1 => ?_, fun n q1 => ?_, fun n q1 => ?_, fun n q1 => ?_, fun n q1 => ?_⟩
  · exact (e _ _ (by omega) (by omega) (by omega)).trans (h2 n q1)
  · exact (e _ _ (by omega) (by omega) (by omega)).trans (h3 n q1)
  · exact (e _ _ (by omega) (by omega) (by omega)).trans (h4 n q1)
  · exact (e _ _ (by omega) (by omega) (by omega)).trans (h5 n q1)
  · have := h6 n q1
    exact ⟨(e _ _ (by omega) (by omega) (by omega)).trans this.1, (e _ _ (by omega) (by omega) (by omega)).trans this.2.1, (e _ _ (by omega) (by omega) (by omega)).trans this.2.2.1, (e _ _ (by omega) (by omega) (by omega)).trans this.2.2.2⟩
theorem RefK.st {S S' : Sto} {k : Nat} {C : Chp} {v : Int} (w : WFC C) (h : RefK S k C) (e : ∀ a i, ownC k a i → a ≠ 2110 → gI S' a i = gI S a i) (ev : gI S' 2110 k = v) : RefK S' k (setC C 14 v) := by
  obtain ⟨⟨a1, a2, a3, a4, a5, a6, a7⟩, h2, h3, h4, h5, h6⟩ := h
  have hn := w.nums
  refine ⟨⟨(e _ _ (ownC_1 (by omega)) (by omega)).trans a1, (e _ _ (ownC_1 (by omega)) (by omega)).trans a2, (e _ _ (ownC_1 (by omega)) (by omega)).trans a3, (e _ _ (ownC_1 (by omega)) (by omega)).trans a4, (e _ _ (ownC_1 (by omega)) (by omega)).trans a5, (e _ _ (ownC_1 (by omega)) (by omega)).trans a6, ev⟩, fun g hg => ?_, fun g hg => ?_, fun g hg => ?_, fun g hg => ?_, fun g hg => ?_⟩
  · have hg : g < kG C := hg
    exact (e 2112 _ ⟨by omega, show 150 * k ≤ _ by omega, show _ < 150 * k + 150 by omega⟩ (by omega)).trans (h2 g hg)
  · have hg : g < 3 * kG C := hg
    exact (e 2113 _ ⟨by omega, show 450 * k ≤ _ by omega, show _ < 450 * k + 450 by omega⟩ (by omega)).trans (h3 g hg)
  · have hg : g < kO C := hg
    exact (e 2114 _ ⟨by omega, show 16 * k ≤ _ by omega, show _ < 16 * k + 16 by omega⟩ (by omega)).trans (h4 g hg)
  · have hg : g < kR C := hg
    exact (e 2115 _ ⟨by omega, show 6 * k ≤ _ by omega, show _ < 6 * k + 6 by omega⟩ (by omega)).trans (h5 g hg)
  · have hg : g < kL C := hg
    have := h6 g hg
    exact ⟨(e 2117 _ ⟨by omega, show 12 * k ≤ _ by omega, show _ < 12 * k + 12 by omega⟩ (by omega)).trans this.1, (e 2118 _ ⟨by omega, show 12 * k ≤ _ by omega, show _ < 12 * k + 12 by omega⟩ (by omega)).trans this.2.1, (e 2119 _ ⟨by omega, show 12 * k ≤ _ by omega, show _ < 12 * k + 12 by omega⟩ (by omega)).trans this.2.2.1, (e 2120 _ ⟨by omega, show 12 * k ≤ _ by omega, show _ < 12 * k + 12 by omega⟩ (by omega)).trans this.2.2.2⟩
theorem WFC.st {C : Chp} {v : Int} (w : WFC C) (hv : 0 ≤ v ∧ v < 2 ^ kR C) : WFC (setC C 14 v) := by
  obtain ⟨w1, w2, w3, w4, w5, w6⟩ := w
  exact ⟨w1, w2, w3, w4, w5, w6.1, w6.2.1, hv.1, hv.2⟩
theorem setC_14 {C : Chp} {v : Int} : ∀ f i, f ≤ 12 → setC C 14 v f i = C f i := fun f i h => if_neg (by omega)
theorem WFX.st {C : Chp} {v : Int} (h : WFX C) : WFX (setC C 14 v) := h
theorem RepX.stC {S : Sto} {L : Nat} {C : Chp} {v : Int} (h : RepX S L C) : RepX S L (setC C 14 v) := by
  obtain ⟨hP, hW, hB, hF, hT⟩ := h
  refine ⟨hP, hW, hB, hF, hT.1, hT.2.1, hT.2.2.1, fun q f hf => ?_⟩
  have e := @setC_14 C v
  rw [kFa_cg e] at hf
  have := hT.2.2.2 q f hf
  rw [kLeast_cg e]
  exact ⟨this.1, fun p hp => by rw [kShow_cg e]; exact this.2 p hp⟩
theorem RefX.stC {S : Sto} {k : Nat} {C : Chp} {v : Int} (h : RefX S k C) : RefX S k (setC C 14 v) := by
  obtain ⟨hP, hW, hB, hF, hT⟩ := h
  have e := @setC_14 C v
  refine ⟨hP, hW, hB, hF, hT.1, hT.2.1, fun i f hi hf => ?_, fun f hf => ?_⟩
  · rw [kFa_cg e] at hf
    rw [kShow_cg e]
    exact hT.2.2.1 i f hi hf
  · rw [kFa_cg e] at hf
    rw [kLeast_cg e]
    exact hT.2.2.2 f hf
theorem RepX.st {S S' : Sto} {L : Nat} {C : Chp} {v : Int} (h : RepX S L C) (e : ∀ a i, L ≤ a → a ≤ L + 21 → ¬ (a = L ∧ i = 5) → gI S' a i = gI S a i) (eL : ∀ i, gL S' (L + 21) i = gL S (L + 21) i) : RepX S' L (setC C 14 v) := by
  have h1 : RepX (sI S L 5 (gI S' L 5)) L C := by
    obtain ⟨hP, hW, hB, hF, hT⟩ := h
    have e' : ∀ a i, ¬ (a = L ∧ i = 5) → gI (sI S L 5 (gI S' L 5)) a i = gI S a i := fun a i z => by rw [hI_sI, if_neg z]
    have eL' : ∀ a i, gL (sI S L 5 (gI S' L 5)) a i = gL S a i := fun _ _ => rfl
    refine ⟨?_, ?_, ?_, ?_, ?_⟩
    · unfold RepP at hP ⊢; simp (disch := omega) only [e']; exact hP
    · unfold RepW at hW ⊢; simp (disch := omega) only [e']; exact hW
    · unfold RepB at hB ⊢; simp (disch := omega) only [e']; exact hB
    · unfold RepF at hF ⊢; simp (disch := omega) only [e']; exact hF
    · unfold RepT at hT ⊢; simp (disch := omega) only [e', eL']; exact hT
  refine (h1.cg (S' := S') (fun a i l1 l2 => ?_) (fun i => eL i)).stC
  rw [hI_sI]
  split
  · rename_i z
    obtain ⟨rfl, rfl⟩ := z
    exact (w32_gI _ _ _).symm
  · rename_i z
    exact e a i l1 l2 z
theorem RefX.st {S S' : Sto} {k : Nat} {C : Chp} {v : Int} (w : WFC C) (wx : WFX C) (h : RefX S k C) (e : ∀ a i, ownC k a i → a ≠ 2110 → gI S' a i = gI S a i) (eL : ∀ i, ownC k 2175 i → gL S' 2175 i = gL S 2175 i) : RefX S' k (setC C 14 v) := by
  have h1 : RefX (sI S 2110 k (gI S' 2110 k)) k C := by
    obtain ⟨hP, hW, hB, hF, hT⟩ := h
    have e' : ∀ a i, a ≠ 2110 → gI (sI S 2110 k (gI S' 2110 k)) a i = gI S a i := fun a i z => hI_sI_a z
    have eL' : ∀ a i, gL (sI S 2110 k (gI S' 2110 k)) a i = gL S a i := fun _ _ => rfl
    refine ⟨?_, ?_, ?_, ?_, ?_⟩
    · unfold RefP at hP ⊢; simp (disch := omega) only [e']; exact hP
    · unfold RefW at hW ⊢; simp (disch := omega) only [e']; exact hW
    · unfold RefB at hB ⊢; simp (disch := omega) only [e']; exact hB
    · unfold RefF at hF ⊢; simp (disch := omega) only [e']; exact hF
    · unfold RefT at hT ⊢; simp (disch := omega) only [e', eL']; exact hT
  refine (h1.cg (S' := S') w wx (fun a i l => ?_) (fun i l => eL i l)).stC
  by_cases z : a = 2110
  · subst z
    have : i = k := by have h2 := l.2.1; have h3 := l.2.2; have : strC 2110 = 1 := rfl; rw [this] at h2 h3; omega
    subst this
    rw [hI_sI, if_pos ⟨rfl, rfl⟩, w32_gI]
  · rw [hI_sI_a z]; exact e a i l z
/-- the state of a chip is another one on both sides -/
theorem Inv.stC {c k : Nat} {S S' : Sto} {C : Chp} {v : Int} (h : Inv c S) (hk : k < 4) (w : WFC C) (r : RepK S (344 + 22 * k) C) (m : RefK S k C) (wx : WFX C) (rX : RepX S (344 + 22 * k) C) (mX : RefX S k C) (hv : 0 ≤ v ∧ v < 2 ^ kR C)
    (e : ∀ a i, kept a i = true → ¬ (a = 344 + 22 * k ∧ i = 5) → ¬ (a = 2110 ∧ i = k) → gI S' a i = gI S a i) (e1 : gI S' (344 + 22 * k) 5 = v) (e2 : gI S' 2110 k = v) (eL : ∀ a i, (a = 365 ∨ a = 387 ∨ a = 409 ∨ a = 431) ∨ a = 2175 → gL S' a i = gL S a i) (h1 : nC S' ≤ nC S + 10) (h2 : nS S' ≤ nS S + 20000) : Inv (c + 1) S' := by
  refine h.putC hk (fun a i q q1 q2 _ => e a i q (by omega) (fun z => q2 ?_)) (fun a i q _ _ => eL a i q) h1 h2 ?_
  · obtain ⟨rfl, rfl⟩ := z
    exact ownC_1 (by omega)
  · have hg := h.2.2.2.2.2.2 k hk
    have e434 : gI S' 434 k = gI S 434 k := e _ _ (kept_rng (by omega)) (by omega) (by omega)
    have ee : ∀ a i, 344 + 22 * k ≤ a → a ≤ 344 + 22 * k + 21 → ¬ (a = 344 + 22 * k ∧ i = 5) → gI S' a i = gI S a i := fun a i l1 l2 l3 => e _ _ (kept_rng (by omega)) l3 (by omega)
    have ef : ∀ a i, ownC k a i → a ≠ 2110 → gI S' a i = gI S a i := fun a i l1 l2 => e _ _ (ownC_kept l1) (by have := l1.1; omega) (by omega)
    unfold InvC at hg ⊢
    exact ⟨by rw [e434]; exact hg.1, by rw [e434, e 2105 k (kept_rng (by omega)) (by omega) (by omega)]; exact hg.2.1, fun _ => ⟨setC C 14 v, ⟨w.st hv, r.st ee e1, m.st w ef e2⟩, wx.st, rX.st ee (fun i => eL _ _ (by omega)), mX.st w wx ef (fun i l => eL _ _ (by omega))⟩⟩
theorem WFC.st64 {C : Chp} (w : WFC C) : 0 ≤ C 13 0 ∧ C 13 0 < 64 ∧ 0 ≤ C 14 0 ∧ C 14 0 < 64 := by
  have hn := w.nums
  have wv := w.2.2.2.2.2
  have q9 : 2 ^ kR C ≤ 2 ^ 6 := Nat.pow_le_pow_right (by omega) (by omega)
  have q8 := ipow (kR C)
  omega
section RUNS
variable {c : Nat} {S : Sto}
theorem L24 {p1 : Int} (h : Inv c S) (hc : c < 64) (h1 : i32 p1) : WP (mL_24 S p1) (Inv (c + 1)) := by
  have rx := h.1.x hc
  unfold mL_24 mX0_reset
  by_cases hq : isCh S p1
  · have hx := chipIn_t hq; obtain ⟨k, C, hk, rfl, w, r, m, wx, rX, mX⟩ := InvC.get h hq; rw [Int.toNat_natCast] at hx; have hn := w.nums; have eg := r.1.2.2.2.1; have em := m.1.2.2.2.1; rw [w.g] at eg em; have ei := r.1.1; have mi := m.1.1; rw [w.i] at ei mi; have er := r.1.2.1; have mr := m.1.2.1; rw [w.r] at er mr; have eo := r.1.2.2.1; have mo := m.1.2.2.1; rw [w.o] at eo mo; have el := r.1.2.2.2.2.1; have ml := m.1.2.2.2.2.1; rw [w.l] at el ml
    have wv := w.st64
    refine L_modS (m1 := fun S1 => mX23_reset S1 _) ?_
    simp (disch := omega) only [mX1_reset, hx, gI_thr, gz_0, gz_1, true_or, or_true, or_false, false_or, rdI_e, rdZ_e, rdL_e, wrI_e, wrL_e, bX_some, bE_inl, bE_inr, bT_inl, bT_inr, wf_eq, wfL_eq, wfR_eq, gkc_chip, gkc_dsg, gkc_lib, gk_chip, gk_dsg, gk_lib, gth_e rx, inside_0 rx, inside_1, need_0 rx, need_1, now_0 rx, now_1, roomX_0 rx, roomX_1, w32_id, w32_gI, ← Int.not_lt, not_true_eq_false, not_false_eq_true, if_true, if_false, reduceIte, Bool.false_eq_true, Int.toNat_natCast, Int.reduceToNat, Int.toNat_add, Int.toNat_mul, Int.reduceLT, Int.reduceEq, Int.reduceNeg, Nat.reduceAdd, hI_sI, and_self, Nat.reduceEqDiff, true_and, and_true, and_false, false_and, ne_eq, WP_some, WE_inl, r.1.2.2.2.2.2.1, r.1.2.2.2.2.2.2]
    generalize hS1 : sL (sI S (344 + 22 * k) 5 (C 13 0)) 2178 0 (i2l (C 14 0)) = S1
    have eS : ∀ a i, gI S1 a i = if a = 344 + 22 * k ∧ i = 5 then C 13 0 else gI S a i := fun a i => by rw [← hS1]; show gI (sI S (344 + 22 * k) 5 (C 13 0)) a i = _; rw [hI_sI, w32_id (by omega)]
    have eL : ∀ a i, ¬ (a = 2178 ∧ i = 0) → gL S1 a i = gL S a i := fun a i z => by rw [← hS1, gL_sL, if_neg z]; rfl
    have eN : ∀ a i, ¬ (a = 344 + 22 * k ∧ i = 5) → gI S1 a i = gI S a i := fun a i z => by rw [eS, if_neg z]
    simp (disch := omega) only [mX23_reset, m_isChip_w h (fun i => eN 434 i (by omega)) (fun i => eN 2105 i (by omega)) h1 hq, gI_thr, gz_0, gz_1, true_or, or_true, or_false, false_or, rdI_e, rdZ_e, rdL_e, wrI_e, wrL_e, bX_some, bE_inl, bE_inr, bT_inl, bT_inr, wf_eq, wfL_eq, wfR_eq, gkc_chip, gkc_dsg, gkc_lib, gk_chip, gk_dsg, gk_lib, gth_e rx, inside_0 rx, inside_1, need_0 rx, need_1, now_0 rx, now_1, roomX_0 rx, roomX_1, w32_id, w32_gI, ← Int.not_lt, not_true_eq_false, not_false_eq_true, if_true, if_false, reduceIte, Bool.false_eq_true, Int.toNat_natCast, Int.reduceToNat, Int.toNat_add, Int.toNat_mul, Int.reduceLT, Int.reduceEq, Int.reduceNeg, Nat.reduceAdd, hI_sI, and_self, Nat.reduceEqDiff, true_and, and_true, and_false, false_and, ne_eq, eN, m.1.2.2.2.2.2.1, m.1.2.2.2.2.2.2, WP_some]
    refine ⟨by rw [← hS1]; rfl, h.stC hk w r m wx rX mX (v := C 13 0) ⟨w.2.2.2.2.2.1, w.2.2.2.2.2.2.1⟩ (fun a i z z1 z2 => ?_) ?_ ?_ (fun a i z => ?_) (by rw [← hS1]; exact Nat.le_add_right _ _) (by rw [← hS1]; exact Nat.le_add_right _ _)⟩
    · rw [hI_sI, if_neg z2, hI_sI, if_neg, eN _ _ z1]
      rintro ⟨rfl, rfl⟩; exact absurd z (by decide)
    · rw [hI_sI_a (by omega), hI_sI_a (by omega), eS, if_pos ⟨rfl, rfl⟩]
    · rw [hI_sI, if_pos ⟨rfl, rfl⟩, w32_id (by omega)]
    · show gL S1 a i = _
      exact eL a i (by omega)
  · refine L_modF (m1 := fun S1 => mX23_reset S1 _) 1 1 h hc ?_ rfl (by omega) (fun S1 eS => ?_)
    · rw [mX1_reset, chipIn_f hq rx h1]; rfl
    · unfold mX23_reset; rw [m_isChip_f h eS h1 hq]; rfl
end RUNS
