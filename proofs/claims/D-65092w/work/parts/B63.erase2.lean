/-! erase: the call -/
section ERA2
variable {c : Nat} {S : Sto}
theorem L37 {p1 p2 : Int} (h : Inv c S) (hc : c < 64) (h1 : i32 p1) (h2 : i32 p2) : WP (mL_37 S p1 p2) (Inv (c + 1)) := by
  have rx := h.1.x hc
  unfold mL_37 mX0_erase
  by_cases hq : isCh S p1
  · have hx := chipIn_t hq; obtain ⟨k, C, hk, rfl, w, r, m, wx, rX, mX⟩ := InvC.get h hq; rw [Int.toNat_natCast] at hx; have hn := w.nums; have eg := r.1.2.2.2.1; have em := m.1.2.2.2.1; rw [w.g] at eg em; have ei := r.1.1; have mi := m.1.1; rw [w.i] at ei mi; have er := r.1.2.1; have mr := m.1.2.1; rw [w.r] at er mr; have eo := r.1.2.2.1; have mo := m.1.2.2.1; rw [w.o] at eo mo; have el := r.1.2.2.2.2.1; have ml := m.1.2.2.2.2.1; rw [w.l] at el ml
    unfold i32 at h2
    have e23 := rX.2.2.1.1
    have f23 := mX.2.2.1.1
    have g23 := mX.2.2.1.2.1
    have wB := wx.2.2.1
    have wb := wB.1
    by_cases q1 : p2 < 0
    · refine L_modF (m1 := fun S1 => mX23_erase S1 _ _) 1 1 h hc ?_ rfl (by omega) (fun S1 eS => ?_)
      · simp (disch := omega) only [mX1_erase, hx, gI_thr, gz_0, gz_1, true_or, or_true, or_false, false_or, rdI_e, rdZ_e, rdL_e, wrI_e, wrL_e, bX_some, bE_inl, bE_inr, bT_inl, bT_inr, wf_eq, wfL_eq, wfR_eq, gkc_chip, gkc_dsg, gkc_lib, gk_chip, gk_dsg, gk_lib, gth_e rx, inside_0 rx, inside_1, need_0 rx, need_1, now_0 rx, now_1, roomX_0 rx, roomX_1, w32_id, w32_gI, ← Int.not_lt, not_true_eq_false, not_false_eq_true, if_true, if_false, reduceIte, Bool.false_eq_true, Int.toNat_natCast, Int.reduceToNat, Int.toNat_add, Int.toNat_mul, Int.reduceLT, Int.reduceEq, Int.reduceNeg, Nat.reduceAdd, hI_sI, and_self, Nat.reduceEqDiff, true_and, and_true, and_false, false_and, ne_eq, q1]
      · simp (disch := omega) only [mX23_erase, m_isChip_t h eS h1 hq, gI_thr, gz_0, gz_1, true_or, or_true, or_false, false_or, rdI_e, rdZ_e, rdL_e, wrI_e, wrL_e, bX_some, bE_inl, bE_inr, bT_inl, bT_inr, wf_eq, wfL_eq, wfR_eq, gkc_chip, gkc_dsg, gkc_lib, gk_chip, gk_dsg, gk_lib, gth_e rx, inside_0 rx, inside_1, need_0 rx, need_1, now_0 rx, now_1, roomX_0 rx, roomX_1, w32_id, w32_gI, ← Int.not_lt, not_true_eq_false, not_false_eq_true, if_true, if_false, reduceIte, Bool.false_eq_true, Int.toNat_natCast, Int.reduceToNat, Int.toNat_add, Int.toNat_mul, Int.reduceLT, Int.reduceEq, Int.reduceNeg, Nat.reduceAdd, hI_sI, and_self, Nat.reduceEqDiff, true_and, and_true, and_false, false_and, ne_eq, q1, gI_set, w32_1, Int.reduceLT]
    by_cases q2 : C 23 0 = -1
    · rw [q2] at e23
      rw [if_pos q2] at f23
      refine L_modF (m1 := fun S1 => mX23_erase S1 _ _) 2 3 h hc ?_ rfl (by omega) (fun S1 eS => ?_)
      · simp (disch := omega) only [mX1_erase, hx, gI_thr, gz_0, gz_1, true_or, or_true, or_false, false_or, rdI_e, rdZ_e, rdL_e, wrI_e, wrL_e, bX_some, bE_inl, bE_inr, bT_inl, bT_inr, wf_eq, wfL_eq, wfR_eq, gkc_chip, gkc_dsg, gkc_lib, gk_chip, gk_dsg, gk_lib, gth_e rx, inside_0 rx, inside_1, need_0 rx, need_1, now_0 rx, now_1, roomX_0 rx, roomX_1, w32_id, w32_gI, ← Int.not_lt, not_true_eq_false, not_false_eq_true, if_true, if_false, reduceIte, Bool.false_eq_true, Int.toNat_natCast, Int.reduceToNat, Int.toNat_add, Int.toNat_mul, Int.reduceLT, Int.reduceEq, Int.reduceNeg, Nat.reduceAdd, hI_sI, and_self, Nat.reduceEqDiff, true_and, and_true, and_false, false_and, ne_eq, q1, e23]
      · simp (disch := omega) only [mX23_erase, m_isChip_t h eS h1 hq, gI_thr, gz_0, gz_1, true_or, or_true, or_false, false_or, rdI_e, rdZ_e, rdL_e, wrI_e, wrL_e, bX_some, bE_inl, bE_inr, bT_inl, bT_inr, wf_eq, wfL_eq, wfR_eq, gkc_chip, gkc_dsg, gkc_lib, gk_chip, gk_dsg, gk_lib, gth_e rx, inside_0 rx, inside_1, need_0 rx, need_1, now_0 rx, now_1, roomX_0 rx, roomX_1, w32_id, w32_gI, ← Int.not_lt, not_true_eq_false, not_false_eq_true, if_true, if_false, reduceIte, Bool.false_eq_true, Int.toNat_natCast, Int.reduceToNat, Int.toNat_add, Int.toNat_mul, Int.reduceLT, Int.reduceEq, Int.reduceNeg, Nat.reduceAdd, hI_sI, and_self, Nat.reduceEqDiff, true_and, and_true, and_false, false_and, ne_eq, q1, eS, f23, bz_0, w32_0, gI_set, Int.reduceLT]
    rw [if_neg q2] at f23
    have g23 := g23 q2
    by_cases q3 : p2 < C 23 0
    · obtain ⟨b, rfl⟩ : ∃ b : Nat, p2 = (b : Int) := ⟨p2.toNat, by omega⟩
      have hb : b < kBx C := by unfold kBx; omega
      have hkb : (kBx C : Int) = C 23 0 := by unfold kBx; omega
      have hb2 : kBx C ≤ 2000 := by omega
      refine L_modS (m1 := fun S1 => mX23_erase S1 _ _) ?_
      simp (disch := omega) only [mX1_erase, hx, gI_thr, gz_0, gz_1, true_or, or_true, or_false, false_or, rdI_e, rdZ_e, rdL_e, wrI_e, wrL_e, bX_some, bE_inl, bE_inr, bT_inl, bT_inr, wf_eq, wfL_eq, wfR_eq, gkc_chip, gkc_dsg, gkc_lib, gk_chip, gk_dsg, gk_lib, gth_e rx, inside_0 rx, inside_1, need_0 rx, need_1, now_0 rx, now_1, roomX_0 rx, roomX_1, w32_id, w32_gI, ← Int.not_lt, not_true_eq_false, not_false_eq_true, if_true, if_false, reduceIte, Bool.false_eq_true, Int.toNat_natCast, Int.reduceToNat, Int.toNat_add, Int.toNat_mul, Int.reduceLT, Int.reduceEq, Int.reduceNeg, Nat.reduceAdd, hI_sI, and_self, Nat.reduceEqDiff, true_and, and_true, and_false, false_and, ne_eq, q1, q2, q3, e23]
      refine WP_call (k_er65 (b := b) wB hb (by omega) (by rw [gI_set, w32_id (by omega)]) (fun i hi => (hI_sI_a (by omega)).trans (rX.2.2.1.2 i hi))) (fun z hz => ?_)
      obtain ⟨z1, z2, z3, z4, z5⟩ := hz
      have z20 : gI z (344 + 22 * k) 20 = C 23 0 - 1 := by rw [z2 _ _ (by omega), gI_set, w32_id (by omega)]
      have zN : ∀ a i, a ≠ 344 + 22 * k + 15 → ¬ (a = 344 + 22 * k ∧ i = 20) → gI z a i = gI S a i := fun a i g1 g2 => by rw [z2 a i g1, hI_sI, if_neg g2]
      have fin : ∀ u : Int64, WP (mX23_erase (sL z 2178 0 u) (k : Int) (b : Int)) (fun y => y.1 = C 23 0 - 1 ∧ gI y.2 2000 0 = 0 ∧ gL y.2 2178 0 = u ∧ Inv (c + 1) y.2) := by
        intro u
        obtain ⟨S1, hS1⟩ : ∃ S1, sL z 2178 0 u = S1 := ⟨_, rfl⟩
        have eN : ∀ a i, a ≠ 344 + 22 * k + 15 → ¬ (a = 344 + 22 * k ∧ i = 20) → gI S1 a i = gI S a i := fun a i g1 g2 => by rw [← hS1]; exact zN a i g1 g2
        have e1z : ∀ a i, gI S1 a i = gI z a i := fun a i => by rw [← hS1]; rfl
        rw [hS1]
        simp (disch := omega) only [mX23_erase, mX23_isBox, m_isChip_w h (fun i => eN 434 i (by omega) (by omega)) (fun i => eN 2105 i (by omega) (by omega)) h1 hq, gI_thr, gz_0, gz_1, true_or, or_true, or_false, false_or, rdI_e, rdZ_e, rdL_e, wrI_e, wrL_e, bX_some, bE_inl, bE_inr, bT_inl, bT_inr, wf_eq, wfL_eq, wfR_eq, gkc_chip, gkc_dsg, gkc_lib, gk_chip, gk_dsg, gk_lib, gth_e rx, inside_0 rx, inside_1, need_0 rx, need_1, now_0 rx, now_1, roomX_0 rx, roomX_1, w32_id, w32_gI, ← Int.not_lt, not_true_eq_false, not_false_eq_true, if_true, if_false, reduceIte, Bool.false_eq_true, Int.toNat_natCast, Int.reduceToNat, Int.toNat_add, Int.toNat_mul, Int.reduceLT, Int.reduceEq, Int.reduceNeg, Nat.reduceAdd, hI_sI, and_self, Nat.reduceEqDiff, true_and, and_true, and_false, false_and, ne_eq, q1, q3, eN, f23, g23, bz_1, w32_1, w32_0, gI_set, hI_sI_a, Int.reduceLT]
        refine WP_call (m_er81 (b := b) wB hb hk (by rw [gI_set, w32_id (by omega)]) (fun i hi => by rw [hI_sI_a (by omega), hI_sI_a (by omega), eN _ _ (by omega) (by omega)]; exact mX.2.2.1.2.2 i hi)) (fun y hy => ?_)
        obtain ⟨y1, y2, y3, y4, y5⟩ := hy
        have y47 : gI y 2147 k = C 23 0 - 1 := by rw [y2 _ _ (by omega), gI_set, w32_id (by omega)]
        rw [y47]
        refine WP_some.2 ⟨rfl, ?_, ?_, ?_⟩
        · show gI y 2000 0 = 0
          rw [y2 _ _ (by omega), hI_sI_a (by omega), gI_set]; rfl
        · show gL y 2178 0 = u
          rw [y3]; show gL S1 2178 0 = u
          rw [← hS1, gL_sL, if_pos ⟨rfl, rfl⟩]
        · show Inv (c + 1) y
          have gk : ∀ a i, kept a i = true → ¬ (a = 2147 ∧ i = k) → ¬ (a = 2148 ∧ 10000 * k ≤ i ∧ i < 10000 * k + 10000) → a ≠ 344 + 22 * k + 15 → ¬ (a = 344 + 22 * k ∧ i = 20) → gI y a i = gI S a i := fun a i g1 g2 g3 g4 g5 => by
            rw [y2 a i g3, hI_sI, if_neg g2, hI_sI, if_neg (kept_2000 g1)]; exact eN a i g4 g5
          have gLL : ∀ a i, a ≠ 2178 → gL y a i = gL S a i := fun a i q => by
            rw [y3]; show gL S1 a i = _
            rw [← hS1, gL_sL, if_neg (fun g => q g.1), z3]; rfl
          refine h.putC hk (fun a i q g1 g2 g3 => gk a i q (fun g => g2 ?_) (fun g => g2 ?_) (by omega) (by omega)) (fun a i q g1 g2 => gLL a i (by omega)) ?_ ?_ ?_
          · obtain ⟨rfl, rfl⟩ := g; exact ownC_1 (by omega)
          · obtain ⟨rfl, g4, g5⟩ := g; exact ⟨by omega, show 10000 * k ≤ _ by omega, show _ < 10000 * k + 10000 by omega⟩
          · rw [y4]; show nC S1 ≤ _; rw [← hS1]; show nC z ≤ _; rw [z4]; exact Nat.le_add_right _ _
          · rw [y5]; show nS S1 ≤ _; rw [← hS1]; show nS z ≤ _; rw [z5]; exact Nat.le_add_right _ _
          · have hg := h.2.2.2.2.2.2 k hk
            have e434 : gI y 434 k = gI S 434 k := gk _ _ (kept_rng (by omega)) (by omega) (by omega) (by omega) (by omega)
            unfold InvC at hg ⊢
            refine ⟨by rw [e434]; exact hg.1, by rw [e434, gk 2105 k (kept_rng (by omega)) (by omega) (by omega) (by omega) (by omega)]; exact hg.2.1, fun _ => ⟨erC C b, ?_⟩⟩
            have l12 : ∀ f i, f ≤ 12 → erC C b f i = C f i := fun f i q => erC_o (by omega) (by omega)
            have l14 : ∀ f i, f ≤ 14 → erC C b f i = C f i := fun f i q => erC_o (by omega) (by omega)
            have lt' : ∀ f i, 28 ≤ f → f ≤ 30 → erC C b f i = C f i := fun f i q q' => erC_o (by omega) (by omega)
            have lf' : ∀ f i, 25 ≤ f → f ≤ 27 → erC C b f i = C f i := fun f i q q' => erC_o (by omega) (by omega)
            have cl : ∀ a i, 344 + 22 * k ≤ a → a ≤ 344 + 22 * k + 21 → a ≠ 344 + 22 * k + 15 → ¬ (a = 344 + 22 * k ∧ i = 20) → gI y a i = gI S a i := fun a i l1 l2 l3 l4 => gk a i (kept_rng (by omega)) (by omega) (by omega) l3 l4
            have r' : RepK y (344 + 22 * k) C := by
              obtain ⟨t1, t2, t3, t4, t5, t6⟩ := r
              refine ⟨?_, fun g hg => ?_, fun g hg => ?_, fun g hg => ?_, fun g hg => ?_, fun g hg => ?_⟩
              · simp (disch := omega) only [cl]; exact t1
              · rw [cl _ _ (by omega) (by omega) (by omega) (by omega)]; exact t2 g hg
              · rw [cl _ _ (by omega) (by omega) (by omega) (by omega)]; exact t3 g hg
              · rw [cl _ _ (by omega) (by omega) (by omega) (by omega)]; exact t4 g hg
              · rw [cl _ _ (by omega) (by omega) (by omega) (by omega)]; exact t5 g hg
              · simp (disch := omega) only [cl]; exact t6 g hg
            have m' : RefK y k C := m.cg' w (fun a i l q => gk a i (ownC_kept l) (by omega) (by omega) (by have := l.1; omega) (by have := l.1; omega))
            have gg : ∀ a i, 2105 ≤ a → a ≤ 2177 → a ≠ 2147 → a ≠ 2148 → ((2122 ≤ a ∧ a ≤ 2125) ∨ (2134 ≤ a ∧ a ≤ 2139) ∨ (2155 ≤ a ∧ a ≤ 2157) ∨ (2172 ≤ a ∧ a ≤ 2175) ∨ a = 2177 ∨ a = 2146) → gI y a i = gI S a i := fun a i l1 l2 l3 l4 l5 => gk a i (kept_rng (by omega)) (by omega) (by omega) (by omega) (by omega)
            obtain ⟨xP, xW, xB, xF, xT⟩ := wx
            obtain ⟨rP, rW, rB, rF, rT⟩ := rX
            obtain ⟨mP, mW, mB, mF, mT⟩ := mX
            have n23 : erC C b 23 0 = C 23 0 - 1 := rfl
            have nk : kBx (erC C b) = kBx C - 1 := by unfold kBx; rw [n23]; omega
            refine ⟨⟨w.fc l14, r'.fc l14, m'.fc l14⟩, ⟨xP, xW, WFB_erC xB hb, xF, xT.fc l12 lt'⟩, ⟨?_, ?_, ?_, ?_, ?_⟩, ⟨?_, ?_, ?_, ?_, ?_⟩⟩
            · have : RepP y (344 + 22 * k) C := by unfold RepP at rP ⊢; simp (disch := omega) only [cl]; exact rP
              exact this
            · have : RepW y (344 + 22 * k) C := by unfold RepW at rW ⊢; simp (disch := omega) only [cl]; exact rW
              exact this
            · refine ⟨?_, fun i hi => ?_⟩
              · rw [n23, y2 _ _ (by omega), hI_sI_a (by omega), hI_sI_a (by omega), e1z]; exact z20
              · rw [nk] at hi
                rw [y2 _ _ (by omega), hI_sI_a (by omega), hI_sI_a (by omega), e1z]; exact z1 i hi
            · have : RepF y (344 + 22 * k) C := by unfold RepF at rF ⊢; simp (disch := omega) only [cl]; exact rF
              exact this.fc lf'
            · have gl21 : ∀ i, gL y (344 + 22 * k + 21) i = gL S (344 + 22 * k + 21) i := fun i => gLL _ _ (by omega)
              have : RepT y (344 + 22 * k) C := by unfold RepT at rT ⊢; simp (disch := omega) only [cl, gl21]; exact rT
              exact this.fc l12 lt'
            · have : RefP y k C := by unfold RefP at mP ⊢; simp (disch := omega) only [gg]; exact mP
              exact this
            · have : RefW y k C := by unfold RefW at mW ⊢; simp (disch := omega) only [gg]; exact mW
              exact this
            · refine ⟨?_, fun _ => ?_, fun i hi => ?_⟩
              · rw [n23, if_neg (by omega), gg _ _ (by omega) (by omega) (by omega) (by omega) (by omega)]; exact f23
              · rw [n23]; exact y47
              · rw [nk] at hi; exact y1 i hi
            · have : RefF y k C := by unfold RefF at mF ⊢; simp (disch := omega) only [gg]; exact mF
              exact this.fc lf'
            · have gl75 : ∀ i, gL y 2175 i = gL S 2175 i := fun i => gLL _ _ (by omega)
              have : RefT y k C := by unfold RefT at mT ⊢; simp (disch := omega) only [gg, gl75]; exact mT
              exact this.fc l12 lt'
      rw [z20, WP_some, WE_inl]
      exact fin _
    · refine L_modF (m1 := fun S1 => mX23_erase S1 _ _) 1 1 h hc ?_ rfl (by omega) (fun S1 eS => ?_)
      · simp (disch := omega) only [mX1_erase, hx, gI_thr, gz_0, gz_1, true_or, or_true, or_false, false_or, rdI_e, rdZ_e, rdL_e, wrI_e, wrL_e, bX_some, bE_inl, bE_inr, bT_inl, bT_inr, wf_eq, wfL_eq, wfR_eq, gkc_chip, gkc_dsg, gkc_lib, gk_chip, gk_dsg, gk_lib, gth_e rx, inside_0 rx, inside_1, need_0 rx, need_1, now_0 rx, now_1, roomX_0 rx, roomX_1, w32_id, w32_gI, ← Int.not_lt, not_true_eq_false, not_false_eq_true, if_true, if_false, reduceIte, Bool.false_eq_true, Int.toNat_natCast, Int.reduceToNat, Int.toNat_add, Int.toNat_mul, Int.reduceLT, Int.reduceEq, Int.reduceNeg, Nat.reduceAdd, hI_sI, and_self, Nat.reduceEqDiff, true_and, and_true, and_false, false_and, ne_eq, q1, q2, q3, e23]
      · simp (disch := omega) only [mX23_erase, mX23_isBox, m_isChip_t h eS h1 hq, gI_thr, gz_0, gz_1, true_or, or_true, or_false, false_or, rdI_e, rdZ_e, rdL_e, wrI_e, wrL_e, bX_some, bE_inl, bE_inr, bT_inl, bT_inr, wf_eq, wfL_eq, wfR_eq, gkc_chip, gkc_dsg, gkc_lib, gk_chip, gk_dsg, gk_lib, gth_e rx, inside_0 rx, inside_1, need_0 rx, need_1, now_0 rx, now_1, roomX_0 rx, roomX_1, w32_id, w32_gI, ← Int.not_lt, not_true_eq_false, not_false_eq_true, if_true, if_false, reduceIte, Bool.false_eq_true, Int.toNat_natCast, Int.reduceToNat, Int.toNat_add, Int.toNat_mul, Int.reduceLT, Int.reduceEq, Int.reduceNeg, Nat.reduceAdd, hI_sI, and_self, Nat.reduceEqDiff, true_and, and_true, and_false, false_and, ne_eq, q1, q2, q3, eS, f23, g23, bz_1, w32_1, gI_set, Int.reduceLT, Int.reduceEq, w32_0]
  · refine L_modF (m1 := fun S1 => mX23_erase S1 _ _) 1 1 h hc ?_ rfl (by omega) (fun S1 eS => ?_)
    · rw [mX1_erase, chipIn_f hq rx h1]; rfl
    · unfold mX23_erase; rw [m_isChip_f h eS h1 hq]; rfl
end ERA2
