/-! fails: a pattern's mark -/
def setM (C : Chp) (j : Nat) (v : Int) : Chp := fun f i => if f = 30 ∧ i = j then v else C f i
theorem setM_lo {C : Chp} {j : Nat} {v : Int} : ∀ f i, f ≤ 29 → setM C j v f i = C f i := fun f i h => if_neg (by omega)
section FAILS
variable {c : Nat} {S : Sto}
theorem L50 {p1 p2 p3 : Int} (h : Inv c S) (hc : c < 64) (h1 : i32 p1) (h2 : i32 p2) (h3 : i32 p3) : WP (mL_50 S p1 p2 p3) (Inv (c + 1)) := by
  have rx := h.1.x hc
  unfold mL_50
  have hb : (if ¬ w32 p3 = 0 then (1 : Int) else 0) = 0 ∨ (if ¬ w32 p3 = 0 then (1 : Int) else 0) = 1 := by split <;> omega
  generalize (if ¬ w32 p3 = 0 then (1 : Int) else 0) = b at hb ⊢
  have wb := w1_o1 hb
  unfold mX0_fails
  by_cases hq : isCh S p1
  · have hx := chipIn_t hq; obtain ⟨k, C, hk, rfl, w, r, m, wx, rX, mX⟩ := InvC.get h hq; rw [Int.toNat_natCast] at hx; have hn := w.nums; have eg := r.1.2.2.2.1; have em := m.1.2.2.2.1; rw [w.g] at eg em; have ei := r.1.1; have mi := m.1.1; rw [w.i] at ei mi; have er := r.1.2.1; have mr := m.1.2.1; rw [w.r] at er mr; have eo := r.1.2.2.1; have mo := m.1.2.2.1; rw [w.o] at eo mo; have el := r.1.2.2.2.2.1; have ml := m.1.2.2.2.2.1; rw [w.l] at el ml
    unfold i32 at h2
    have e28 := rX.2.2.2.2.1
    have f28 := mX.2.2.2.2.1
    have wt := wx.2.2.2.2
    have w1' := wt.1
    by_cases q1 : p2 < 0
    · refine L_boolF (m1 := fun S1 => mX23_fails S1 _ _ _) 1 1 h hc ?_ rfl (by omega) (fun S1 eS => ?_)
      · simp (disch := omega) only [mX1_fails, hx, gI_thr, gz_0, gz_1, true_or, or_true, or_false, false_or, rdI_e, rdZ_e, rdL_e, wrI_e, wrL_e, bX_some, bE_inl, bE_inr, bT_inl, bT_inr, wf_eq, wfL_eq, wfR_eq, gkc_chip, gkc_dsg, gkc_lib, gk_chip, gk_dsg, gk_lib, gth_e rx, inside_0 rx, inside_1, need_0 rx, need_1, now_0 rx, now_1, roomX_0 rx, roomX_1, w32_id, w32_gI, ← Int.not_lt, not_true_eq_false, not_false_eq_true, if_true, if_false, reduceIte, Bool.false_eq_true, Int.toNat_natCast, Int.reduceToNat, Int.toNat_add, Int.toNat_mul, Int.reduceLT, Int.reduceEq, Int.reduceNeg, Nat.reduceAdd, hI_sI, and_self, Nat.reduceEqDiff, true_and, and_true, and_false, false_and, ne_eq, q1]
      · simp (disch := omega) only [mX23_fails, mX23_patternCode, m_isChip_t h eS h1 hq, gI_thr, gz_0, gz_1, true_or, or_true, or_false, false_or, rdI_e, rdZ_e, rdL_e, wrI_e, wrL_e, bX_some, bE_inl, bE_inr, bT_inl, bT_inr, wf_eq, wfL_eq, wfR_eq, gkc_chip, gkc_dsg, gkc_lib, gk_chip, gk_dsg, gk_lib, gth_e rx, inside_0 rx, inside_1, need_0 rx, need_1, now_0 rx, now_1, roomX_0 rx, roomX_1, w32_id, w32_gI, ← Int.not_lt, not_true_eq_false, not_false_eq_true, if_true, if_false, reduceIte, Bool.false_eq_true, Int.toNat_natCast, Int.reduceToNat, Int.toNat_add, Int.toNat_mul, Int.reduceLT, Int.reduceEq, Int.reduceNeg, Nat.reduceAdd, hI_sI, and_self, Nat.reduceEqDiff, true_and, and_true, and_false, false_and, ne_eq, q1, gI_set, w32_1, Int.reduceLT]
    by_cases q2 : C 28 0 = -1
    · rw [q2] at e28 f28
      refine L_boolF (m1 := fun S1 => mX23_fails S1 _ _ _) 2 3 h hc ?_ rfl (by omega) (fun S1 eS => ?_)
      · simp (disch := omega) only [mX1_fails, hx, gI_thr, gz_0, gz_1, true_or, or_true, or_false, false_or, rdI_e, rdZ_e, rdL_e, wrI_e, wrL_e, bX_some, bE_inl, bE_inr, bT_inl, bT_inr, wf_eq, wfL_eq, wfR_eq, gkc_chip, gkc_dsg, gkc_lib, gk_chip, gk_dsg, gk_lib, gth_e rx, inside_0 rx, inside_1, need_0 rx, need_1, now_0 rx, now_1, roomX_0 rx, roomX_1, w32_id, w32_gI, ← Int.not_lt, not_true_eq_false, not_false_eq_true, if_true, if_false, reduceIte, Bool.false_eq_true, Int.toNat_natCast, Int.reduceToNat, Int.toNat_add, Int.toNat_mul, Int.reduceLT, Int.reduceEq, Int.reduceNeg, Nat.reduceAdd, hI_sI, and_self, Nat.reduceEqDiff, true_and, and_true, and_false, false_and, ne_eq, q1, e28]
      · simp (disch := omega) only [mX23_fails, mX23_patternCode, m_isChip_t h eS h1 hq, gI_thr, gz_0, gz_1, true_or, or_true, or_false, false_or, rdI_e, rdZ_e, rdL_e, wrI_e, wrL_e, bX_some, bE_inl, bE_inr, bT_inl, bT_inr, wf_eq, wfL_eq, wfR_eq, gkc_chip, gkc_dsg, gkc_lib, gk_chip, gk_dsg, gk_lib, gth_e rx, inside_0 rx, inside_1, need_0 rx, need_1, now_0 rx, now_1, roomX_0 rx, roomX_1, w32_id, w32_gI, ← Int.not_lt, not_true_eq_false, not_false_eq_true, if_true, if_false, reduceIte, Bool.false_eq_true, Int.toNat_natCast, Int.reduceToNat, Int.toNat_add, Int.toNat_mul, Int.reduceLT, Int.reduceEq, Int.reduceNeg, Nat.reduceAdd, hI_sI, and_self, Nat.reduceEqDiff, true_and, and_true, and_false, false_and, ne_eq, q1, eS, f28, gI_set, Int.reduceLT]
    by_cases q3 : p2 < C 28 0
    · obtain ⟨j, rfl⟩ : ∃ j : Nat, p2 = (j : Int) := ⟨p2.toNat, by omega⟩
      have hj : j < kSn C := by unfold kSn; omega
      have hs2 : kSn C ≤ 1224 := by unfold kSn; omega
      have e30 := (rX.2.2.2.2.2.1 j hj).2
      have f30 := (mX.2.2.2.2.2.1 j hj).2
      have w30 := (wt.2 j hj).2.2
      have z : (1280 * (k : Int) + (j : Int)).toNat = 1280 * k + j := by omega
      have gzv : ∀ {τ : Type} (K : Option τ), gz (C 30 j) K = K := by intro τ K; rcases w30 with g | g <;> rw [g] <;> rfl
      have bzv : bz (C 30 j) = C 30 j := by rcases w30 with g | g <;> rw [g] <;> rfl
      refine L_boolS (m1 := fun S1 => mX23_fails S1 _ _ _) ?_
      have fin : ∀ u : Int64, WP (mX23_fails (sL (sI S (344 + 22 * k + 19) j b) 2178 0 u) (k : Int) (j : Int) b) (fun y => y.1 = C 30 j ∧ gI y.2 2000 0 = 0 ∧ gL y.2 2178 0 = u ∧ Inv (c + 1) y.2) := by
        intro u
        obtain ⟨S1, hS1⟩ : ∃ S1, sL (sI S (344 + 22 * k + 19) j b) 2178 0 u = S1 := ⟨_, rfl⟩
        have eN : ∀ a i, a ≠ 344 + 22 * k + 19 → gI S1 a i = gI S a i := fun a i q => by rw [← hS1]; exact hI_sI_a q
        have ej : gI S1 (344 + 22 * k + 19) j = b := by rw [← hS1]; show gI (sI S (344 + 22 * k + 19) j b) (344 + 22 * k + 19) j = b; rw [gI_set, w32_id (by omega)]
        have ei : ∀ i, i ≠ j → gI S1 (344 + 22 * k + 19) i = gI S (344 + 22 * k + 19) i := fun i q => by rw [← hS1]; exact hI_sI_i q
        rw [hS1]
        have g30 : gI (sI S1 2000 0 0) 2174 (1280 * k + j) = C 30 j := by rw [hI_sI_a (by omega), eN _ _ (by omega)]; exact f30
        unfold mX23_fails mX23_patternCode
        rw [m_isChip_w h (fun i => eN _ _ (by omega)) (fun i => eN _ _ (by omega)) h1 hq, bX_some, if_pos (by decide), w32_id h2, if_neg q1, bX_some, if_neg (by decide), rdI_e (by omega), Int.toNat_natCast, eN _ _ (by omega), f28, w32_id (by omega), if_neg q2, rdI_e (by omega), Int.toNat_natCast, eN _ _ (by omega), f28, w32_id (by omega), if_neg (by omega), bX_some, bX_some, wf_eq, gI_set, w32_0, w32_0, if_neg (by omega), rdZ_e (by omega), z, g30, wrI_e (by omega), z, wb, bzv, gzv]
        refine WP_some.2 ⟨rfl, ?_, ?_, ?_⟩
        · show gI (sI (sI S1 2000 0 0) 2174 _ b) 2000 0 = 0
          rw [hI_sI_a (by omega), gI_set]; rfl
        · show gL S1 2178 0 = u
          rw [← hS1, gL_sL, if_pos ⟨rfl, rfl⟩]
        · obtain ⟨S', hS'⟩ : ∃ S', sI (sI S1 2000 0 0) 2174 (1280 * k + j) b = S' := ⟨_, rfl⟩
          show Inv (c + 1) (sI (sI S1 2000 0 0) 2174 (1280 * k + j) b)
          rw [hS']
          have go : ∀ a i, ¬ (a = 2000 ∧ i = 0) → ¬ (a = 2174 ∧ i = 1280 * k + j) → gI S' a i = gI S1 a i := fun a i g1 g2 => by rw [← hS', hI_sI, if_neg g2, hI_sI, if_neg g1]
          have gk : ∀ a i, kept a i = true → ¬ (a = 2174 ∧ i = 1280 * k + j) → a ≠ 344 + 22 * k + 19 → gI S' a i = gI S a i := fun a i g1 g2 g3 => (go a i (kept_2000 g1) g2).trans (eN a i g3)
          have gLL : ∀ a i, a ≠ 2178 → gL S' a i = gL S a i := fun a i q => by
            rw [← hS']; show gL S1 a i = _
            rw [← hS1, gL_sL, if_neg (fun g => q g.1)]; rfl
          refine h.putC hk (fun a i q z1 z2 z3 => gk a i q (fun g => z2 ?_) (by omega)) (fun a i q z1 z2 => gLL a i (by omega)) (by rw [← hS', ← hS1]; exact Nat.le_add_right _ _) (by rw [← hS', ← hS1]; exact Nat.le_add_right _ _) ?_
          · obtain ⟨rfl, rfl⟩ := g; exact ⟨by omega, show 1280 * k ≤ _ by omega, show _ < 1280 * k + 1280 by omega⟩
          · have hg := h.2.2.2.2.2.2 k hk
            have e434 : gI S' 434 k = gI S 434 k := gk _ _ (kept_rng (by omega)) (by omega) (by omega)
            unfold InvC at hg ⊢
            refine ⟨by rw [e434]; exact hg.1, by rw [e434, gk 2105 k (kept_rng (by omega)) (by omega) (by omega)]; exact hg.2.1, fun _ => ⟨setM C j b, ?_⟩⟩
            have l12 : ∀ f i, f ≤ 12 → setM C j b f i = C f i := fun f i q => setM_lo f i (by omega)
            have l14 : ∀ f i, f ≤ 14 → setM C j b f i = C f i := fun f i q => setM_lo f i (by omega)
            have cl : ∀ a i, 344 + 22 * k ≤ a → a ≤ 344 + 22 * k + 21 → a ≠ 344 + 22 * k + 19 → gI S' a i = gI S a i := fun a i l1 l2 l3 => gk a i (kept_rng (by omega)) (by omega) l3
            have ro : ∀ a i, ownC k a i → a ≠ 2174 → gI S' a i = gI S a i := fun a i l q => gk a i (ownC_kept l) (fun g => q g.1) (by have := l.1; omega)
            have r' : RepK S' (344 + 22 * k) C := by
              obtain ⟨z1, z2, z3, z4, z5, z6⟩ := r
              refine ⟨?_, fun g hg => ?_, fun g hg => ?_, fun g hg => ?_, fun g hg => ?_, fun g hg => ?_⟩
              · simp (disch := omega) only [cl]; exact z1
              · rw [cl _ _ (by omega) (by omega) (by omega)]; exact z2 g hg
              · rw [cl _ _ (by omega) (by omega) (by omega)]; exact z3 g hg
              · rw [cl _ _ (by omega) (by omega) (by omega)]; exact z4 g hg
              · rw [cl _ _ (by omega) (by omega) (by omega)]; exact z5 g hg
              · simp (disch := omega) only [cl]; exact z6 g hg
            have m' : RefK S' k C := m.cg' w (fun a i l q => ro a i l (by omega))
            have hfa := kFa_le w
            have hf : kFs C ≤ 40 := by have := wx.2.2.2.1.1; unfold kFs; omega
            obtain ⟨xP, xW, xB, xF, xT⟩ := wx
            obtain ⟨rP, rW, rB, rF, rT⟩ := rX
            obtain ⟨mP, mW, mB, mF, mT⟩ := mX
            refine ⟨⟨w.fc l14, r'.fc l14, m'.fc l14⟩, ⟨xP, xW, xB, xF, ⟨xT.1, fun i hi => ?_⟩⟩, ⟨?_, ?_, ?_, ?_, ?_⟩, ⟨?_, ?_, ?_, ?_, ?_⟩⟩
            · have hi : i < kSn C := hi
              refine ⟨(xT.2 i hi).1, (xT.2 i hi).2.1, ?_⟩
              by_cases q : i = j
              · rw [q]; show (if 30 = 30 ∧ j = j then b else _) = 0 ∨ (if 30 = 30 ∧ j = j then b else _) = 1; rw [if_pos ⟨rfl, rfl⟩]; exact hb
              · show (if 30 = 30 ∧ i = j then b else _) = 0 ∨ (if 30 = 30 ∧ i = j then b else _) = 1; rw [if_neg (fun g => q g.2)]; exact (xT.2 i hi).2.2
            · have : RepP S' (344 + 22 * k) C := by unfold RepP at rP ⊢; simp (disch := omega) only [cl]; exact rP
              exact this
            · have : RepW S' (344 + 22 * k) C := by unfold RepW at rW ⊢; simp (disch := omega) only [cl]; exact rW
              exact this
            · have : RepB S' (344 + 22 * k) C := by unfold RepB at rB ⊢; simp (disch := omega) only [cl]; exact rB
              exact this
            · have : RepF S' (344 + 22 * k) C := by unfold RepF at rF ⊢; simp (disch := omega) only [cl]; exact rF
              exact this
            · obtain ⟨t1, t2, t3, t4⟩ := rT
              refine ⟨(cl _ _ (by omega) (by omega) (by omega)).trans t1, fun i hi => ?_, ?_, fun q f hf' => ?_⟩
              · have hi : i < kSn C := hi
                refine ⟨(cl _ _ (by omega) (by omega) (by omega)).trans (t2 i hi).1, ?_⟩
                by_cases q : i = j
                · rw [q]; show _ = (if 30 = 30 ∧ j = j then b else _); rw [if_pos ⟨rfl, rfl⟩, go _ _ (by omega) (by omega)]; exact ej
                · show _ = (if 30 = 30 ∧ i = j then b else _); rw [if_neg (fun g => q g.2), go _ _ (by omega) (by omega)]; exact (ei i q).trans (t2 i hi).2
              · rw [cl _ _ (by omega) (by omega) (by omega)]; exact t3
              · rw [cl _ _ (by omega) (by omega) (by omega)] at q
                rw [kFa_cg l12] at hf'
                rw [kLeast_cg l12, (kNums_cg l12).2.2.2.2.1, cl _ _ (by omega) (by omega) (by omega)]
                exact ⟨(t4 q f hf').1, fun p hp => by rw [kShow_cg l12, gLL _ _ (by omega)]; exact (t4 q f hf').2 p hp⟩
            · have : RefP S' k C := by
                obtain ⟨⟨z1, z2⟩, z3⟩ := mP
                have hE : kE C ≤ 156 := by unfold kE; omega
                exact ⟨⟨(gk _ _ (kept_rng (by omega)) (by omega) (by omega)).trans z1, fun q => (gk _ _ (kept_rng (by omega)) (by omega) (by omega)).trans (z2 q)⟩, fun q f hf => ⟨(gk _ _ (kept_rng (by omega)) (by omega) (by omega)).trans (z3 q f hf).1, (gk _ _ (kept_rng (by omega)) (by omega) (by omega)).trans (z3 q f hf).2⟩⟩
              exact this
            · have gg : ∀ a i, 2134 ≤ a → a ≤ 2139 → gI S' a i = gI S a i := fun a i l1 l2 => gk a i (kept_rng (by omega)) (by omega) (by omega)
              have : RefW S' k C := by unfold RefW at mW ⊢; simp (disch := omega) only [gg]; exact mW
              exact this
            · have gg : ∀ a i, 2146 ≤ a → a ≤ 2148 → gI S' a i = gI S a i := fun a i l1 l2 => gk a i (kept_rng (by omega)) (by omega) (by omega)
              have : RefB S' k C := by unfold RefB at mB ⊢; simp (disch := omega) only [gg]; exact mB
              exact this
            · have gg : ∀ a i, 2155 ≤ a → a ≤ 2157 → gI S' a i = gI S a i := fun a i l1 l2 => gk a i (kept_rng (by omega)) (by omega) (by omega)
              have : RefF S' k C := by unfold RefF at mF ⊢; simp (disch := omega) only [gg]; exact mF
              exact this
            · obtain ⟨t1, t2, t3, t4⟩ := mT
              have hs : kSn C ≤ 1224 := hs2
              refine ⟨(gk _ _ (kept_rng (by omega)) (by omega) (by omega)).trans t1, fun i hi => ?_, fun i f hi hf' => ?_, fun f hf' => ?_⟩
              · have hi : i < kSn C := hi
                refine ⟨(gk _ _ (kept_rng (by omega)) (by omega) (by omega)).trans (t2 i hi).1, ?_⟩
                by_cases q : i = j
                · rw [q]; show _ = (if 30 = 30 ∧ j = j then b else _); rw [if_pos ⟨rfl, rfl⟩, ← hS', gI_set, w32_id (by omega)]
                · show _ = (if 30 = 30 ∧ i = j then b else _); rw [if_neg (fun g => q g.2), gk _ _ (kept_rng (by omega)) (by omega) (by omega)]; exact (t2 i hi).2
              · have hi : i < kSn C := hi
                rw [kFa_cg l12] at hf'
                rw [kShow_cg l12, gLL _ _ (by omega)]; exact t3 i f hi hf'
              · rw [kFa_cg l12] at hf'
                rw [kLeast_cg l12, gk _ _ (kept_rng (by omega)) (by omega) (by omega)]; exact t4 f hf'
      simp (disch := omega) only [mX1_fails, hx, gI_thr, gz_0, gz_1, true_or, or_true, or_false, false_or, rdI_e, rdZ_e, rdL_e, wrI_e, wrL_e, bX_some, bE_inl, bE_inr, bT_inl, bT_inr, wf_eq, wfL_eq, wfR_eq, gkc_chip, gkc_dsg, gkc_lib, gk_chip, gk_dsg, gk_lib, gth_e rx, inside_0 rx, inside_1, need_0 rx, need_1, now_0 rx, now_1, roomX_0 rx, roomX_1, w32_id, w32_gI, ← Int.not_lt, not_true_eq_false, not_false_eq_true, if_true, if_false, reduceIte, Bool.false_eq_true, Int.toNat_natCast, Int.reduceToNat, Int.toNat_add, Int.toNat_mul, Int.reduceLT, Int.reduceEq, Int.reduceNeg, Nat.reduceAdd, hI_sI, and_self, Nat.reduceEqDiff, true_and, and_true, and_false, false_and, ne_eq, q1, q2, q3, e28, e30, bzv, gzv, wb, WP_some, WE_inl]
      exact fin _
    · refine L_boolF (m1 := fun S1 => mX23_fails S1 _ _ _) 1 1 h hc ?_ rfl (by omega) (fun S1 eS => ?_)
      · simp (disch := omega) only [mX1_fails, hx, gI_thr, gz_0, gz_1, true_or, or_true, or_false, false_or, rdI_e, rdZ_e, rdL_e, wrI_e, wrL_e, bX_some, bE_inl, bE_inr, bT_inl, bT_inr, wf_eq, wfL_eq, wfR_eq, gkc_chip, gkc_dsg, gkc_lib, gk_chip, gk_dsg, gk_lib, gth_e rx, inside_0 rx, inside_1, need_0 rx, need_1, now_0 rx, now_1, roomX_0 rx, roomX_1, w32_id, w32_gI, ← Int.not_lt, not_true_eq_false, not_false_eq_true, if_true, if_false, reduceIte, Bool.false_eq_true, Int.toNat_natCast, Int.reduceToNat, Int.toNat_add, Int.toNat_mul, Int.reduceLT, Int.reduceEq, Int.reduceNeg, Nat.reduceAdd, hI_sI, and_self, Nat.reduceEqDiff, true_and, and_true, and_false, false_and, ne_eq, q1, q2, q3, e28]
      · simp (disch := omega) only [mX23_fails, mX23_patternCode, m_isChip_t h eS h1 hq, gI_thr, gz_0, gz_1, true_or, or_true, or_false, false_or, rdI_e, rdZ_e, rdL_e, wrI_e, wrL_e, bX_some, bE_inl, bE_inr, bT_inl, bT_inr, wf_eq, wfL_eq, wfR_eq, gkc_chip, gkc_dsg, gkc_lib, gk_chip, gk_dsg, gk_lib, gth_e rx, inside_0 rx, inside_1, need_0 rx, need_1, now_0 rx, now_1, roomX_0 rx, roomX_1, w32_id, w32_gI, ← Int.not_lt, not_true_eq_false, not_false_eq_true, if_true, if_false, reduceIte, Bool.false_eq_true, Int.toNat_natCast, Int.reduceToNat, Int.toNat_add, Int.toNat_mul, Int.reduceLT, Int.reduceEq, Int.reduceNeg, Nat.reduceAdd, hI_sI, and_self, Nat.reduceEqDiff, true_and, and_true, and_false, false_and, ne_eq, q1, q2, q3, eS, f28, gI_set, w32_1, Int.reduceLT]
  · refine L_boolF (m1 := fun S1 => mX23_fails S1 _ _ _) 1 1 h hc ?_ rfl (by omega) (fun S1 eS => ?_)
    · rw [mX1_fails, chipIn_f hq rx h1]; rfl
    · unfold mX23_fails mX23_patternCode; rw [m_isChip_f h eS h1 hq]; rfl
end FAILS
