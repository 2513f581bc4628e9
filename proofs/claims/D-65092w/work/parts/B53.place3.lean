/-! place: the call -/
section PLC
variable {c : Nat} {S : Sto}
theorem WFX_plC {C : Chp} {w : Nat} (wf : WFC C) (wx : WFX C) (hw : 4 ≤ w ∧ w ≤ 60) (hr : (pkN C w (kE C)).1 < 12) : WFX (plC C w) := by
  obtain ⟨xP, xW, xB, xF, xT⟩ := wx
  refine ⟨WFP_plC wf hw hr, ⟨.inl rfl, fun g => ?_⟩, ⟨⟨by show (-1 : Int) ≤ -1; omega, by show (-1 : Int) ≤ 2000; omega, fun g => absurd rfl g⟩, fun b hb => ?_⟩, xF, xT.fc plC_low (fun f i h1 h2 => ?_)⟩
  · exact absurd g (by show ¬ (0 : Int) = 1; omega)
  · exact absurd hb (Nat.not_lt_zero _)
  · unfold plC
    rw [if_neg (by omega), if_neg (by omega), if_neg (by omega), if_neg (by omega), if_neg (by omega), if_neg (by omega)]
theorem plC_hi {C : Chp} {w : Nat} : ∀ f i, 28 ≤ f → f ≤ 30 → plC C w f i = C f i := fun f i h1 h2 => by
  unfold plC
  rw [if_neg (by omega), if_neg (by omega), if_neg (by omega), if_neg (by omega), if_neg (by omega), if_neg (by omega)]
theorem k_place {L : Nat} {C : Chp} {w : Nat} (r : RepK S L C) (wf : WFC C) (hw : 4 ≤ w ∧ w ≤ 60) (hr : (pkN C w (kE C)).1 < 12) :
    WP (mX14_place S L (w : Int)) (fun x => x.1 = ((pkN C w (kE C)).1 : Int) + 1 ∧ gI x.2 L 11 = (w : Int) ∧ gI x.2 L 12 = ((pkN C w (kE C)).1 : Int) + 1 ∧ gI x.2 L 13 = kH (plC C w) ∧ gI x.2 L 16 = 0 ∧ gI x.2 L 20 = -1 ∧ (∀ e, e < kE C → gI x.2 (L + 10) e = (pkX C w e : Int) ∧ gI x.2 (L + 11) e = (pkY C w e : Int)) ∧ (∀ a i, ¬ (a = L ∧ (i = 11 ∨ i = 12 ∨ i = 13 ∨ i = 16 ∨ i = 20)) → a ≠ L + 10 → a ≠ L + 11 → gI x.2 a i = gI S a i)) := by
  have hn := wf.nums
  have kp1 := k_place1 (w := w) r wf hw
  have ei := r.1.1
  rw [wf.i] at ei
  have eo := r.1.2.2.1
  rw [wf.o] at eo
  unfold mX14_place
  rw [kp1, bX_some, w32_id (by omega), if_neg (by omega), wf_eq, wf_eq]
  have e1 : gI (sI (sI S L 11 (w : Int)) L 12 (((pkN C w (kE C)).1 : Int) + 1)) L 1 = (kI C : Int) := by rw [hI_sI_i (by omega), hI_sI_i (by omega)]; exact ei
  have e3 : gI (sI (sI S L 11 (w : Int)) L 12 (((pkN C w (kE C)).1 : Int) + 1)) L 3 = (kO C : Int) := by rw [hI_sI_i (by omega), hI_sI_i (by omega)]; exact eo
  have hkh : kH (plC C w) = max (3 * (((pkN C w (kE C)).1 : Int) + 1) + 2) (max (kI C : Int) (kO C : Int)) := by
    have z : kH (plC C w) = if ((pkN C w (kE C)).1 : Int) + 1 = 0 then 0 else max (3 * (((pkN C w (kE C)).1 : Int) + 1) + 2) (max (C 0 0) (C 2 0)) := rfl
    rw [z, if_neg (by omega), wf.i, wf.o]
  rw [e1, e3, max_e (by omega) (by omega), bX_some, max_e (by omega) (by omega), bX_some, wf_eq, ← hkh]
  have khr : 0 ≤ kH (plC C w) ∧ kH (plC C w) < 2147483648 := by rw [hkh]; omega
  generalize hS3 : sI (sI (sI S L 11 (w : Int)) L 12 (((pkN C w (kE C)).1 : Int) + 1)) L 13 (kH (plC C w)) = S3
  have g3 : ∀ a i, ¬ (a = L ∧ (i = 11 ∨ i = 12 ∨ i = 13)) → gI S3 a i = gI S a i := fun a i z => by
    rw [← hS3, hI_sI, if_neg (by omega), hI_sI, if_neg (by omega), hI_sI, if_neg (by omega)]
  have r3 : RepK S3 L C := by
    obtain ⟨z1, z2, z3, z4, z5, z6⟩ := r
    refine ⟨?_, fun g hg => ?_, fun g hg => ?_, fun g hg => ?_, fun g hg => ?_, fun g hg => ?_⟩
    · simp (disch := omega) only [g3]; exact z1
    · rw [g3 _ _ (by omega)]; exact z2 g hg
    · rw [g3 _ _ (by omega)]; exact z3 g hg
    · rw [g3 _ _ (by omega)]; exact z4 g hg
    · rw [g3 _ _ (by omega)]; exact z5 g hg
    · simp (disch := omega) only [g3]; exact z6 g hg
  refine WP_call (k_place2 (w := w) r3 wf hw) (fun y hy => ?_)
  unfold mX22_forgetWires mX22_forgetLayout
  rw [wf_eq, wf_eq, bX_some, bX_some]
  have gy : ∀ i, gI y L i = gI S3 L i := fun i => hy.2 L i (by omega) (by omega)
  refine WP_some.2 ⟨rfl, ?_, ?_, ?_, ?_, ?_, fun e he => ?_, fun a i z z1 z2 => ?_⟩
  · rw [hI_sI_i (by omega), hI_sI_i (by omega), gy, ← hS3, hI_sI_i (by omega), hI_sI_i (by omega), hI_sI, if_pos ⟨rfl, rfl⟩, w32_id (by omega)]
  · rw [hI_sI_i (by omega), hI_sI_i (by omega), gy, ← hS3, hI_sI_i (by omega), hI_sI, if_pos ⟨rfl, rfl⟩, w32_id (by omega)]
  · rw [hI_sI_i (by omega), hI_sI_i (by omega), gy, ← hS3, hI_sI, if_pos ⟨rfl, rfl⟩, w32_id (by omega)]
  · rw [hI_sI_i (by omega), hI_sI, if_pos ⟨rfl, rfl⟩]; rfl
  · rw [hI_sI, if_pos ⟨rfl, rfl⟩]; rfl
  · rw [hI_sI_a (by omega), hI_sI_a (by omega), hI_sI_a (by omega), hI_sI_a (by omega)]; exact hy.1 e he
  · rw [hI_sI, if_neg (by omega), hI_sI, if_neg (by omega), hy.2 a i z1 z2, g3 a i (by omega)]
theorem m_place {S1 : Sto} {k : Nat} {C : Chp} {w : Nat} (hi : mX23_isChip S1 (k : Int) = some 1) (r : RefK (sI S1 2000 0 0) k C) (wf : WFC C) (hk : k < 4) (hw : 4 ≤ w ∧ w ≤ 60) (hr : (pkN C w (kE C)).1 < 12) :
    WP (mX23_place S1 (k : Int) (w : Int)) (fun x => x.1 = ((pkN C w (kE C)).1 : Int) + 1 ∧ gI x.2 2000 0 = 0 ∧ gI x.2 2122 k = (w : Int) ∧ gI x.2 2123 k = ((pkN C w (kE C)).1 : Int) + 1 ∧ gI x.2 2134 k = 0 ∧ gI x.2 2146 k = 0 ∧ (∀ e, e < kE C → gI x.2 2124 (156 * k + e) = (pkX C w e : Int) ∧ gI x.2 2125 (156 * k + e) = (pkY C w e : Int)) ∧ (∀ a i, ¬ (a = 2000 ∧ i = 0) → ¬ ((a = 2122 ∨ a = 2123 ∨ a = 2134 ∨ a = 2146) ∧ i = k) → ¬ ((a = 2124 ∨ a = 2125) ∧ 156 * k ≤ i ∧ i < 156 * k + 156) → gI x.2 a i = gI S1 a i)) := by
  unfold mX23_place
  rw [hi, bX_some, if_neg (by decide), m_within (by omega) (by omega) (by omega), if_pos (by omega), if_pos (by omega), bX_some, if_neg (by decide), bX_some, wf_eq]
  have z0 : gI (sI S1 2000 0 0) 2000 0 = 0 := by rw [hI_sI, if_pos ⟨rfl, rfl⟩]; rfl
  rw [z0, w32_0, if_neg (show ¬ (0 : Int) < 0 by omega), m_place1 (w := w) r wf hk hw, bX_some, w32_id (by omega), if_neg (by omega)]
  refine WP_call (m_place2 (w := w) r wf hk hw) (fun y hy => ?_)
  obtain ⟨y1, y2, y3⟩ := hy
  rw [y1, wrI_e (by omega), wrI_e (by omega), Int.toNat_natCast]
  unfold mX23_loseWires
  rw [wrI_e (by omega), wrI_e (by omega), bX_some, rdI_e (by omega), Int.toNat_natCast]
  have e23 : gI (sI (sI (sI (sI y.2 2122 k (w : Int)) 2123 k (((pkN C w (kE C)).1 : Int) + 1)) 2134 k 0) 2146 k 0) 2123 k = ((pkN C w (kE C)).1 : Int) + 1 := by
    rw [hI_sI_a (by omega), hI_sI_a (by omega), hI_sI, if_pos ⟨rfl, rfl⟩, w32_id (by omega)]
  rw [e23]
  refine WP_some.2 ⟨rfl, ?_, ?_, ?_, ?_, ?_, fun e he => ?_, fun a i z z1 z2 => ?_⟩
  · rw [hI_sI_a (by omega), hI_sI_a (by omega), hI_sI_a (by omega), hI_sI_a (by omega), y3 _ _ (by omega), z0]
  · rw [hI_sI_a (by omega), hI_sI_a (by omega), hI_sI_a (by omega), hI_sI, if_pos ⟨rfl, rfl⟩, w32_id (by omega)]
  · exact e23
  · rw [hI_sI_a (by omega), hI_sI, if_pos ⟨rfl, rfl⟩]; rfl
  · rw [hI_sI, if_pos ⟨rfl, rfl⟩]; rfl
  · rw [hI_sI_a (by omega), hI_sI_a (by omega), hI_sI_a (by omega), hI_sI_a (by omega), hI_sI_a (by omega), hI_sI_a (by omega), hI_sI_a (by omega), hI_sI_a (by omega)]; exact y2 e he
  · rw [hI_sI, if_neg (by omega), hI_sI, if_neg (by omega), hI_sI, if_neg (by omega), hI_sI, if_neg (by omega), y3 a i z2, hI_sI, if_neg z]
theorem L26 {p1 p2 : Int} (h : Inv c S) (hc : c < 64) (h1 : i32 p1) (h2 : i32 p2) : WP (mL_26 S p1 p2) (Inv (c + 1)) := by
  have rx := h.1.x hc
  unfold mL_26 mX0_place
  by_cases hq : isCh S p1
  · have hx := chipIn_t hq; obtain ⟨k, C, hk, rfl, w, r, m, wx, rX, mX⟩ := InvC.get h hq; rw [Int.toNat_natCast] at hx; have hn := w.nums; have eg := r.1.2.2.2.1; have em := m.1.2.2.2.1; rw [w.g] at eg em; have ei := r.1.1; have mi := m.1.1; rw [w.i] at ei mi; have er := r.1.2.1; have mr := m.1.2.1; rw [w.r] at er mr; have eo := r.1.2.2.1; have mo := m.1.2.2.1; rw [w.o] at eo mo; have el := r.1.2.2.2.2.1; have ml := m.1.2.2.2.2.1; rw [w.l] at el ml
    unfold i32 at h2
    by_cases q1 : p2 < 4
    · refine L_modF (m1 := fun S1 => mX23_place S1 _ _) 2 2 h hc ?_ rfl (by omega) (fun S1 eS => ?_)
      · simp (disch := omega) only [mX1_place, hx, gI_thr, gz_0, gz_1, true_or, or_true, or_false, false_or, rdI_e, rdZ_e, rdL_e, wrI_e, wrL_e, bX_some, bE_inl, bE_inr, bT_inl, bT_inr, wf_eq, wfL_eq, wfR_eq, gkc_chip, gkc_dsg, gkc_lib, gk_chip, gk_dsg, gk_lib, gth_e rx, inside_0 rx, inside_1, need_0 rx, need_1, now_0 rx, now_1, roomX_0 rx, roomX_1, w32_id, w32_gI, ← Int.not_lt, not_true_eq_false, not_false_eq_true, if_true, if_false, reduceIte, Bool.false_eq_true, Int.toNat_natCast, Int.reduceToNat, Int.toNat_add, Int.toNat_mul, Int.reduceLT, Int.reduceEq, Int.reduceNeg, Nat.reduceAdd, hI_sI, and_self, Nat.reduceEqDiff, true_and, and_true, and_false, false_and, ne_eq, q1]
      · simp (disch := omega) only [mX23_place, m_isChip_t h eS h1 hq, gI_thr, gz_0, gz_1, true_or, or_true, or_false, false_or, rdI_e, rdZ_e, rdL_e, wrI_e, wrL_e, bX_some, bE_inl, bE_inr, bT_inl, bT_inr, wf_eq, wfL_eq, wfR_eq, gkc_chip, gkc_dsg, gkc_lib, gk_chip, gk_dsg, gk_lib, gth_e rx, inside_0 rx, inside_1, need_0 rx, need_1, now_0 rx, now_1, roomX_0 rx, roomX_1, w32_id, w32_gI, ← Int.not_lt, not_true_eq_false, not_false_eq_true, if_true, if_false, reduceIte, Bool.false_eq_true, Int.toNat_natCast, Int.reduceToNat, Int.toNat_add, Int.toNat_mul, Int.reduceLT, Int.reduceEq, Int.reduceNeg, Nat.reduceAdd, hI_sI, and_self, Nat.reduceEqDiff, true_and, and_true, and_false, false_and, ne_eq, q1, m_within]
    by_cases q2 : 60 < p2
    · refine L_modF (m1 := fun S1 => mX23_place S1 _ _) 2 2 h hc ?_ rfl (by omega) (fun S1 eS => ?_)
      · simp (disch := omega) only [mX1_place, hx, gI_thr, gz_0, gz_1, true_or, or_true, or_false, false_or, rdI_e, rdZ_e, rdL_e, wrI_e, wrL_e, bX_some, bE_inl, bE_inr, bT_inl, bT_inr, wf_eq, wfL_eq, wfR_eq, gkc_chip, gkc_dsg, gkc_lib, gk_chip, gk_dsg, gk_lib, gth_e rx, inside_0 rx, inside_1, need_0 rx, need_1, now_0 rx, now_1, roomX_0 rx, roomX_1, w32_id, w32_gI, ← Int.not_lt, not_true_eq_false, not_false_eq_true, if_true, if_false, reduceIte, Bool.false_eq_true, Int.toNat_natCast, Int.reduceToNat, Int.toNat_add, Int.toNat_mul, Int.reduceLT, Int.reduceEq, Int.reduceNeg, Nat.reduceAdd, hI_sI, and_self, Nat.reduceEqDiff, true_and, and_true, and_false, false_and, ne_eq, q1, q2]
      · simp (disch := omega) only [mX23_place, m_isChip_t h eS h1 hq, gI_thr, gz_0, gz_1, true_or, or_true, or_false, false_or, rdI_e, rdZ_e, rdL_e, wrI_e, wrL_e, bX_some, bE_inl, bE_inr, bT_inl, bT_inr, wf_eq, wfL_eq, wfR_eq, gkc_chip, gkc_dsg, gkc_lib, gk_chip, gk_dsg, gk_lib, gth_e rx, inside_0 rx, inside_1, need_0 rx, need_1, now_0 rx, now_1, roomX_0 rx, roomX_1, w32_id, w32_gI, ← Int.not_lt, not_true_eq_false, not_false_eq_true, if_true, if_false, reduceIte, Bool.false_eq_true, Int.toNat_natCast, Int.reduceToNat, Int.toNat_add, Int.toNat_mul, Int.reduceLT, Int.reduceEq, Int.reduceNeg, Nat.reduceAdd, hI_sI, and_self, Nat.reduceEqDiff, true_and, and_true, and_false, false_and, ne_eq, q1, q2, m_within]
    obtain ⟨w', rfl⟩ : ∃ w' : Nat, p2 = (w' : Int) := ⟨p2.toNat, by omega⟩
    have hw : 4 ≤ w' ∧ w' ≤ 60 := by omega
    have pr := pkN_rng w hw.1 (kE C) (Nat.le_refl _)
    have hE : kE C ≤ 156 := by unfold kE; omega
    refine L_modS (m1 := fun S1 => mX23_place S1 _ _) ?_
    have kp1 := k_place1 (w := w') r w hw
    by_cases q3 : 12 ≤ (pkN C w' (kE C)).1
    · have q3' : (12 : Int) < ((pkN C w' (kE C)).1 : Int) + 1 := by omega
      simp (disch := omega) only [mX1_place, hx, gI_thr, gz_0, gz_1, true_or, or_true, or_false, false_or, rdI_e, rdZ_e, rdL_e, wrI_e, wrL_e, bX_some, bE_inl, bE_inr, bT_inl, bT_inr, wf_eq, wfL_eq, wfR_eq, gkc_chip, gkc_dsg, gkc_lib, gk_chip, gk_dsg, gk_lib, gth_e rx, inside_0 rx, inside_1, need_0 rx, need_1, now_0 rx, now_1, roomX_0 rx, roomX_1, w32_id, w32_gI, ← Int.not_lt, not_true_eq_false, not_false_eq_true, if_true, if_false, reduceIte, Bool.false_eq_true, Int.toNat_natCast, Int.reduceToNat, Int.toNat_add, Int.toNat_mul, Int.reduceLT, Int.reduceEq, Int.reduceNeg, Nat.reduceAdd, hI_sI, and_self, Nat.reduceEqDiff, true_and, and_true, and_false, false_and, ne_eq, q1, q2, mX14_place, kp1, q3', if_true, WP_some, WE_inl]
      have eS : ∀ a i, gI (sL S 2178 0 (i2l (-1))) a i = gI S a i := fun _ _ => rfl
      have mm : RefK (sI (sL S 2178 0 (i2l (-1))) 2000 0 0) k C := m.cg0 (fun a i q => (hI_sI_a q).trans (eS _ _))
      have q4 : ¬ ((pkN C w' (kE C)).1 : Int) < 12 := by omega
      simp (disch := omega) only [mX23_place, m_isChip_t h eS h1 hq, gI_thr, gz_0, gz_1, true_or, or_true, or_false, false_or, rdI_e, rdZ_e, rdL_e, wrI_e, wrL_e, bX_some, bE_inl, bE_inr, bT_inl, bT_inr, wf_eq, wfL_eq, wfR_eq, gkc_chip, gkc_dsg, gkc_lib, gk_chip, gk_dsg, gk_lib, gth_e rx, inside_0 rx, inside_1, need_0 rx, need_1, now_0 rx, now_1, roomX_0 rx, roomX_1, w32_id, w32_gI, ← Int.not_lt, not_true_eq_false, not_false_eq_true, if_true, if_false, reduceIte, Bool.false_eq_true, Int.toNat_natCast, Int.reduceToNat, Int.toNat_add, Int.toNat_mul, Int.reduceLT, Int.reduceEq, Int.reduceNeg, Nat.reduceAdd, hI_sI, and_self, Nat.reduceEqDiff, true_and, and_true, and_false, false_and, ne_eq, q1, q2, m_within, m_place1 (w := w') mm w hk hw, q4, WP_some]
      exact ⟨by rw [gL_sI, gL_sL, if_pos ⟨rfl, rfl⟩], h.q1 hc⟩
    · have q3' : ¬ (12 : Int) < ((pkN C w' (kE C)).1 : Int) + 1 := by omega
      simp (disch := omega) only [mX1_place, hx, gI_thr, gz_0, gz_1, true_or, or_true, or_false, false_or, rdI_e, rdZ_e, rdL_e, wrI_e, wrL_e, bX_some, bE_inl, bE_inr, bT_inl, bT_inr, wf_eq, wfL_eq, wfR_eq, gkc_chip, gkc_dsg, gkc_lib, gk_chip, gk_dsg, gk_lib, gth_e rx, inside_0 rx, inside_1, need_0 rx, need_1, now_0 rx, now_1, roomX_0 rx, roomX_1, w32_id, w32_gI, ← Int.not_lt, not_true_eq_false, not_false_eq_true, if_true, if_false, reduceIte, Bool.false_eq_true, Int.toNat_natCast, Int.reduceToNat, Int.toNat_add, Int.toNat_mul, Int.reduceLT, Int.reduceEq, Int.reduceNeg, Nat.reduceAdd, hI_sI, and_self, Nat.reduceEqDiff, true_and, and_true, and_false, false_and, ne_eq, q1, q2]
      refine WP_callF (k_place (w := w') r w hw (by omega)) fr_mX14_place (fun x hx' fx => ?_)
      obtain ⟨x0, x11, x12, x13, x16, x20, xe, xo⟩ := hx'
      rw [WP_some, WE_inl]
      generalize hS1 : sL x.2 2178 0 (i2l x.1) = S1
      have eN : ∀ a i, ¬ (344 + 22 * k ≤ a ∧ a ≤ 344 + 22 * k + 21) → gI S1 a i = gI S a i := fun a i z => by rw [← hS1]; exact xo a i (by omega) (by omega) (by omega)
      have m1 : RefK (sI S1 2000 0 0) k C := m.cg (fun a i l1 l2 => (hI_sI_a (by omega)).trans (eN a i (by omega)))
      have hi := m_isChip_w h (fun i => eN 434 i (by omega)) (fun i => eN 2105 i (by omega)) h1 hq
      have fh := fx.heap
      show WP (mX23_place S1 (k : Int) (w' : Int)) _
      refine WP.mono ((m_place (w := w') hi m1 w hk hw (by omega)).pc fr_mX23_place) (fun y hy => ?_)
      obtain ⟨⟨y0, yz, y22, y23, y34, y46, ye, yo⟩, fy⟩ := hy
      have fyh := fy.heap
      have eLx : ∀ a i, (a = 365 ∨ a = 387 ∨ a = 409 ∨ a = 431) ∨ a = 2175 → gL x.2 a i = gL S a i := fun a i z => fx.gl (okP_lab (by simp only [W_mX14_place, List.forall_mem_cons, List.not_mem_nil, false_implies, implies_true, and_true]; omega))
      have eLy : ∀ a i, ((a = 365 ∨ a = 387 ∨ a = 409 ∨ a = 431) ∨ a = 2175) ∨ a = 2178 → gL y.2 a i = gL S1 a i := fun a i z => fy.gl (okP_lab (by simp only [W_mX23_place, List.forall_mem_cons, List.not_mem_nil, false_implies, implies_true, and_true]; omega))
      have gy : ∀ a i, kept a i = true → ¬ (344 + 22 * k ≤ a ∧ a ≤ 344 + 22 * k + 21) → ¬ ((a = 2122 ∨ a = 2123 ∨ a = 2134 ∨ a = 2146) ∧ i = k) → ¬ ((a = 2124 ∨ a = 2125) ∧ 156 * k ≤ i ∧ i < 156 * k + 156) → gI y.2 a i = gI S a i := fun a i q z1 z2 z3 => by rw [yo a i (kept_2000 q) z2 z3, eN a i z1]
      refine ⟨by rw [y0, x0], yz, ?_, h.putC hk (fun a i q z1 z2 z3 => gy a i q z1 (fun g => z2 ?_) (fun g => z2 ?_)) (fun a i q z1 z2 => ?_) ?_ ?_ ?_⟩
      · rw [eLy _ _ (.inr rfl), ← hS1, gL_sL, if_pos ⟨rfl, rfl⟩]
      · obtain ⟨g1, rfl⟩ := g; exact ownC_1 (by omega)
      · rcases g.1 with rfl | rfl
        · exact ⟨by omega, g.2.1, g.2.2⟩
        · exact ⟨by omega, g.2.1, g.2.2⟩
      · rw [eLy _ _ (.inl q), ← hS1, gL_sL, if_neg (by omega), eLx _ _ q]
      · rw [fyh.1, ← hS1]; show nC x.2 ≤ _; rw [fh.1]; omega
      · rw [fyh.2, ← hS1]; show nS x.2 ≤ _; rw [fh.2]; omega
      · have hg := h.2.2.2.2.2.2 k hk
        have e434 : gI y.2 434 k = gI S 434 k := gy _ _ (kept_rng (by omega)) (by omega) (by omega) (by omega)
        have yx : ∀ a i, 344 + 22 * k ≤ a → a ≤ 344 + 22 * k + 21 → gI y.2 a i = gI x.2 a i := fun a i l1 l2 => by rw [yo a i (by omega) (by omega) (by omega), ← hS1]; rfl
        have yo2 : ∀ a i, ownC k a i → ¬ (a = 2122 ∨ a = 2123 ∨ a = 2134 ∨ a = 2146 ∨ a = 2124 ∨ a = 2125) → gI y.2 a i = gI S a i := fun a i l z => gy a i (ownC_kept l) (by have := l.1; omega) (by omega) (by omega)
        unfold InvC at hg ⊢
        refine ⟨by rw [e434]; exact hg.1, by rw [e434, gy 2105 k (kept_rng (by omega)) (by omega) (by omega) (by omega)]; exact hg.2.1, fun _ => ⟨plC C w', ⟨w, ?_, ?_⟩, WFX_plC w wx hw (by omega), ?_, ?_⟩⟩
        · have r1 : RepK y.2 (344 + 22 * k) C := by
            obtain ⟨z1, z2, z3, z4, z5, z6⟩ := r
            have gg : ∀ a i, 344 + 22 * k ≤ a → a ≤ 344 + 22 * k + 9 → ¬ (a = 344 + 22 * k ∧ 11 ≤ i) → gI y.2 a i = gI S a i := fun a i l1 l2 l3 => by rw [yx a i l1 (by omega), xo a i (by omega) (by omega) (by omega)]
            refine ⟨?_, fun g hg => ?_, fun g hg => ?_, fun g hg => ?_, fun g hg => ?_, fun g hg => ?_⟩
            · simp (disch := omega) only [gg]; exact z1
            · rw [gg _ _ (by omega) (by omega) (by omega)]; exact z2 g hg
            · rw [gg _ _ (by omega) (by omega) (by omega)]; exact z3 g hg
            · rw [gg _ _ (by omega) (by omega) (by omega)]; exact z4 g hg
            · rw [gg _ _ (by omega) (by omega) (by omega)]; exact z5 g hg
            · simp (disch := omega) only [gg]; exact z6 g hg
          exact r1
        · have m2 : RefK y.2 k C := m.cg (fun a i l1 l2 => gy a i (kept_rng (by omega)) (by omega) (by omega) (by omega))
          exact m2
        · obtain ⟨hP, hW, hB, hF, hT⟩ := rX
          have gg : ∀ a i, 344 + 22 * k ≤ a → a ≤ 344 + 22 * k + 21 → ¬ (a = 344 + 22 * k ∧ (i = 11 ∨ i = 12 ∨ i = 13 ∨ i = 16 ∨ i = 20)) → a ≠ 344 + 22 * k + 10 → a ≠ 344 + 22 * k + 11 → gI y.2 a i = gI S a i := fun a i l1 l2 l3 l4 l5 => by rw [yx a i l1 l2, xo a i l3 l4 l5]
          have ggL : ∀ i, gL y.2 (344 + 22 * k + 21) i = gL S (344 + 22 * k + 21) i := fun i => by rw [eLy _ _ (by omega), ← hS1, gL_sL, if_neg (by omega), eLx _ _ (by omega)]
          refine ⟨⟨⟨?_, ?_, ?_⟩, fun _ e he => ?_⟩, ⟨?_, fun g => ?_⟩, ⟨?_, fun i hi => ?_⟩, ?_, ?_⟩
          · rw [yx _ _ (by omega) (by omega)]; exact x11
          · rw [yx _ _ (by omega) (by omega)]; exact x12
          · rw [yx _ _ (by omega) (by omega)]; exact x13
          · rw [yx _ _ (by omega) (by omega), yx _ _ (by omega) (by omega)]; exact xe e he
          · rw [yx _ _ (by omega) (by omega)]; exact x16
          · exact absurd g (by show ¬ (0 : Int) = 1; omega)
          · rw [yx _ _ (by omega) (by omega)]; exact x20
          · exact absurd hi (Nat.not_lt_zero _)
          · have : RepF y.2 (344 + 22 * k) C := by unfold RepF at hF ⊢; simp (disch := omega) only [gg]; exact hF
            exact this
          · have : RepT y.2 (344 + 22 * k) C := by unfold RepT at hT ⊢; simp (disch := omega) only [gg, ggL]; exact hT
            exact this.fc plC_low plC_hi
        · obtain ⟨hP, hW, hB, hF, hT⟩ := mX
          have hfa := kFa_le w
          have hf : kFs C ≤ 40 := by have := wx.2.2.2.1.1; unfold kFs; omega
          have hs : kSn C ≤ 1224 := by have := wx.2.2.2.2.1; unfold kSn; omega
          refine ⟨⟨⟨y23, fun _ => y22⟩, fun _ e he => ye e he⟩, ⟨y34, fun g => ?_⟩, ⟨y46, fun g => absurd rfl g, fun i hi => absurd hi (Nat.not_lt_zero _)⟩, ?_, ?_⟩
          · exact absurd g (by show ¬ (0 : Int) = 1; omega)
          · have : RefF y.2 k C := by
              refine ⟨?_, fun i hi => ?_⟩
              · rw [yo2 2155 k (ownC_1 (by omega)) (by omega)]; exact hF.1
              · rw [yo2 2156 _ ⟨by omega, show 40 * k ≤ _ by omega, show _ < 40 * k + 40 by omega⟩ (by omega), yo2 2157 _ ⟨by omega, show 40 * k ≤ _ by omega, show _ < 40 * k + 40 by omega⟩ (by omega)]; exact hF.2 i hi
            exact this
          · have : RefT y.2 k C := by
              refine ⟨?_, fun i hi => ?_, fun i f hi hf' => ?_, fun f hf' => ?_⟩
              · rw [yo2 2172 k (ownC_1 (by omega)) (by omega)]; exact hT.1
              · rw [yo2 2173 _ ⟨by omega, show 1280 * k ≤ _ by omega, show _ < 1280 * k + 1280 by omega⟩ (by omega), yo2 2174 _ ⟨by omega, show 1280 * k ≤ _ by omega, show _ < 1280 * k + 1280 by omega⟩ (by omega)]; exact hT.2.1 i hi
              · rw [eLy _ _ (by omega), ← hS1, gL_sL, if_neg (by omega), eLx _ _ (by omega)]; exact hT.2.2.1 i f hi hf'
              · rw [yo2 2177 _ ⟨by omega, show 1280 * k ≤ _ by omega, show _ < 1280 * k + 1280 by omega⟩ (by omega)]; exact hT.2.2.2 f hf'
            exact this.fc plC_low plC_hi
  · refine L_modF (m1 := fun S1 => mX23_place S1 _ _) 1 1 h hc ?_ rfl (by omega) (fun S1 eS => ?_)
    · rw [mX1_place, chipIn_f hq rx h1]; rfl
    · unfold mX23_place; rw [m_isChip_f h eS h1 hq]; rfl
end PLC
