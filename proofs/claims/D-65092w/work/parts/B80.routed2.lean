/-! what is routed: the call -/
theorem m_within_t {p a b : Int} (hp : -2147483648 ≤ p ∧ p < 2147483648) (ha : -2147483648 ≤ a ∧ a < 2147483648) (hb : -2147483648 ≤ b ∧ b < 2147483648) (h : a ≤ p ∧ p ≤ b) : mX23_within p a b = some 1 := by
  rw [m_within hp ha hb, if_pos (by omega), if_pos (by omega)]
theorem m_within_f {p a b : Int} (hp : -2147483648 ≤ p ∧ p < 2147483648) (ha : -2147483648 ≤ a ∧ a < 2147483648) (hb : -2147483648 ≤ b ∧ b < 2147483648) (h : ¬ (a ≤ p ∧ p ≤ b)) : mX23_within p a b = some 0 := by
  rw [m_within hp ha hb]
  by_cases q : p < a
  · rw [if_neg (fun g => g q)]
  · rw [if_pos q, if_neg (by omega)]
section ROUTED2
variable {c : Nat} {S : Sto}
theorem L33 {p1 p2 p3 : Int} (h : Inv c S) (hc : c < 64) (h1 : i32 p1) (h2 : i32 p2) (h3 : i32 p3) : WP (mL_33 S p1 p2 p3) (Inv (c + 1)) := by
  have rx := h.1.x hc
  unfold mL_33 mX0_routed
  by_cases hq : isCh S p1
  · have hx := chipIn_t hq; obtain ⟨k, C, hk, rfl, w, r, m, wx, rX, mX⟩ := InvC.get h hq; rw [Int.toNat_natCast] at hx; have hn := w.nums; have eg := r.1.2.2.2.1; have em := m.1.2.2.2.1; rw [w.g] at eg em; have ei := r.1.1; have mi := m.1.1; rw [w.i] at ei mi; have er := r.1.2.1; have mr := m.1.2.1; rw [w.r] at er mr; have eo := r.1.2.2.1; have mo := m.1.2.2.1; rw [w.o] at eo mo; have el := r.1.2.2.2.2.1; have ml := m.1.2.2.2.2.1; rw [w.l] at el ml
    have h2' := h2
    unfold i32 at h2 h3
    have kn := k_nets r w
    have e19 := rX.2.1.1
    have f19 := mX.2.1.1
    have ww := wx.2.1
    by_cases q1 : 0 ≤ p2 ∧ p2 < (kN C : Int)
    · obtain ⟨n, rfl⟩ : ∃ n : Nat, p2 = (n : Int) := ⟨p2.toNat, by omega⟩
      have hnn : n < kN C := by omega
      by_cases q2 : 0 ≤ p3 ∧ p3 ≤ 4
      · rcases ww.1 with q3 | q3
        · rw [q3] at e19 f19
          refine L_modF (m1 := fun S1 => mX23_routed S1 _ _ _) 3 3 h hc ?_ rfl (by omega) (fun S1 eS => ?_)
          · simp (disch := omega) only [mX1_routed, hx, gI_thr, gz_0, gz_1, true_or, or_true, or_false, false_or, rdI_e, rdZ_e, rdL_e, wrI_e, wrL_e, bX_some, bE_inl, bE_inr, bT_inl, bT_inr, wf_eq, wfL_eq, wfR_eq, gkc_chip, gkc_dsg, gkc_lib, gk_chip, gk_dsg, gk_lib, gth_e rx, inside_0 rx, inside_1, need_0 rx, need_1, now_0 rx, now_1, roomX_0 rx, roomX_1, w32_id, w32_gI, ← Int.not_lt, not_true_eq_false, not_false_eq_true, if_true, if_false, reduceIte, Bool.false_eq_true, Int.toNat_natCast, Int.reduceToNat, Int.toNat_add, Int.toNat_mul, Int.reduceLT, Int.reduceEq, Int.reduceNeg, Nat.reduceAdd, hI_sI, and_self, Nat.reduceEqDiff, true_and, and_true, and_false, false_and, ne_eq, q1, q2, kn, e19, bz_0]
          · simp (disch := omega) only [mX23_routed, m_isNet_t (m_isChip_t h eS h1 hq) (m.cg (fun a i _ _ => eS a i)) w hk hnn, m_within_t (p := p3) (a := 0) (b := 4) (by omega) (by omega) (by omega) q2, gI_thr, gz_0, gz_1, true_or, or_true, or_false, false_or, rdI_e, rdZ_e, rdL_e, wrI_e, wrL_e, bX_some, bE_inl, bE_inr, bT_inl, bT_inr, wf_eq, wfL_eq, wfR_eq, gkc_chip, gkc_dsg, gkc_lib, gk_chip, gk_dsg, gk_lib, gth_e rx, inside_0 rx, inside_1, need_0 rx, need_1, now_0 rx, now_1, roomX_0 rx, roomX_1, w32_id, w32_gI, ← Int.not_lt, not_true_eq_false, not_false_eq_true, if_true, if_false, reduceIte, Bool.false_eq_true, Int.toNat_natCast, Int.reduceToNat, Int.toNat_add, Int.toNat_mul, Int.reduceLT, Int.reduceEq, Int.reduceNeg, Nat.reduceAdd, hI_sI, and_self, Nat.reduceEqDiff, true_and, and_true, and_false, false_and, ne_eq, eS, f19, bz_0, w32_1, w32_0, gI_set]
        · have W := ww.2 q3
          have h0 := W.1
          rw [q3] at e19 f19
          have pm := kMany_pos w hnn
          have pl := kMany_le w (n := n)
          have C22 := W.2.2.2.2.2 n hnn
          refine L_scr (m1 := fun S1 => mX23_routed S1 _ _ _) (if p3 = 0 then sumN (rtA C n) (2 * kLy C) else if p3 = 1 then sumN (rtB C n) (2 * kLy C) else if p3 = 2 then sumN (rtC C n) (2 * kLy C) else if p3 = 3 then C 22 n else kMany C n) h hc ?_ (fun S1 eS => ?_)
          · simp (disch := omega) only [mX1_routed, hx, gI_thr, gz_0, gz_1, true_or, or_true, or_false, false_or, rdI_e, rdZ_e, rdL_e, wrI_e, wrL_e, bX_some, bE_inl, bE_inr, bT_inl, bT_inr, wf_eq, wfL_eq, wfR_eq, gkc_chip, gkc_dsg, gkc_lib, gk_chip, gk_dsg, gk_lib, gth_e rx, inside_0 rx, inside_1, need_0 rx, need_1, now_0 rx, now_1, roomX_0 rx, roomX_1, w32_id, w32_gI, ← Int.not_lt, not_true_eq_false, not_false_eq_true, if_true, if_false, reduceIte, Bool.false_eq_true, Int.toNat_natCast, Int.reduceToNat, Int.toNat_add, Int.toNat_mul, Int.reduceLT, Int.reduceEq, Int.reduceNeg, Nat.reduceAdd, hI_sI, and_self, Nat.reduceEqDiff, true_and, and_true, and_false, false_and, ne_eq, q1, q2, kn, e19, bz_1]
            refine WP_call (k_take r w hk rfl) (fun x hx => ?_)
            obtain ⟨x1, x2, x3⟩ := hx
            have sc : Sc S x := Sc.tr Sc.refl.sR (Sc.ch x3 rfl)
            have X := sc.X hk rX
            rw [k_rt68 w wx.1 ww X.1 X.2.1 q3 hnn, bX_some]
            have z : p3 = 0 ∨ p3 = 1 ∨ p3 = 2 ∨ p3 = 3 ∨ p3 = 4 := by omega
            rcases z with rfl | rfl | rfl | rfl | rfl
            · exact WP_some.2 ⟨rfl, sc⟩
            · rw [if_neg (by decide), if_pos rfl, k_steps w wx.1 ww X.1 X.2.1 q3 hnn (.inl rfl), bX_some]
              exact WP_some.2 ⟨rfl, sc⟩
            · rw [if_neg (by decide), if_neg (by decide), if_pos rfl, k_steps w wx.1 ww X.1 X.2.1 q3 hnn (.inr rfl), bX_some]
              exact WP_some.2 ⟨rfl, sc⟩
            · rw [if_neg (by decide), if_neg (by decide), if_neg (by decide), if_pos rfl]
              have e := (X.2.1.2 q3).2 n hnn
              refine WP_some.2 ⟨?_, sc⟩
              simp only [e]
              rcases C22 with g | g <;> rw [g] <;> rfl
            · rw [if_neg (by decide), if_neg (by decide), if_neg (by decide), if_neg (by decide), (x1.2.2 n hnn).2]
              exact WP_some.2 ⟨rfl, sc⟩
          · have mS := eS.M m
            have mSX := eS.Y w wx mX
            have f19' := mSX.2.1.1
            rw [q3] at f19'
            have s0 : Sc S1 (sI S1 2000 0 0) := Sc.refl.sI rfl
            simp (disch := omega) only [mX23_routed, m_isNet_t (eS.chip h h1 hq) mS w hk hnn, m_within_t (p := p3) (a := 0) (b := 4) (by omega) (by omega) (by omega) q2, gI_thr, gz_0, gz_1, true_or, or_true, or_false, false_or, rdI_e, rdZ_e, rdL_e, wrI_e, wrL_e, bX_some, bE_inl, bE_inr, bT_inl, bT_inr, wf_eq, wfL_eq, wfR_eq, gkc_chip, gkc_dsg, gkc_lib, gk_chip, gk_dsg, gk_lib, gth_e rx, inside_0 rx, inside_1, need_0 rx, need_1, now_0 rx, now_1, roomX_0 rx, roomX_1, w32_id, w32_gI, ← Int.not_lt, not_true_eq_false, not_false_eq_true, if_true, if_false, reduceIte, Bool.false_eq_true, Int.toNat_natCast, Int.reduceToNat, Int.toNat_add, Int.toNat_mul, Int.reduceLT, Int.reduceEq, Int.reduceNeg, Nat.reduceAdd, hI_sI, and_self, Nat.reduceEqDiff, true_and, and_true, and_false, false_and, ne_eq, f19', bz_1, w32_1, w32_0, gI_set]
            refine WP_callF (m_layGrid (s0.M mS) ((s0.Y w wx mSX)).1 w wx h0 hk) fr_mX23_layGrid (fun x hx hf => ?_)
            have sc := s0.tr (Sc.fr hf rfl rfl)
            have z0 : gI x 2000 0 = 0 := (hf.ei rfl).trans gI_set
            refine WP_callF (m_boxPins (sc.M mS) ((sc.Y w wx mSX)).1 w wx.1 hk) fr_mX23_boxPins (fun y hy hg => ?_)
            have sc := sc.tr (Sc.fr hg rfl rfl)
            have z0 : gI y 2000 0 = 0 := (hg.ei rfl).trans z0
            have Y := sc.Y w wx mSX
            have G := MGrid.fr hx hg rfl
            have YW := (Y.2.1.2 q3).2 n hnn
            have zt : (256 * (k : Int) + (n : Int)).toNat = 256 * k + n := by omega
            have bp := (hy.2.1 n hnn).1
            rw [m_rt75 w wx.1 ww hk G Y.2.1 q3 hnn, bX_some]
            have z : p3 = 0 ∨ p3 = 1 ∨ p3 = 2 ∨ p3 = 3 ∨ p3 = 4 := by omega
            rcases z with rfl | rfl | rfl | rfl | rfl
            · exact WP_some.2 ⟨rfl, z0, sc⟩
            · exact WP_some.2 ⟨rfl, z0, sc⟩
            · exact WP_some.2 ⟨rfl, z0, sc⟩
            · rw [if_neg (by decide), if_neg (by decide), if_neg (by decide), if_pos rfl]
              simp only [YW]
              rcases C22 with e | e
              · rw [e]; exact WP_some.2 ⟨rfl, z0, sc⟩
              · rw [e]; exact WP_some.2 ⟨rfl, z0, sc⟩
            · rw [if_neg (by decide), if_neg (by decide), if_neg (by decide), if_neg (by decide), bp]
              exact WP_some.2 ⟨rfl, z0, sc⟩
      · refine L_modF (m1 := fun S1 => mX23_routed S1 _ _ _) 2 2 h hc ?_ rfl (by omega) (fun S1 eS => ?_)
        · by_cases q3 : 0 ≤ p3
          · have q4 : ¬ p3 ≤ 4 := by omega
            have q3' : ¬ p3 < 0 := by omega
            simp (disch := omega) only [mX1_routed, hx, gI_thr, gz_0, gz_1, true_or, or_true, or_false, false_or, rdI_e, rdZ_e, rdL_e, wrI_e, wrL_e, bX_some, bE_inl, bE_inr, bT_inl, bT_inr, wf_eq, wfL_eq, wfR_eq, gkc_chip, gkc_dsg, gkc_lib, gk_chip, gk_dsg, gk_lib, gth_e rx, inside_0 rx, inside_1, need_0 rx, need_1, now_0 rx, now_1, roomX_0 rx, roomX_1, w32_id, w32_gI, ← Int.not_lt, not_true_eq_false, not_false_eq_true, if_true, if_false, reduceIte, Bool.false_eq_true, Int.toNat_natCast, Int.reduceToNat, Int.toNat_add, Int.toNat_mul, Int.reduceLT, Int.reduceEq, Int.reduceNeg, Nat.reduceAdd, hI_sI, and_self, Nat.reduceEqDiff, true_and, and_true, and_false, false_and, ne_eq, q1, q3', q4, kn]
          · have q3' : p3 < 0 := by omega
            simp (disch := omega) only [mX1_routed, hx, gI_thr, gz_0, gz_1, true_or, or_true, or_false, false_or, rdI_e, rdZ_e, rdL_e, wrI_e, wrL_e, bX_some, bE_inl, bE_inr, bT_inl, bT_inr, wf_eq, wfL_eq, wfR_eq, gkc_chip, gkc_dsg, gkc_lib, gk_chip, gk_dsg, gk_lib, gth_e rx, inside_0 rx, inside_1, need_0 rx, need_1, now_0 rx, now_1, roomX_0 rx, roomX_1, w32_id, w32_gI, ← Int.not_lt, not_true_eq_false, not_false_eq_true, if_true, if_false, reduceIte, Bool.false_eq_true, Int.toNat_natCast, Int.reduceToNat, Int.toNat_add, Int.toNat_mul, Int.reduceLT, Int.reduceEq, Int.reduceNeg, Nat.reduceAdd, hI_sI, and_self, Nat.reduceEqDiff, true_and, and_true, and_false, false_and, ne_eq, q1, q3', kn]
        · have q5 : (if ¬ p3 < 0 then (if ¬ 4 < p3 then 1 else 0) else 0 : Int) = 0 := by
            by_cases q3 : p3 < 0
            · rw [if_neg (fun g => g q3)]
            · rw [if_pos q3, if_neg (by omega)]
          rw [mX23_routed, m_isNet_t (m_isChip_t h eS h1 hq) (m.cg (fun a i _ _ => eS a i)) w hk hnn, bX_some, if_neg (by decide), m_within (by omega) (by omega) (by omega), bX_some, q5, if_pos (by decide), bX_some, wf_eq, gI_set, if_pos (by decide)]
    · refine L_modF (m1 := fun S1 => mX23_routed S1 _ _ _) 1 1 h hc ?_ rfl (by omega) (fun S1 eS => ?_)
      · by_cases q2 : 0 ≤ p2
        · have q3 : ¬ p2 < (kN C : Int) := by omega
          have q2' : ¬ p2 < 0 := by omega
          simp (disch := omega) only [mX1_routed, hx, gI_thr, gz_0, gz_1, true_or, or_true, or_false, false_or, rdI_e, rdZ_e, rdL_e, wrI_e, wrL_e, bX_some, bE_inl, bE_inr, bT_inl, bT_inr, wf_eq, wfL_eq, wfR_eq, gkc_chip, gkc_dsg, gkc_lib, gk_chip, gk_dsg, gk_lib, gth_e rx, inside_0 rx, inside_1, need_0 rx, need_1, now_0 rx, now_1, roomX_0 rx, roomX_1, w32_id, w32_gI, ← Int.not_lt, not_true_eq_false, not_false_eq_true, if_true, if_false, reduceIte, Bool.false_eq_true, Int.toNat_natCast, Int.reduceToNat, Int.toNat_add, Int.toNat_mul, Int.reduceLT, Int.reduceEq, Int.reduceNeg, Nat.reduceAdd, hI_sI, and_self, Nat.reduceEqDiff, true_and, and_true, and_false, false_and, ne_eq, q2', q3, kn]
        · have q2' : p2 < 0 := by omega
          simp (disch := omega) only [mX1_routed, hx, gI_thr, gz_0, gz_1, true_or, or_true, or_false, false_or, rdI_e, rdZ_e, rdL_e, wrI_e, wrL_e, bX_some, bE_inl, bE_inr, bT_inl, bT_inr, wf_eq, wfL_eq, wfR_eq, gkc_chip, gkc_dsg, gkc_lib, gk_chip, gk_dsg, gk_lib, gth_e rx, inside_0 rx, inside_1, need_0 rx, need_1, now_0 rx, now_1, roomX_0 rx, roomX_1, w32_id, w32_gI, ← Int.not_lt, not_true_eq_false, not_false_eq_true, if_true, if_false, reduceIte, Bool.false_eq_true, Int.toNat_natCast, Int.reduceToNat, Int.toNat_add, Int.toNat_mul, Int.reduceLT, Int.reduceEq, Int.reduceNeg, Nat.reduceAdd, hI_sI, and_self, Nat.reduceEqDiff, true_and, and_true, and_false, false_and, ne_eq, q2']
      · simp (disch := omega) only [mX23_routed, m_isNet_f (m_isChip_t h eS h1 hq) (m.cg (fun a i _ _ => eS a i)) w hk h2' q1, gI_thr, gz_0, gz_1, true_or, or_true, or_false, false_or, rdI_e, rdZ_e, rdL_e, wrI_e, wrL_e, bX_some, bE_inl, bE_inr, bT_inl, bT_inr, wf_eq, wfL_eq, wfR_eq, gkc_chip, gkc_dsg, gkc_lib, gk_chip, gk_dsg, gk_lib, gth_e rx, inside_0 rx, inside_1, need_0 rx, need_1, now_0 rx, now_1, roomX_0 rx, roomX_1, w32_id, w32_gI, ← Int.not_lt, not_true_eq_false, not_false_eq_true, if_true, if_false, reduceIte, Bool.false_eq_true, Int.toNat_natCast, Int.reduceToNat, Int.toNat_add, Int.toNat_mul, Int.reduceLT, Int.reduceEq, Int.reduceNeg, Nat.reduceAdd, hI_sI, and_self, Nat.reduceEqDiff, true_and, and_true, and_false, false_and, ne_eq, w32_1, w32_0, gI_set]
  · refine L_modF (m1 := fun S1 => mX23_routed S1 _ _ _) 1 1 h hc ?_ rfl (by omega) (fun S1 eS => ?_)
    · rw [mX1_routed, chipIn_f hq rx h1]; rfl
    · unfold mX23_routed; rw [m_isNet_no (m_isChip_f h eS h1 hq)]; rfl
end ROUTED2
