/-! check and violation: the calls -/
/-- a throw behind changes of scratch cells -/
theorem L_scrF {c : Nat} {S : Sto} {m : Option ((Int × Sto) ⊕ (Nat × Sto))} {m1 : Sto → Option (Int × Sto)} {cs : List (Nat × Int)} (code : Int) (kd : Nat) (h : Inv c S) (hc : c < 64)
    (hx : WP m (WE (fun _ => False) (fun t => t.1 = kd ∧ ∃ S', t.2 = thrS S' ∧ Sc S S'))) (hcs : cs.lookup kd = some code) (hcode : 0 < code ∧ code < 10)
    (hm : ∀ S1, (∀ a i, kept a i = true → gI S1 a i = gI S a i) → WP (m1 S1) (fun y => gI y.2 2000 0 = code ∧ Sc S1 y.2)) :
    WP (bX (bC m (fun x1 => wrL 1 x1.2 2178 0 (i2l x1.1) fun S2 => some (0, S2)) cs) fun x1 => bX (m1 x1.2) fun x2 => bX (mX23_thrown x2.2) fun x3 => if ¬ w32 x3 = w32 x1.1 then none else bX (if w32 x1.1 = 0 then rdL 1 x2.2 2178 0 fun v4 => if ¬ w32 (lCmp v4 (i2l x2.1)) = 0 then some true else some false else some false) fun b => if b = true then none else some x2.2) (Inv (c + 1)) := by
  refine L_val (bC_WP (hx.mono fun z hz => ?_))
  cases z with
  | inl t => exact False.elim hz
  | inr t =>
    obtain ⟨z1, S', z2, z3⟩ := hz
    show ∃ c', cs.lookup t.1 = some c' ∧ _
    rw [z1]
    refine ⟨code, hcs, ?_⟩
    show WP (m1 t.2) _
    rw [z2]
    refine (hm (thrS S') (fun a i q => z3.1 a i q)).mono (fun y hy => ?_)
    refine ⟨by rw [hy.1], fun g => absurd g (by show ¬ code = 0; omega), .inr (by show w32 code ≠ 0; rw [w32_id (by omega)]; omega), ?_⟩
    have g := hy.2
    refine h.gen hc (fun a i q => (g.1 a i q).trans (z3.1 a i q)) (fun a i q => (g.2.1 a i (by omega)).trans (z3.2.1 a i (by omega))) ?_ ?_
    · rw [g.2.2.1]; show nC S' + 1 ≤ _; rw [z3.2.2.1]; omega
    · rw [g.2.2.2]; show nS S' + 6 ≤ _; rw [z3.2.2.2]; omega
theorem MBx.of {S : Sto} {k : Nat} {C : Chp} (h : RefB S k C) (q : C 23 0 ≠ -1) : MBx S k C := ⟨h.2.1 q, h.2.2⟩
section CHECK2
variable {c : Nat} {S : Sto}
theorem vAll_len {C : Chp} (wB : WFB C) : (vAll C).length ≤ 4000000 := by
  have hb : kBx C ≤ 2000 := by have := wB.1; unfold kBx; omega
  have := vTh_len (C := C) (kBx C)
  have := vPr_len wB (kBx C)
  unfold vAll
  rw [List.length_append]; omega
theorem L38 {p1 : Int} (h : Inv c S) (hc : c < 64) (h1 : i32 p1) : WP (mL_38 S p1) (Inv (c + 1)) := by
  have rx := h.1.x hc
  unfold mL_38 mX0_check
  by_cases hq : isCh S p1
  · have hx := chipIn_t hq; obtain ⟨k, C, hk, rfl, w, r, m, wx, rX, mX⟩ := InvC.get h hq; rw [Int.toNat_natCast] at hx; have hn := w.nums; have eg := r.1.2.2.2.1; have em := m.1.2.2.2.1; rw [w.g] at eg em; have ei := r.1.1; have mi := m.1.1; rw [w.i] at ei mi; have er := r.1.2.1; have mr := m.1.2.1; rw [w.r] at er mr; have eo := r.1.2.2.1; have mo := m.1.2.2.1; rw [w.o] at eo mo; have el := r.1.2.2.2.2.1; have ml := m.1.2.2.2.2.1; rw [w.l] at el ml
    have e23 := rX.2.2.1.1
    have f23 := mX.2.2.1.1
    have wB := wx.2.2.1
    have wb := wB.1
    have va := vAll_len wB
    by_cases q2 : C 23 0 = -1
    · rw [q2] at e23
      rw [if_pos q2] at f23
      refine L_modF (m1 := fun S1 => mX23_check S1 _) 2 3 h hc ?_ rfl (by omega) (fun S1 eS => ?_)
      · simp (disch := omega) only [mX1_check, mX1_drawnIn, hx, gI_thr, gz_0, gz_1, true_or, or_true, or_false, false_or, rdI_e, rdZ_e, rdL_e, wrI_e, wrL_e, bX_some, bE_inl, bE_inr, bT_inl, bT_inr, wf_eq, wfL_eq, wfR_eq, gkc_chip, gkc_dsg, gkc_lib, gk_chip, gk_dsg, gk_lib, gth_e rx, inside_0 rx, inside_1, need_0 rx, need_1, now_0 rx, now_1, roomX_0 rx, roomX_1, w32_id, w32_gI, ← Int.not_lt, not_true_eq_false, not_false_eq_true, if_true, if_false, reduceIte, Bool.false_eq_true, Int.toNat_natCast, Int.reduceToNat, Int.toNat_add, Int.toNat_mul, Int.reduceLT, Int.reduceEq, Int.reduceNeg, Nat.reduceAdd, hI_sI, and_self, Nat.reduceEqDiff, true_and, and_true, and_false, false_and, ne_eq, e23]
      · simp (disch := omega) only [mX23_check, m_isChip_t h eS h1 hq, gI_thr, gz_0, gz_1, true_or, or_true, or_false, false_or, rdI_e, rdZ_e, rdL_e, wrI_e, wrL_e, bX_some, bE_inl, bE_inr, bT_inl, bT_inr, wf_eq, wfL_eq, wfR_eq, gkc_chip, gkc_dsg, gkc_lib, gk_chip, gk_dsg, gk_lib, gth_e rx, inside_0 rx, inside_1, need_0 rx, need_1, now_0 rx, now_1, roomX_0 rx, roomX_1, w32_id, w32_gI, ← Int.not_lt, not_true_eq_false, not_false_eq_true, if_true, if_false, reduceIte, Bool.false_eq_true, Int.toNat_natCast, Int.reduceToNat, Int.toNat_add, Int.toNat_mul, Int.reduceLT, Int.reduceEq, Int.reduceNeg, Nat.reduceAdd, hI_sI, and_self, Nat.reduceEqDiff, true_and, and_true, and_false, false_and, ne_eq, eS, f23, bz_0, w32_0, w32_1, gI_set]
    · rw [if_neg q2] at f23
      have q2' : ¬ C 23 0 = -1 := q2
      refine L_scr (m1 := fun S1 => mX23_check S1 _) ((vAll C).length : Int) h hc ?_ (fun S1 eS => ?_)
      · simp (disch := omega) only [mX1_check, mX1_drawnIn, hx, gI_thr, gz_0, gz_1, true_or, or_true, or_false, false_or, rdI_e, rdZ_e, rdL_e, wrI_e, wrL_e, bX_some, bE_inl, bE_inr, bT_inl, bT_inr, wf_eq, wfL_eq, wfR_eq, gkc_chip, gkc_dsg, gkc_lib, gk_chip, gk_dsg, gk_lib, gth_e rx, inside_0 rx, inside_1, need_0 rx, need_1, now_0 rx, now_1, roomX_0 rx, roomX_1, w32_id, w32_gI, ← Int.not_lt, not_true_eq_false, not_false_eq_true, if_true, if_false, reduceIte, Bool.false_eq_true, Int.toNat_natCast, Int.reduceToNat, Int.toNat_add, Int.toNat_mul, Int.reduceLT, Int.reduceEq, Int.reduceNeg, Nat.reduceAdd, hI_sI, and_self, Nat.reduceEqDiff, true_and, and_true, and_false, false_and, ne_eq, e23, q2']
        refine WP_call (k_check e23 rX.2.2.1.2 hk rfl wB (by omega)) (fun x hx => ?_)
        obtain ⟨l, r, x1, x2, x3, x4, x5⟩ := hx
        have r0 : r = [] := x4.elim id (fun g => absurd rfl g.1)
        rw [r0, List.append_nil] at x1
        exact WP_some.2 ⟨by rw [x1]; exact x2, Sc.tr Sc.refl.sR (Sc.ch x5 rfl)⟩
      · have mS := eS.M m
        have mSX := eS.Y w wx mX
        have f23' := mSX.2.2.1.1
        rw [if_neg q2] at f23'
        have s0 : Sc S1 (sI S1 2000 0 0) := Sc.refl.sI rfl
        simp (disch := omega) only [mX23_check, eS.chip h h1 hq, gI_thr, gz_0, gz_1, true_or, or_true, or_false, false_or, rdI_e, rdZ_e, rdL_e, wrI_e, wrL_e, bX_some, bE_inl, bE_inr, bT_inl, bT_inr, wf_eq, wfL_eq, wfR_eq, gkc_chip, gkc_dsg, gkc_lib, gk_chip, gk_dsg, gk_lib, gth_e rx, inside_0 rx, inside_1, need_0 rx, need_1, now_0 rx, now_1, roomX_0 rx, roomX_1, w32_id, w32_gI, ← Int.not_lt, not_true_eq_false, not_false_eq_true, if_true, if_false, reduceIte, Bool.false_eq_true, Int.toNat_natCast, Int.reduceToNat, Int.toNat_add, Int.toNat_mul, Int.reduceLT, Int.reduceEq, Int.reduceNeg, Nat.reduceAdd, hI_sI, and_self, Nat.reduceEqDiff, true_and, and_true, and_false, false_and, ne_eq, f23', bz_1, w32_1, w32_0, gI_set]
        refine WP_bX.2 (WP_callF (m_violations (MBx.of (s0.Y w wx mSX).2.2.1 q2) hk wB (by omega)) fr_mX23_violations (fun x hx hf => ?_))
        obtain ⟨l, r, x1, x2, x3, x4, x5⟩ := hx
        have lr : (vAll C).length = l.length + r.length := by rw [x1, List.length_append]
        have r0 : r = [] := x4.elim id (fun g => absurd g (by omega))
        rw [r0, List.append_nil] at x1
        refine WP_some.2 (WP_some.2 ⟨by rw [x1]; exact x2, (hf.ei rfl).trans gI_set, s0.tr (Sc.fr hf rfl rfl)⟩)
  · refine L_modF (m1 := fun S1 => mX23_check S1 _) 1 1 h hc ?_ rfl (by omega) (fun S1 eS => ?_)
    · unfold mX1_check mX1_drawnIn; rw [chipIn_f hq rx h1]; rfl
    · unfold mX23_check; rw [m_isChip_f h eS h1 hq]; rfl
theorem L39 {p1 p2 p3 : Int} (h : Inv c S) (hc : c < 64) (h1 : i32 p1) (h2 : i32 p2) (h3 : i32 p3) : WP (mL_39 S p1 p2 p3) (Inv (c + 1)) := by
  have rx := h.1.x hc
  unfold mL_39 mX0_violation
  by_cases hq : isCh S p1
  · have hx := chipIn_t hq; obtain ⟨k, C, hk, rfl, w, r, m, wx, rX, mX⟩ := InvC.get h hq; rw [Int.toNat_natCast] at hx; have hn := w.nums; have eg := r.1.2.2.2.1; have em := m.1.2.2.2.1; rw [w.g] at eg em; have ei := r.1.1; have mi := m.1.1; rw [w.i] at ei mi; have er := r.1.2.1; have mr := m.1.2.1; rw [w.r] at er mr; have eo := r.1.2.2.1; have mo := m.1.2.2.1; rw [w.o] at eo mo; have el := r.1.2.2.2.2.1; have ml := m.1.2.2.2.2.1; rw [w.l] at el ml
    unfold i32 at h2 h3
    have e23 := rX.2.2.1.1
    have f23 := mX.2.2.1.1
    have wB := wx.2.2.1
    have wb := wB.1
    have va := vAll_len wB
    by_cases q1 : 0 ≤ p2 ∧ (p3 = 0 ∨ p3 = 1)
    · obtain ⟨n, rfl⟩ : ∃ n : Nat, p2 = (n : Int) := ⟨p2.toNat, by omega⟩
      have qn : ¬ (n : Int) < 0 := by omega
      have gd : (if ¬ p3 = 0 then (if p3 = 1 then some true else some false) else some true) = some true := by
        by_cases z : p3 = 0
        · rw [if_neg (fun g => g z)]
        · rw [if_pos z, if_pos (by omega)]
      by_cases q2 : C 23 0 = -1
      · rw [q2] at e23
        rw [if_pos q2] at f23
        refine L_modF (m1 := fun S1 => mX23_violation S1 _ _ _) 2 3 h hc ?_ rfl (by omega) (fun S1 eS => ?_)
        · simp (disch := omega) only [mX1_violation, hx, gI_thr, gz_0, gz_1, true_or, or_true, or_false, false_or, rdI_e, rdZ_e, rdL_e, wrI_e, wrL_e, bX_some, bE_inl, bE_inr, bT_inl, bT_inr, wf_eq, wfL_eq, wfR_eq, gkc_chip, gkc_dsg, gkc_lib, gk_chip, gk_dsg, gk_lib, gth_e rx, inside_0 rx, inside_1, need_0 rx, need_1, now_0 rx, now_1, roomX_0 rx, roomX_1, w32_id, w32_gI, ← Int.not_lt, not_true_eq_false, not_false_eq_true, if_true, if_false, reduceIte, Bool.false_eq_true, Int.toNat_natCast, Int.reduceToNat, Int.toNat_add, Int.toNat_mul, Int.reduceLT, Int.reduceEq, Int.reduceNeg, Nat.reduceAdd, hI_sI, and_self, Nat.reduceEqDiff, true_and, and_true, and_false, false_and, ne_eq, gd, e23, qn]
        · simp (disch := omega) only [mX23_violation, m_isChip_t h eS h1 hq, m_within_t (p := p3) (a := 0) (b := 1) (by omega) (by omega) (by omega) (by omega), gI_thr, gz_0, gz_1, true_or, or_true, or_false, false_or, rdI_e, rdZ_e, rdL_e, wrI_e, wrL_e, bX_some, bE_inl, bE_inr, bT_inl, bT_inr, wf_eq, wfL_eq, wfR_eq, gkc_chip, gkc_dsg, gkc_lib, gk_chip, gk_dsg, gk_lib, gth_e rx, inside_0 rx, inside_1, need_0 rx, need_1, now_0 rx, now_1, roomX_0 rx, roomX_1, w32_id, w32_gI, ← Int.not_lt, not_true_eq_false, not_false_eq_true, if_true, if_false, reduceIte, Bool.false_eq_true, Int.toNat_natCast, Int.reduceToNat, Int.toNat_add, Int.toNat_mul, Int.reduceLT, Int.reduceEq, Int.reduceNeg, Nat.reduceAdd, hI_sI, and_self, Nat.reduceEqDiff, true_and, and_true, and_false, false_and, ne_eq, eS, f23, bz_0, w32_0, w32_1, gI_set, Int.reduceLT, qn]
      · rw [if_neg q2] at f23
        obtain ⟨x, gx, l, r, x1, x2, x3, x4, x5⟩ := k_check (p2 := (n : Int)) e23 rX.2.2.1.2 hk rfl wB (by omega)
        have lr : (vAll C).length = l.length + r.length := by rw [x1, List.length_append]
        have ln : (n < l.length ↔ n < (vAll C).length) := by
          rcases x4 with e | e
          · rw [e] at lr; show _ ↔ _; rw [lr]; rfl
          · omega
        have sx : Sc S x.2 := Sc.tr Sc.refl.sR (Sc.ch x5 rfl)
        have e23x := (sx.X hk rX).2.2.1.1
        have mref : ∀ S1, (∀ a i, kept a i = true → gI S1 a i = gI S a i) → RefB S1 k C → ∃ z, mX23_violations S1 (k : Int) (n : Int) = some z ∧ (∃ l r, vAll C = l ++ r ∧ z.1 = (l.length : Int) ∧ Lst l (gI z.2 2000 190) (gI z.2 2000 191) ∧ (r = [] ∨ (n : Int) < (l.length : Int)) ∧ (l.length : Int) ≤ (n : Int) + 1) ∧ Fr W_mX23_violations [] false S1 z.2 := fun S1 eS rb => by
          obtain ⟨z, gz, hz⟩ := m_violations (p2 := (n : Int)) (MBx.of rb q2) hk wB (by omega)
          exact ⟨z, gz, hz, fr_mX23_violations z gz⟩
        have mch : ∀ S1, (∀ a i, kept a i = true → gI S1 a i = gI S a i) → mX23_isChip S1 (k : Int) = some 1 := fun S1 eS => m_isChip_w h (fun i => eS _ _ (kept_rng (by omega))) (fun i => eS _ _ (kept_rng (by omega))) h1 hq
        have mrb : ∀ S1, (∀ a i, kept a i = true → gI S1 a i = gI S a i) → RefB S1 k C := fun S1 eS => by
          obtain ⟨b1, b2, b3⟩ := mX.2.2.1
          have kb : kBx C ≤ 2000 := by unfold kBx; omega
          exact ⟨(eS _ _ (kept_rng (by omega))).trans b1, fun q => (eS _ _ (kept_rng (by omega))).trans (b2 q), fun i hi => (eS _ _ (kept_rng (by omega))).trans (b3 i hi)⟩
        by_cases q3 : n < (vAll C).length
        · have nl := ln.2 q3
          have ax := (x3 n rfl).1 nl
          have al : (vAll C)[n]? = some (gI x.2 240 6, gI x.2 240 7) := by rw [x1, List.getElem?_append_left nl]; exact ax
          refine L_scr (m1 := fun S1 => mX23_violation S1 _ _ _) (if p3 = 0 then gI x.2 240 6 else gI x.2 240 7) h hc ?_ (fun S1 eS => ?_)
          · have q3' : (n : Int) < x.1 := by omega
            have q3r : -2147483648 ≤ x.1 ∧ x.1 < 2147483648 := by omega
            simp (disch := omega) only [mX1_violation, hx, gI_thr, gz_0, gz_1, true_or, or_true, or_false, false_or, rdI_e, rdZ_e, rdL_e, wrI_e, wrL_e, bX_some, bE_inl, bE_inr, bT_inl, bT_inr, wf_eq, wfL_eq, wfR_eq, gkc_chip, gkc_dsg, gkc_lib, gk_chip, gk_dsg, gk_lib, gth_e rx, inside_0 rx, inside_1, need_0 rx, need_1, now_0 rx, now_1, roomX_0 rx, roomX_1, w32_id, w32_gI, ← Int.not_lt, not_true_eq_false, not_false_eq_true, if_true, if_false, reduceIte, Bool.false_eq_true, Int.toNat_natCast, Int.reduceToNat, Int.toNat_add, Int.toNat_mul, Int.reduceLT, Int.reduceEq, Int.reduceNeg, Nat.reduceAdd, hI_sI, and_self, Nat.reduceEqDiff, true_and, and_true, and_false, false_and, ne_eq, gd, e23, q2, gx, q3', bE_inl, e23x, qn]
            exact WP_some.2 ⟨rfl, sx⟩
          · obtain ⟨z, gz, ⟨l', r', y1, y2, y3, y4, y5⟩, hf⟩ := mref S1 eS.1 (mrb S1 eS.1)
            have lr' : (vAll C).length = l'.length + r'.length := by rw [y1, List.length_append]
            have nl' : l'.length = n + 1 := by
              rcases y4 with e | e
              · have : r'.length = 0 := by rw [e]; rfl
                omega
              · omega
            have al' : (vAll C)[n]? = some (gI z.2 2000 190, gI z.2 2000 191) := by
              rw [y1, List.getElem?_append_left (by omega)]
              have := y3 (by omega)
              rw [nl', Nat.add_sub_cancel] at this; exact this
            rw [al] at al'
            have ee := Prod.mk.inj (Option.some.inj al')
            have f23' := (mrb S1 eS.1).1
            rw [if_neg q2] at f23'
            have z1 : ¬ z.1 ≤ (n : Int) := by omega
            have z1r : -2147483648 ≤ z.1 ∧ z.1 < 2147483648 := by omega
            have sz : Sc S1 (sI z.2 2000 0 0) := (Sc.fr hf rfl rfl).sI rfl
            have zw : w32 z.1 = z.1 := w32_id z1r
            have zn : w32 (n : Int) = (n : Int) := w32_id (by omega)
            rw [mX23_violation, mch S1 eS.1, bX_some, if_pos (by decide), m_within_t (by omega) (by omega) (by omega) (show (0 : Int) ≤ p3 ∧ p3 ≤ 1 by omega), bX_some, if_pos (by decide), zn, if_neg (by omega), bX_some, if_neg (by decide), rdZ_e (by omega), Int.toNat_natCast, f23', bz_1, if_neg (by decide), gz, bX_some, zw, if_neg z1, bX_some, wf_eq]
            dsimp only
            rw [gI_set, if_neg (by decide), w32_id h3, hI_sI_i (by omega), hI_sI_i (by omega), ← ee.1, ← ee.2, ite_someI, bX_some]
            exact WP_some.2 ⟨rfl, by rw [gI_set]; rfl, sz⟩
        · have nl : ¬ n < l.length := fun g => q3 (ln.1 g)
          refine L_scrF (m1 := fun S1 => mX23_violation S1 _ _ _) 1 1 h hc ?_ rfl (by omega) (fun S1 eS => ?_)
          · have q3' : ¬ (n : Int) < x.1 := by omega
            have q3r : -2147483648 ≤ x.1 ∧ x.1 < 2147483648 := by omega
            have rx' : RoomX x.2 := by unfold RoomX at rx ⊢; rw [sx.2.2.1, sx.2.2.2]; exact rx
            simp (disch := omega) only [mX1_violation, hx, gI_thr, gz_0, gz_1, true_or, or_true, or_false, false_or, rdI_e, rdZ_e, rdL_e, wrI_e, wrL_e, bX_some, bE_inl, bE_inr, bT_inl, bT_inr, wf_eq, wfL_eq, wfR_eq, gkc_chip, gkc_dsg, gkc_lib, gk_chip, gk_dsg, gk_lib, gth_e rx, inside_0 rx, inside_1, need_0 rx, need_1, now_0 rx, now_1, roomX_0 rx, roomX_1, w32_id, w32_gI, ← Int.not_lt, not_true_eq_false, not_false_eq_true, if_true, if_false, reduceIte, Bool.false_eq_true, Int.toNat_natCast, Int.reduceToNat, Int.toNat_add, Int.toNat_mul, Int.reduceLT, Int.reduceEq, Int.reduceNeg, Nat.reduceAdd, hI_sI, and_self, Nat.reduceEqDiff, true_and, and_true, and_false, false_and, ne_eq, gd, e23, q2, gx, q3', bE_inr, qn, inside_0 rx']
            exact WP_some.2 ⟨rfl, x.2, rfl, sx⟩
          · obtain ⟨z, gz, ⟨l', r', y1, y2, y3, y4, y5⟩, hf⟩ := mref S1 eS (mrb S1 eS)
            have lr' : (vAll C).length = l'.length + r'.length := by rw [y1, List.length_append]
            have f23' := (mrb S1 eS).1
            rw [if_neg q2] at f23'
            have z1 : z.1 ≤ (n : Int) := by omega
            have z1r : -2147483648 ≤ z.1 ∧ z.1 < 2147483648 := by omega
            have sz : Sc S1 (sI z.2 2000 0 1) := (Sc.fr hf rfl rfl).sI rfl
            have zw : w32 z.1 = z.1 := w32_id z1r
            have zn : w32 (n : Int) = (n : Int) := w32_id (by omega)
            rw [mX23_violation, mch S1 eS, bX_some, if_pos (by decide), m_within_t (by omega) (by omega) (by omega) (show (0 : Int) ≤ p3 ∧ p3 ≤ 1 by omega), bX_some, if_pos (by decide), zn, if_neg (by omega), bX_some, if_neg (by decide), rdZ_e (by omega), Int.toNat_natCast, f23', bz_1, if_neg (by decide), gz, bX_some, zw, if_pos z1, bX_some, wf_eq]
            dsimp only
            rw [gI_set, if_pos (by decide), bX_some]
            exact WP_some.2 ⟨by rw [gI_set]; rfl, sz⟩
    · refine L_modF (m1 := fun S1 => mX23_violation S1 _ _ _) 1 1 h hc ?_ rfl (by omega) (fun S1 eS => ?_)
      · by_cases z : 0 ≤ p2
        · have z' : ¬ p2 < 0 := by omega
          have z1 : ¬ p3 = 0 := by omega
          have z2 : ¬ p3 = 1 := by omega
          simp (disch := omega) only [mX1_violation, hx, gI_thr, gz_0, gz_1, true_or, or_true, or_false, false_or, rdI_e, rdZ_e, rdL_e, wrI_e, wrL_e, bX_some, bE_inl, bE_inr, bT_inl, bT_inr, wf_eq, wfL_eq, wfR_eq, gkc_chip, gkc_dsg, gkc_lib, gk_chip, gk_dsg, gk_lib, gth_e rx, inside_0 rx, inside_1, need_0 rx, need_1, now_0 rx, now_1, roomX_0 rx, roomX_1, w32_id, w32_gI, ← Int.not_lt, not_true_eq_false, not_false_eq_true, if_true, if_false, reduceIte, Bool.false_eq_true, Int.toNat_natCast, Int.reduceToNat, Int.toNat_add, Int.toNat_mul, Int.reduceLT, Int.reduceEq, Int.reduceNeg, Nat.reduceAdd, hI_sI, and_self, Nat.reduceEqDiff, true_and, and_true, and_false, false_and, ne_eq, z', z1, z2]
        · have z' : p2 < 0 := by omega
          simp (disch := omega) only [mX1_violation, hx, gI_thr, gz_0, gz_1, true_or, or_true, or_false, false_or, rdI_e, rdZ_e, rdL_e, wrI_e, wrL_e, bX_some, bE_inl, bE_inr, bT_inl, bT_inr, wf_eq, wfL_eq, wfR_eq, gkc_chip, gkc_dsg, gkc_lib, gk_chip, gk_dsg, gk_lib, gth_e rx, inside_0 rx, inside_1, need_0 rx, need_1, now_0 rx, now_1, roomX_0 rx, roomX_1, w32_id, w32_gI, ← Int.not_lt, not_true_eq_false, not_false_eq_true, if_true, if_false, reduceIte, Bool.false_eq_true, Int.toNat_natCast, Int.reduceToNat, Int.toNat_add, Int.toNat_mul, Int.reduceLT, Int.reduceEq, Int.reduceNeg, Nat.reduceAdd, hI_sI, and_self, Nat.reduceEqDiff, true_and, and_true, and_false, false_and, ne_eq, z']
      · by_cases z : 0 ≤ p3 ∧ p3 ≤ 1
        · have z' : p2 < 0 := by omega
          simp (disch := omega) only [mX23_violation, m_isChip_t h eS h1 hq, m_within_t (p := p3) (a := 0) (b := 1) (by omega) (by omega) (by omega) z, gI_thr, gz_0, gz_1, true_or, or_true, or_false, false_or, rdI_e, rdZ_e, rdL_e, wrI_e, wrL_e, bX_some, bE_inl, bE_inr, bT_inl, bT_inr, wf_eq, wfL_eq, wfR_eq, gkc_chip, gkc_dsg, gkc_lib, gk_chip, gk_dsg, gk_lib, gth_e rx, inside_0 rx, inside_1, need_0 rx, need_1, now_0 rx, now_1, roomX_0 rx, roomX_1, w32_id, w32_gI, ← Int.not_lt, not_true_eq_false, not_false_eq_true, if_true, if_false, reduceIte, Bool.false_eq_true, Int.toNat_natCast, Int.reduceToNat, Int.toNat_add, Int.toNat_mul, Int.reduceLT, Int.reduceEq, Int.reduceNeg, Nat.reduceAdd, hI_sI, and_self, Nat.reduceEqDiff, true_and, and_true, and_false, false_and, ne_eq, z', w32_1, w32_0, gI_set, Int.reduceLT]
        · simp (disch := omega) only [mX23_violation, m_isChip_t h eS h1 hq, m_within_f (p := p3) (a := 0) (b := 1) (by omega) (by omega) (by omega) z, gI_thr, gz_0, gz_1, true_or, or_true, or_false, false_or, rdI_e, rdZ_e, rdL_e, wrI_e, wrL_e, bX_some, bE_inl, bE_inr, bT_inl, bT_inr, wf_eq, wfL_eq, wfR_eq, gkc_chip, gkc_dsg, gkc_lib, gk_chip, gk_dsg, gk_lib, gth_e rx, inside_0 rx, inside_1, need_0 rx, need_1, now_0 rx, now_1, roomX_0 rx, roomX_1, w32_id, w32_gI, ← Int.not_lt, not_true_eq_false, not_false_eq_true, if_true, if_false, reduceIte, Bool.false_eq_true, Int.toNat_natCast, Int.reduceToNat, Int.toNat_add, Int.toNat_mul, Int.reduceLT, Int.reduceEq, Int.reduceNeg, Nat.reduceAdd, hI_sI, and_self, Nat.reduceEqDiff, true_and, and_true, and_false, false_and, ne_eq, w32_1, w32_0, gI_set, Int.reduceLT]
  · refine L_modF (m1 := fun S1 => mX23_violation S1 _ _ _) 1 1 h hc ?_ rfl (by omega) (fun S1 eS => ?_)
    · rw [mX1_violation, chipIn_f hq rx h1]; rfl
    · unfold mX23_violation; rw [m_isChip_f h eS h1 hq]; rfl
end CHECK2
