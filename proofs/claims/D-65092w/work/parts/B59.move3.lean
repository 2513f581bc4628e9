/-! move: both sides -/
def mvC (C : Chp) (e : Nat) (x y : Int) : Chp := fun f i => if f = 17 ∧ i = e then x else if f = 18 ∧ i = e then y else if f = 19 then 0 else if f = 23 then -1 else C f i
theorem mvC_o {C : Chp} {e : Nat} {x y : Int} {f i : Nat} (h1 : ¬ (f = 17 ∧ i = e)) (h2 : ¬ (f = 18 ∧ i = e)) (h3 : f ≠ 19) (h4 : f ≠ 23) : mvC C e x y f i = C f i := by
  unfold mvC
  rw [if_neg h1, if_neg h2, if_neg h3, if_neg h4]
theorem WFP_mvC {C : Chp} {e : Nat} {x y : Int} (wf : WFC C) (wp : WFP C) (he : e < kE C) (g : 0 ≤ y ∧ y < C 16 0 ∧ 0 ≤ x ∧ x + kSz C e ≤ C 15 0) (hf : mvFree C e x y) : WFP (mvC C e x y) := by
  have e15 : mvC C e x y 15 0 = C 15 0 := mvC_o (by omega) (by omega) (by omega) (by omega)
  have e16 : mvC C e x y 16 0 = C 16 0 := mvC_o (by omega) (by omega) (by omega) (by omega)
  have x1 : mvC C e x y 17 e = x := if_pos ⟨rfl, rfl⟩
  have y1 : mvC C e x y 18 e = y := by unfold mvC; rw [if_neg (by omega), if_pos ⟨rfl, rfl⟩]
  have x2 : ∀ f, f ≠ e → mvC C e x y 17 f = C 17 f := fun f q => mvC_o (by omega) (by omega) (by omega) (by omega)
  have y2 : ∀ f, f ≠ e → mvC C e x y 18 f = C 18 f := fun f q => mvC_o (by omega) (by omega) (by omega) (by omega)
  have eE : kE (mvC C e x y) = kE C := rfl
  have eS : ∀ f, kSz (mvC C e x y) f = kSz C f := fun f => rfl
  obtain ⟨p1, p2, p3⟩ := wp
  unfold WFP
  rw [e15, e16, eE]
  simp only [eS]
  refine ⟨p1, fun h0 f hf' => ?_, fun h0 f1 f2 h1 h2 hne hy => ?_⟩
  · by_cases q : f = e
    · subst q; rw [x1, y1]; omega
    · rw [x2 f q, y2 f q]; exact p2 h0 f hf'
  · by_cases q1 : f1 = e
    · subst q1
      have q2 : f2 ≠ f1 := fun z => hne z.symm
      rw [y1, y2 f2 q2] at hy
      rw [x1, x2 f2 q2]
      have := hf f2 h2
      by_cases z : C 17 f2 < x + kSz C f1
      · right
        by_cases z2 : x < C 17 f2 + kSz C f2
        · exact (this ⟨q2, hy.symm, z, z2⟩).elim
        · omega
      · left; omega
    · by_cases q2 : f2 = e
      · subst q2
        rw [y1, y2 f1 q1] at hy
        rw [x1, x2 f1 q1]
        have := hf f1 h1
        by_cases z : C 17 f1 < x + kSz C f2
        · left
          by_cases z2 : x < C 17 f1 + kSz C f1
          · exact (this ⟨q1, hy, z, z2⟩).elim
          · omega
        · right; omega
      · rw [y2 f1 q1, y2 f2 q2] at hy
        rw [x2 f1 q1, x2 f2 q2]
        exact p3 h0 f1 f2 h1 h2 hne hy
section MMV
variable {c : Nat} {S S1 : Sto} {k : Nat} {C : Chp} {e : Nat} {x y : Int}
theorem m_move_out (hi : mX23_isElement S1 (k : Int) (e : Int) = some 1) (r : RefK (sI S1 2000 0 0) k C) (rP : RefP S1 k C) (wf : WFC C) (wp : WFP C) (h0 : C 16 0 ≠ 0) (hk : k < 4) (he : e < kE C) (hx : -2147483648 ≤ x ∧ x < 2147483648) (hy : -2147483648 ≤ y ∧ y < 2147483648) (g : ¬ (0 ≤ y ∧ y < C 16 0 ∧ 0 ≤ x ∧ x + kSz C e ≤ C 15 0)) : mX23_move S1 (k : Int) (e : Int) x y = some (0, sI S1 2000 0 0) := by
  have p1 := wp.1
  have sz := kSz_rng wf he
  have ks := m_sizeOf r wf hk he
  have e23 := rP.1.1
  have e22 := rP.1.2 h0
  have f23 : gI (sI S1 2000 0 0) 2123 k = C 16 0 := (hI_sI_a (by omega)).trans e23
  have f22 : gI (sI S1 2000 0 0) 2122 k = C 15 0 := (hI_sI_a (by omega)).trans e22
  unfold mX23_move
  rw [hi, bX_some, if_neg (by decide), rdI_e (by omega), Int.toNat_natCast, e23, w32_id (by omega), if_neg h0, bX_some, wf_eq, gI_set, w32_0, w32_0, if_pos (by omega), w32_id hx, w32_id hy]
  by_cases c3 : 0 ≤ x
  · rw [if_pos c3]
    by_cases c1 : 0 ≤ y
    · rw [if_pos c1, rdI_e (by omega), Int.toNat_natCast, f23, w32_id (by omega)]
      by_cases c2 : y < C 16 0
      · rw [if_pos c2, rdI_e (by omega), Int.toNat_natCast, f22, ks, bX_some, w32_id (by omega), if_pos (by omega)]; rfl
      · rw [if_neg c2]; rfl
    · rw [if_neg c1]; rfl
  · rw [if_neg c3]; rfl
theorem m_move (hi : mX23_isElement S1 (k : Int) (e : Int) = some 1) (r : RefK (sI S1 2000 0 0) k C) (rP : RefP S1 k C) (wf : WFC C) (wp : WFP C) (h0 : C 16 0 ≠ 0) (hk : k < 4) (he : e < kE C) (g : 0 ≤ y ∧ y < C 16 0 ∧ 0 ≤ x ∧ x + kSz C e ≤ C 15 0) :
    WP (mX23_move S1 (k : Int) (e : Int) x y) (fun z => gI z.2 2000 0 = 0 ∧ ((z.1 = 0 ∧ ¬ mvFree C e x y ∧ ∀ a i, ¬ (a = 2000 ∧ i = 0) → gI z.2 a i = gI S1 a i) ∨ (z.1 = 1 ∧ mvFree C e x y ∧ gI z.2 2124 (156 * k + e) = x ∧ gI z.2 2125 (156 * k + e) = y ∧ gI z.2 2134 k = 0 ∧ gI z.2 2146 k = 0 ∧ ∀ a i, ¬ (a = 2000 ∧ i = 0) → ¬ ((a = 2124 ∨ a = 2125) ∧ i = 156 * k + e) → ¬ ((a = 2134 ∨ a = 2146) ∧ i = k) → gI z.2 a i = gI S1 a i))) := by
  have p1 := wp.1
  have hn := wf.nums
  have hE : kE C ≤ 156 := by unfold kE; omega
  have sz := kSz_rng wf he
  have ks := m_sizeOf r wf hk he
  have e23 := rP.1.1
  have e22 := rP.1.2 h0
  have f23 : gI (sI S1 2000 0 0) 2123 k = C 16 0 := (hI_sI_a (by omega)).trans e23
  have f22 : gI (sI S1 2000 0 0) 2122 k = C 15 0 := (hI_sI_a (by omega)).trans e22
  have rP4 : RefP (sI S1 2000 0 0) k C := by
    obtain ⟨⟨z1, z2⟩, z3⟩ := rP
    refine ⟨⟨f23, fun _ => f22⟩, fun q f hf => ⟨?_, ?_⟩⟩
    · rw [hI_sI_a (by omega)]; exact (z3 q f hf).1
    · rw [hI_sI_a (by omega)]; exact (z3 q f hf).2
  have zt : (156 * (k : Int) + (e : Int)).toNat = 156 * k + e := by omega
  unfold mX23_move
  rw [hi, bX_some, if_neg (by decide), rdI_e (by omega), Int.toNat_natCast, e23, w32_id (by omega), if_neg h0, bX_some, wf_eq, gI_set, w32_0, w32_0, if_pos (by omega), w32_id (show -2147483648 ≤ x ∧ x < 2147483648 by omega), w32_id (show -2147483648 ≤ y ∧ y < 2147483648 by omega), if_pos g.2.2.1, if_pos g.1, rdI_e (by omega), Int.toNat_natCast, f23, w32_id (by omega), if_pos g.2.1, rdI_e (by omega), Int.toNat_natCast, f22, ks, bX_some, w32_id (by omega), if_neg (by omega), bX_some, if_neg (by decide)]
  refine WP_bE.2 ((m_mv80 (x := x) (y := y) r rP4 wf wp h0 hk he (by omega) (by omega)).mono (fun t ht => ?_))
  cases t with
  | inl u =>
    show WP (wrI 624 (sI S1 2000 0 0) 2124 ((156 * (k : Int)) + (e : Int)) x fun S15 => wrI 624 S15 2125 ((156 * (k : Int)) + (e : Int)) y fun S16 => bX (mX23_loseWires S16 (k : Int)) fun x17 => some (1, x17)) _
    rw [wrI_e (by omega), wrI_e (by omega), zt]
    unfold mX23_loseWires
    rw [wrI_e (by omega), wrI_e (by omega), bX_some, Int.toNat_natCast]
    refine WP_some.2 ⟨?_, .inr ⟨rfl, ht, ?_, ?_, ?_, ?_, fun a i q1 q2 q3 => ?_⟩⟩
    · rw [hI_sI_a (by omega), hI_sI_a (by omega), hI_sI_a (by omega), hI_sI_a (by omega), gI_set]; rfl
    · rw [hI_sI_a (by omega), hI_sI_a (by omega), hI_sI_a (by omega), gI_set, w32_id (by omega)]
    · rw [hI_sI_a (by omega), hI_sI_a (by omega), gI_set, w32_id (by omega)]
    · rw [hI_sI_a (by omega), gI_set]; rfl
    · rw [gI_set]; rfl
    · rw [hI_sI, if_neg (by omega), hI_sI, if_neg (by omega), hI_sI, if_neg (by omega), hI_sI, if_neg (by omega), hI_sI, if_neg q1]
  | inr z =>
    obtain ⟨rfl, hf⟩ := ht
    exact ⟨gI_set, .inl ⟨rfl, hf, fun a i q => by rw [hI_sI, if_neg q]⟩⟩
theorem L28 {p1 p2 p3 p4 : Int} (h : Inv c S) (hc : c < 64) (h1 : i32 p1) (h2 : i32 p2) (h3 : i32 p3) (h4 : i32 p4) : WP (mL_28 S p1 p2 p3 p4) (Inv (c + 1)) := by
  have rx := h.1.x hc
  unfold mL_28 mX0_move
  by_cases hq : isCh S p1
  · have hx := chipIn_t hq; obtain ⟨k, C, hk, rfl, w, r, m, wx, rX, mX⟩ := InvC.get h hq; rw [Int.toNat_natCast] at hx; have hn := w.nums; have eg := r.1.2.2.2.1; have em := m.1.2.2.2.1; rw [w.g] at eg em; have ei := r.1.1; have mi := m.1.1; rw [w.i] at ei mi; have er := r.1.2.1; have mr := m.1.2.1; rw [w.r] at er mr; have eo := r.1.2.2.1; have mo := m.1.2.2.1; rw [w.o] at eo mo; have el := r.1.2.2.2.2.1; have ml := m.1.2.2.2.2.1; rw [w.l] at el ml
    unfold i32 at h2 h3 h4
    have wp := wx.1
    have el := k_elements r w
    have hp := k_hasPlaces rX.1 wp
    have me : ∀ S1, (∀ a i, gI S1 a i = gI S a i) → mX23_isElement S1 (k : Int) p2 = _ := fun S1 eS => m_isElement h (fun i => eS _ _) (fun i => eS _ _) h1 hq (m.cg0 (fun a i _ => eS a i)) w hk h2
    have e16 := mX.1.1.1
    by_cases q1 : p2 < 0
    · refine L_boolF (m1 := fun S1 => mX23_move S1 _ _ _ _) 1 1 h hc ?_ rfl (by omega) (fun S1 eS => ?_)
      · simp (disch := omega) only [mX1_move, hx, gI_thr, gz_0, gz_1, true_or, or_true, or_false, false_or, rdI_e, rdZ_e, rdL_e, wrI_e, wrL_e, bX_some, bE_inl, bE_inr, bT_inl, bT_inr, wf_eq, wfL_eq, wfR_eq, gkc_chip, gkc_dsg, gkc_lib, gk_chip, gk_dsg, gk_lib, gth_e rx, inside_0 rx, inside_1, need_0 rx, need_1, now_0 rx, now_1, roomX_0 rx, roomX_1, w32_id, w32_gI, ← Int.not_lt, not_true_eq_false, not_false_eq_true, if_true, if_false, reduceIte, Bool.false_eq_true, Int.toNat_natCast, Int.reduceToNat, Int.toNat_add, Int.toNat_mul, Int.reduceLT, Int.reduceEq, Int.reduceNeg, Nat.reduceAdd, hI_sI, and_self, Nat.reduceEqDiff, true_and, and_true, and_false, false_and, ne_eq, q1]
      · simp (disch := omega) only [mX23_move, me S1 eS, gI_thr, gz_0, gz_1, true_or, or_true, or_false, false_or, rdI_e, rdZ_e, rdL_e, wrI_e, wrL_e, bX_some, bE_inl, bE_inr, bT_inl, bT_inr, wf_eq, wfL_eq, wfR_eq, gkc_chip, gkc_dsg, gkc_lib, gk_chip, gk_dsg, gk_lib, gth_e rx, inside_0 rx, inside_1, need_0 rx, need_1, now_0 rx, now_1, roomX_0 rx, roomX_1, w32_id, w32_gI, ← Int.not_lt, not_true_eq_false, not_false_eq_true, if_true, if_false, reduceIte, Bool.false_eq_true, Int.toNat_natCast, Int.reduceToNat, Int.toNat_add, Int.toNat_mul, Int.reduceLT, Int.reduceEq, Int.reduceNeg, Nat.reduceAdd, hI_sI, and_self, Nat.reduceEqDiff, true_and, and_true, and_false, false_and, ne_eq, q1, gI_set, w32_1, w32_0, Int.reduceLE]
    by_cases q2 : p2 < ((kR C + kG C : Nat) : Int)
    · by_cases q3 : C 16 0 = 0
      · refine L_boolF (m1 := fun S1 => mX23_move S1 _ _ _ _) 2 3 h hc ?_ rfl (by omega) (fun S1 eS => ?_)
        · simp (disch := omega) only [mX1_move, hx, gI_thr, gz_0, gz_1, true_or, or_true, or_false, false_or, rdI_e, rdZ_e, rdL_e, wrI_e, wrL_e, bX_some, bE_inl, bE_inr, bT_inl, bT_inr, wf_eq, wfL_eq, wfR_eq, gkc_chip, gkc_dsg, gkc_lib, gk_chip, gk_dsg, gk_lib, gth_e rx, inside_0 rx, inside_1, need_0 rx, need_1, now_0 rx, now_1, roomX_0 rx, roomX_1, w32_id, w32_gI, ← Int.not_lt, not_true_eq_false, not_false_eq_true, if_true, if_false, reduceIte, Bool.false_eq_true, Int.toNat_natCast, Int.reduceToNat, Int.toNat_add, Int.toNat_mul, Int.reduceLT, Int.reduceEq, Int.reduceNeg, Nat.reduceAdd, hI_sI, and_self, Nat.reduceEqDiff, true_and, and_true, and_false, false_and, ne_eq, q1, q2, el, hp, q3]
        · simp (disch := omega) only [mX23_move, me S1 eS, gI_thr, gz_0, gz_1, true_or, or_true, or_false, false_or, rdI_e, rdZ_e, rdL_e, wrI_e, wrL_e, bX_some, bE_inl, bE_inr, bT_inl, bT_inr, wf_eq, wfL_eq, wfR_eq, gkc_chip, gkc_dsg, gkc_lib, gk_chip, gk_dsg, gk_lib, gth_e rx, inside_0 rx, inside_1, need_0 rx, need_1, now_0 rx, now_1, roomX_0 rx, roomX_1, w32_id, w32_gI, ← Int.not_lt, not_true_eq_false, not_false_eq_true, if_true, if_false, reduceIte, Bool.false_eq_true, Int.toNat_natCast, Int.reduceToNat, Int.toNat_add, Int.toNat_mul, Int.reduceLT, Int.reduceEq, Int.reduceNeg, Nat.reduceAdd, hI_sI, and_self, Nat.reduceEqDiff, true_and, and_true, and_false, false_and, ne_eq, q1, q2, eS, e16, q3, gI_set, w32_1, w32_0, Int.reduceLE]
      · obtain ⟨e, rfl⟩ : ∃ e : Nat, p2 = (e : Int) := ⟨p2.toNat, by omega⟩
        have he : e < kE C := by unfold kE; omega
        have hE : kE C ≤ 156 := by unfold kE; omega
        have me1 : ∀ S1, (∀ a i, a ≠ 227 → ¬ (344 + 22 * k ≤ a ∧ a ≤ 344 + 22 * k + 21) → gI S1 a i = gI S a i) → mX23_isElement S1 (k : Int) (e : Int) = some 1 := fun S1 eN => by
          rw [m_isElement h (fun i => eN _ _ (by omega) (by omega)) (fun i => eN _ _ (by omega) (by omega)) h1 hq (m.cg (fun a i l1 l2 => eN a i (by omega) (by omega))) w hk h2, if_pos q1, if_pos q2]
        have rP1 : ∀ S1, (∀ a i, a ≠ 227 → ¬ (344 + 22 * k ≤ a ∧ a ≤ 344 + 22 * k + 21) → gI S1 a i = gI S a i) → RefP S1 k C := fun S1 eN => by
          obtain ⟨⟨z1, z2⟩, z3⟩ := mX.1
          exact ⟨⟨(eN _ _ (by omega) (by omega)).trans z1, fun q => (eN _ _ (by omega) (by omega)).trans (z2 q)⟩, fun q f hf => ⟨(eN _ _ (by omega) (by omega)).trans (z3 q f hf).1, (eN _ _ (by omega) (by omega)).trans (z3 q f hf).2⟩⟩
        have mm1 : ∀ S1, (∀ a i, a ≠ 227 → ¬ (344 + 22 * k ≤ a ∧ a ≤ 344 + 22 * k + 21) → gI S1 a i = gI S a i) → RefK (sI S1 2000 0 0) k C := fun S1 eN => m.cg (fun a i l1 l2 => (hI_sI_a (by omega)).trans (eN a i (by omega) (by omega)))
        refine L_boolS (m1 := fun S1 => mX23_move S1 _ _ _ _) ?_
        simp (disch := omega) only [mX1_move, hx, gI_thr, gz_0, gz_1, true_or, or_true, or_false, false_or, rdI_e, rdZ_e, rdL_e, wrI_e, wrL_e, bX_some, bE_inl, bE_inr, bT_inl, bT_inr, wf_eq, wfL_eq, wfR_eq, gkc_chip, gkc_dsg, gkc_lib, gk_chip, gk_dsg, gk_lib, gth_e rx, inside_0 rx, inside_1, need_0 rx, need_1, now_0 rx, now_1, roomX_0 rx, roomX_1, w32_id, w32_gI, ← Int.not_lt, not_true_eq_false, not_false_eq_true, if_true, if_false, reduceIte, Bool.false_eq_true, Int.toNat_natCast, Int.reduceToNat, Int.toNat_add, Int.toNat_mul, Int.reduceLT, Int.reduceEq, Int.reduceNeg, Nat.reduceAdd, hI_sI, and_self, Nat.reduceEqDiff, true_and, and_true, and_false, false_and, ne_eq, q1, q2, el, hp, q3]
        by_cases g : 0 ≤ p4 ∧ p4 < C 16 0 ∧ 0 ≤ p3 ∧ p3 + kSz C e ≤ C 15 0
        · obtain ⟨xn, rfl⟩ : ∃ xn : Nat, p3 = (xn : Int) := ⟨p3.toNat, by omega⟩
          refine WP_callF (k_move (xn := xn) r rX.1 w wp q3 (by omega) he (by omega)) fr_mX14_move (fun x hx' fx => ?_)
          have fh := fx.heap
          have eLx : ∀ a i, (a = 365 ∨ a = 387 ∨ a = 409 ∨ a = 431) ∨ a = 2175 → gL x.2 a i = gL S a i := fun a i z => fx.gl (okP_lab (by simp only [W_mX14_move, List.forall_mem_cons, List.not_mem_nil, false_implies, implies_true, and_true]; omega))
          rcases hx' with ⟨x0, xf, xo⟩ | ⟨x0, xf, x17, x18, x16, x20, xo⟩
          · obtain ⟨xv, xs⟩ := x
            simp only at x0 xo fh eLx
            subst x0
            rw [gz_0, WP_some, WE_inl]
            have eN : ∀ a i, a ≠ 227 → ¬ (344 + 22 * k ≤ a ∧ a ≤ 344 + 22 * k + 21) → gI (sL xs 2178 0 (if ¬ w32 (0 : Int) = 0 then 1 else 0)) a i = gI S a i := fun a i q _ => xo a i q
            refine WP.mono (m := mX23_move (sL xs 2178 0 (if ¬ w32 (0 : Int) = 0 then 1 else 0)) (k : Int) (e : Int) (xn : Int) p4) ((m_move (me1 _ eN) (mm1 _ eN) (rP1 _ eN) w wp q3 hk he g).pc fr_mX23_move) (fun z hz => ?_)
            obtain ⟨⟨z0, hz⟩, fz⟩ := hz
            have fzh := fz.heap
            rcases hz with ⟨v, vf, vo⟩ | ⟨v, vf, _⟩
            · refine ⟨v, z0, ?_, h.cg (fun a i q => ?_) (fun a i q => ?_) (Nat.le_succ _) (h.1.up ?_ ?_)⟩
              · rw [fz.gl (okP_lab (by simp only [W_mX23_move, List.forall_mem_cons, List.not_mem_nil, false_implies, implies_true, and_true]; omega)), gL_sL, if_pos ⟨rfl, rfl⟩]
              · rw [vo a i (kept_2000 q)]; exact xo a i (kept_ne q rfl)
              · rw [fz.gl (okP_lab (by simp only [W_mX23_move, List.forall_mem_cons, List.not_mem_nil, false_implies, implies_true, and_true]; omega)), gL_sL, if_neg (by omega)]; exact eLx a i q
              · rw [fzh.1]; show nC xs ≤ _; rw [fh.1]; omega
              · rw [fzh.2]; show nS xs ≤ _; rw [fh.2]; omega
            · exact (xf vf).elim
          · obtain ⟨xv, xs⟩ := x
            simp only at x0 x17 x18 x16 x20 xo fh eLx
            subst x0
            rw [gz_1, WP_some, WE_inl]
            have eN : ∀ a i, a ≠ 227 → ¬ (344 + 22 * k ≤ a ∧ a ≤ 344 + 22 * k + 21) → gI (sL xs 2178 0 (if ¬ w32 (1 : Int) = 0 then 1 else 0)) a i = gI S a i := fun a i q q' => xo a i q (by omega) (by omega) (by omega)
            refine WP.mono (m := mX23_move (sL xs 2178 0 (if ¬ w32 (1 : Int) = 0 then 1 else 0)) (k : Int) (e : Int) (xn : Int) p4) ((m_move (me1 _ eN) (mm1 _ eN) (rP1 _ eN) w wp q3 hk he g).pc fr_mX23_move) (fun z hz => ?_)
            obtain ⟨⟨z0, hz⟩, fz⟩ := hz
            have fzh := fz.heap
            have eLz : ∀ a i, ((a = 365 ∨ a = 387 ∨ a = 409 ∨ a = 431) ∨ a = 2175) ∨ a = 2178 → gL z.2 a i = gL (sL xs 2178 0 (if ¬ w32 (1 : Int) = 0 then 1 else 0)) a i := fun a i q => fz.gl (okP_lab (by simp only [W_mX23_move, List.forall_mem_cons, List.not_mem_nil, false_implies, implies_true, and_true]; omega))
            rcases hz with ⟨v, vf, _⟩ | ⟨v, vf, y24, y25, y34, y46, vo⟩
            · exact (vf xf).elim
            · have gy : ∀ a i, kept a i = true → ¬ (344 + 22 * k ≤ a ∧ a ≤ 344 + 22 * k + 21) → ¬ ((a = 2124 ∨ a = 2125) ∧ i = 156 * k + e) → ¬ ((a = 2134 ∨ a = 2146) ∧ i = k) → gI z.2 a i = gI S a i := fun a i q z1 z2 z3 => by rw [vo a i (kept_2000 q) z2 z3]; exact eN a i (kept_ne q rfl) z1
              have eLL : ∀ a i, (a = 365 ∨ a = 387 ∨ a = 409 ∨ a = 431) ∨ a = 2175 → gL z.2 a i = gL S a i := fun a i q => by rw [eLz a i (.inl q), gL_sL, if_neg (by omega)]; exact eLx a i q
              have zx : ∀ a i, 344 + 22 * k ≤ a → a ≤ 344 + 22 * k + 21 → gI z.2 a i = gI xs a i := fun a i l1 l2 => by rw [vo a i (by omega) (by omega) (by omega)]; rfl
              have zc : ∀ a i, 344 + 22 * k ≤ a → a ≤ 344 + 22 * k + 21 → ¬ (a = 344 + 22 * k + 10 ∧ i = e) → ¬ (a = 344 + 22 * k + 11 ∧ i = e) → ¬ (a = 344 + 22 * k ∧ (i = 16 ∨ i = 20)) → gI z.2 a i = gI S a i := fun a i l1 l2 l3 l4 l5 => by rw [zx a i l1 l2]; exact xo a i (by omega) l3 l4 l5
              refine ⟨v, z0, ?_, h.putC hk (fun a i q z1 z2 z3 => gy a i q z1 (fun g' => z2 ?_) (fun g' => z2 ?_)) (fun a i q z1 z2 => eLL a i q) ?_ ?_ ?_⟩
              · rw [eLz _ _ (.inr rfl), gL_sL, if_pos ⟨rfl, rfl⟩]
              · rcases g'.1 with rfl | rfl
                · exact ⟨by omega, show 156 * k ≤ _ by omega, show _ < 156 * k + 156 by omega⟩
                · exact ⟨by omega, show 156 * k ≤ _ by omega, show _ < 156 * k + 156 by omega⟩
              · obtain ⟨g1, rfl⟩ := g'; exact ownC_1 (by omega)
              · rw [fzh.1]; show nC xs ≤ _; rw [fh.1]; omega
              · rw [fzh.2]; show nS xs ≤ _; rw [fh.2]; omega
              · have hg := h.2.2.2.2.2.2 k hk
                have e434 : gI z.2 434 k = gI S 434 k := gy _ _ (kept_rng (by omega)) (by omega) (by omega) (by omega)
                unfold InvC at hg ⊢
                refine ⟨by rw [e434]; exact hg.1, by rw [e434, gy 2105 k (kept_rng (by omega)) (by omega) (by omega) (by omega)]; exact hg.2.1, fun _ => ⟨mvC C e (xn : Int) p4, ?_⟩⟩
                have o15 : mvC C e (xn : Int) p4 15 0 = C 15 0 := mvC_o (by omega) (by omega) (by omega) (by omega)
                have o16 : mvC C e (xn : Int) p4 16 0 = C 16 0 := mvC_o (by omega) (by omega) (by omega) (by omega)
                have oE : kE (mvC C e (xn : Int) p4) = kE C := rfl
                have o17 : mvC C e (xn : Int) p4 17 e = (xn : Int) := if_pos ⟨rfl, rfl⟩
                have o18 : mvC C e (xn : Int) p4 18 e = p4 := by unfold mvC; rw [if_neg (by omega), if_pos ⟨rfl, rfl⟩]
                have oX : ∀ f, f ≠ e → mvC C e (xn : Int) p4 17 f = C 17 f := fun f q => mvC_o (by omega) (by omega) (by omega) (by omega)
                have oY : ∀ f, f ≠ e → mvC C e (xn : Int) p4 18 f = C 18 f := fun f q => mvC_o (by omega) (by omega) (by omega) (by omega)
                have oH : kH (mvC C e (xn : Int) p4) = kH C := rfl
                refine lost (L := 344 + 22 * k) w wx r m rX mX (fun f i q => mvC_o (by omega) (by omega) (by omega) (by omega)) (fun f i q q' => mvC_o (by omega) (by omega) (by omega) (by omega)) ?_ ?_ (WFP_mvC w wp he g xf) ?_ ?_ (fun a i l1 l2 l3 l4 l5 => zc a i l1 l2 (by omega) (by omega) (by omega)) (fun i => eLL _ _ (by omega)) ?_ ?_ (fun a i l z => gy a i (ownC_kept l) (by have := l.1; omega) (by omega) (by omega)) (fun i l => eLL _ _ (.inr rfl)) y34 y46
                · unfold mvC; rw [if_neg (by omega), if_neg (by omega), if_pos rfl]
                · unfold mvC; rw [if_neg (by omega), if_neg (by omega), if_neg (by omega), if_pos rfl]
                · obtain ⟨⟨z1, z2, z3⟩, z4⟩ := rX.1
                  refine ⟨⟨?_, ?_, ?_⟩, fun q f hf => ?_⟩
                  · rw [o15, zc _ _ (by omega) (by omega) (by omega) (by omega) (by omega)]; exact z1
                  · rw [o16, zc _ _ (by omega) (by omega) (by omega) (by omega) (by omega)]; exact z2
                  · rw [oH, zc _ _ (by omega) (by omega) (by omega) (by omega) (by omega)]; exact z3
                  · by_cases q' : f = e
                    · subst q'
                      rw [o17, o18, zx _ _ (by omega) (by omega), zx _ _ (by omega) (by omega)]; exact ⟨x17, x18⟩
                    · rw [oX f q', oY f q', zc _ _ (by omega) (by omega) (by omega) (by omega) (by omega), zc _ _ (by omega) (by omega) (by omega) (by omega) (by omega)]; exact z4 q3 f hf
                · obtain ⟨⟨z1, z2⟩, z3⟩ := mX.1
                  refine ⟨⟨?_, fun _ => ?_⟩, fun q f hf => ?_⟩
                  · rw [o16, gy _ _ (kept_rng (by omega)) (by omega) (by omega) (by omega)]; exact z1
                  · rw [o15, gy _ _ (kept_rng (by omega)) (by omega) (by omega) (by omega)]; exact z2 q3
                  · have hf : f < kE C := hf
                    by_cases q' : f = e
                    · subst q'
                      rw [o17, o18]; exact ⟨y24, y25⟩
                    · rw [oX f q', oY f q', gy _ _ (kept_rng (by omega)) (by omega) (by omega) (by omega), gy _ _ (kept_rng (by omega)) (by omega) (by omega) (by omega)]; exact z3 q3 f hf
                · rw [zx _ _ (by omega) (by omega)]; exact x16
                · rw [zx _ _ (by omega) (by omega)]; exact x20
        · rw [k_move_out r rX.1 w wp he h3 h4 g, bX_some, gz_0, WP_some, WE_inl]
          have eN : ∀ a i, a ≠ 227 → ¬ (344 + 22 * k ≤ a ∧ a ≤ 344 + 22 * k + 21) → gI (sL S 2178 0 (if ¬ w32 (0 : Int) = 0 then 1 else 0)) a i = gI S a i := fun a i _ _ => rfl
          show WP (mX23_move (sL S 2178 0 (if ¬ w32 (0 : Int) = 0 then 1 else 0)) (k : Int) (e : Int) p3 p4) _
          rw [m_move_out (me1 _ eN) (mm1 _ eN) (rP1 _ eN) w wp q3 hk he h3 h4 g]
          exact WP_some.2 ⟨rfl, gI_set, by rw [gL_sI, gL_sL, if_pos ⟨rfl, rfl⟩], h.q1 hc⟩
    · refine L_boolF (m1 := fun S1 => mX23_move S1 _ _ _ _) 1 1 h hc ?_ rfl (by omega) (fun S1 eS => ?_)
      · simp (disch := omega) only [mX1_move, hx, gI_thr, gz_0, gz_1, true_or, or_true, or_false, false_or, rdI_e, rdZ_e, rdL_e, wrI_e, wrL_e, bX_some, bE_inl, bE_inr, bT_inl, bT_inr, wf_eq, wfL_eq, wfR_eq, gkc_chip, gkc_dsg, gkc_lib, gk_chip, gk_dsg, gk_lib, gth_e rx, inside_0 rx, inside_1, need_0 rx, need_1, now_0 rx, now_1, roomX_0 rx, roomX_1, w32_id, w32_gI, ← Int.not_lt, not_true_eq_false, not_false_eq_true, if_true, if_false, reduceIte, Bool.false_eq_true, Int.toNat_natCast, Int.reduceToNat, Int.toNat_add, Int.toNat_mul, Int.reduceLT, Int.reduceEq, Int.reduceNeg, Nat.reduceAdd, hI_sI, and_self, Nat.reduceEqDiff, true_and, and_true, and_false, false_and, ne_eq, q1, q2, el]
      · simp (disch := omega) only [mX23_move, me S1 eS, gI_thr, gz_0, gz_1, true_or, or_true, or_false, false_or, rdI_e, rdZ_e, rdL_e, wrI_e, wrL_e, bX_some, bE_inl, bE_inr, bT_inl, bT_inr, wf_eq, wfL_eq, wfR_eq, gkc_chip, gkc_dsg, gkc_lib, gk_chip, gk_dsg, gk_lib, gth_e rx, inside_0 rx, inside_1, need_0 rx, need_1, now_0 rx, now_1, roomX_0 rx, roomX_1, w32_id, w32_gI, ← Int.not_lt, not_true_eq_false, not_false_eq_true, if_true, if_false, reduceIte, Bool.false_eq_true, Int.toNat_natCast, Int.reduceToNat, Int.toNat_add, Int.toNat_mul, Int.reduceLT, Int.reduceEq, Int.reduceNeg, Nat.reduceAdd, hI_sI, and_self, Nat.reduceEqDiff, true_and, and_true, and_false, false_and, ne_eq, q1, q2, gI_set, w32_1, w32_0, Int.reduceLE]
  · refine L_boolF (m1 := fun S1 => mX23_move S1 _ _ _ _) 1 1 h hc ?_ rfl (by omega) (fun S1 eS => ?_)
    · rw [mX1_move, chipIn_f hq rx h1]; rfl
    · unfold mX23_move mX23_isElement
      rw [m_isChip_f h eS h1 hq]; rfl
end MMV
