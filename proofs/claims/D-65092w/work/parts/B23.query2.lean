/-! calls that ask: designs, libraries -/
theorem max_e {x y : Int} (hx : -2147483648 ≤ x ∧ x < 2147483648) (hy : -2147483648 ≤ y ∧ y < 2147483648) : mJ9_max x y = some (max x y) := by
  unfold mJ9_max
  rw [w32_id hx, w32_id hy]
  congr 1
  split <;> omega
section WFGS
variable {G : Dsg}
theorem WFG.i (w : WFG G) : G 0 0 = (gIn G : Int) := by have := w.1; unfold gIn; omega
theorem WFG.s (w : WFG G) : G 1 0 = (gSt G : Int) := by have := w.1; unfold gSt; omega
theorem WFG.o (w : WFG G) : G 2 0 = (gOu G : Int) := by have := w.1; unfold gOu; omega
theorem WFG.n (w : WFG G) : G 3 0 = (gNo G : Int) := by have := w.1; unfold gNo; omega
theorem WFG.nums (w : WFG G) : gSt G ≤ 6 ∧ gIn G + gSt G ≤ 12 ∧ 1 ≤ gOu G ∧ gOu G ≤ 16 ∧ gFi G ≤ gNo G ∧ gNo G ≤ gFi G + 1000 ∧ gFi G = 1 + gIn G + gSt G := by
  have := w.1; have := w.i; have := w.s; have := w.o; have := w.n; unfold gFi; omega
end WFGS
theorem InvG.get {c : Nat} {S : Sto} {p : Int} (h : Inv c S) (hp : isDs S p) : ∃ (k : Nat) (G : Dsg), k < 6 ∧ p = (k : Int) ∧ WFG G ∧ RepG S (273 + 9 * k) G ∧ RefG S k G := by
  have hC := h.2.2.2.2.1 p.toNat (by have := hp.1; have := hp.2.1; omega)
  have ht : thG S p.toNat := by
    rcases hC.1 with g | g
    · exact absurd g hp.2.2
    · exact g
  obtain ⟨C, g1, g2, g3⟩ := hC.2.2 ht
  exact ⟨p.toNat, C, by have := hp.1; have := hp.2.1; omega, by have := hp.1; omega, g1, g2, g3⟩
theorem InvL.get {c : Nat} {S : Sto} {p : Int} (h : Inv c S) (hp : isLb S p) : ∃ (k : Nat) (B : Lib), k < 3 ∧ p = (k : Int) ∧ WFL B ∧ RepL S (328 + 5 * k) B ∧ RefL S k B := by
  have hC := h.2.2.2.2.2.1 p.toNat (by have := hp.1; have := hp.2.1; omega)
  have ht : thL S p.toNat := by
    rcases hC.1 with g | g
    · exact absurd g hp.2.2
    · exact g
  obtain ⟨C, g1, g2, g3⟩ := hC.2.2 ht
  exact ⟨p.toNat, C, by have := hp.1; have := hp.2.1; omega, by have := hp.1; omega, g1, g2, g3⟩
section QDSG
variable {c : Nat} {S : Sto}
theorem L4 (h : Inv c S) (hc : c < 64) : WP (mL_4 S) (Inv (c + 1)) := by
  have e := h.2.2.1.1
  unfold mL_4 mX1_fault mX23_fault
  rw [bX_some, wf_eq, bX_some]
  dsimp only
  have e2 : gI (sI S 2000 0 0) 2000 79 = gI S 2000 79 := by rw [hI_sI]; rfl
  rw [e2, e, if_neg (fun g => g rfl)]
  exact WP_some.2 (h.q3 hc)
theorem k_first {L : Nat} {G : Dsg} (r : RepG S L G) (w : WFG G) : mX20_first S L = some ((gFi G : Nat) : Int) := by
  unfold mX20_first mX20_bits
  rw [r.1.1, r.1.2.1, w.i, w.s, bX_some, w.nums.2.2.2.2.2.2]
  congr 1
  omega
theorem k_depth {L : Nat} {G : Dsg} (r : RepG S L G) (w : WFG G) : mX20_depth S L = some (gDepth G) := by
  have hn := w.nums
  have key : ∀ (n : Nat) (z : Int) (f : Nat → Int), 0 ≤ z → z ≤ 1000 → (∀ k, k < n → 0 ≤ f k ∧ f k ≤ 1000) → 0 ≤ mxF z f n ∧ mxF z f n ≤ 1000 := by
    intro n z f h1 h2 h3
    induction n with
    | zero => exact ⟨h1, h2⟩
    | succ n ih =>
      have := ih (fun k hk => h3 k (by omega))
      have := h3 n (by omega)
      show 0 ≤ max _ _ ∧ max _ _ ≤ 1000
      omega
  have ho : ∀ k, k < gOu G → 0 ≤ G 16 ((G 7 k).toNat / 2) ∧ G 16 ((G 7 k).toNat / 2) ≤ 1000 := fun k hk => by
    have a := w.2.2.2.1 k hk
    rw [w.n] at a
    have := w.2.2.1 ((G 7 k).toNat / 2) (by omega)
    omega
  have hs : ∀ k, k < gSt G → 0 ≤ G 16 ((G 8 k).toNat / 2) ∧ G 16 ((G 8 k).toNat / 2) ≤ 1000 := fun k hk => by
    have a := w.2.2.2.2.1 k hk
    rw [w.n] at a
    have := w.2.2.1 ((G 8 k).toNat / 2) (by omega)
    omega
  have er := r.1.2.1
  have eo := r.1.2.2.1
  rw [w.s] at er
  rw [w.o] at eo
  refine WP.of ?_
  unfold mX20_depth
  refine WP_call (R := fun y => y = mxF 0 (fun k => G 16 ((G 7 k).toNat / 2)) (gOu G)) ?_ (fun y hy => ?_)
  · refine WP_cnt (gOu G) (fun i s => s.2 = (i : Int) ∧ s.1 = mxF 0 (fun k => G 16 ((G 7 k).toNat / 2)) i) (by unfold cFU; omega) ⟨rfl, rfl⟩ (fun i s hi hI => ?_) (fun s hI => ?_)
    · obtain ⟨a1, a2⟩ := hI
      have b1 := key i 0 (fun k => G 16 ((G 7 k).toNat / 2)) (by omega) (by omega) (fun k hk => ho k (by omega))
      have b2 := ho i hi
      have b3 := w.2.2.2.1 i hi
      rw [w.n] at b3
      have e1 := r.2.2.2.1 i hi
      have e2 : aShr (G 7 i) 1 = (((G 7 i).toNat / 2 : Nat) : Int) := by rw [aShr_1, w32_id (by omega)]; omega
      have e3 := (r.2.2.1 ((G 7 i).toNat / 2) (by omega)).2
      simp (disch := omega) only [mX20_depth_L4, a1, a2, eo, e1, e2, e3, max_e, WP_ite, WP_some, WP_none, WE_inl, WE_inr, wf, wfL, wfR, rdI_e, rdZ_e, rdL_e, wrI_e, wrL_e, bX_some, bE_inl, bE_inr, bT_inl, bT_inr, bX_ite, ite_someI, ite_someL, ite_someB, tt_eq, iteb, gz_01, gz_b2i, w32_id, w32_gI, w32_bz, Int.toNat_natCast, Int.reduceToNat, Int.toNat_add, Int.toNat_mul, Int.ofNat_lt, Int.ofNat_le, Int.natCast_inj]
      exact ⟨fun _ => ⟨by omega, rfl⟩, fun _ => by omega⟩
    · obtain ⟨a1, a2⟩ := hI
      simp (disch := omega) only [mX20_depth_L4, a1, a2, eo, WP_ite, WP_some, WP_none, WE_inl, WE_inr, wf, wfL, wfR, rdI_e, rdZ_e, rdL_e, wrI_e, wrL_e, bX_some, bE_inl, bE_inr, bT_inl, bT_inr, bX_ite, ite_someI, ite_someL, ite_someB, tt_eq, iteb, gz_01, gz_b2i, w32_id, w32_gI, w32_bz, Int.toNat_natCast, Int.reduceToNat, Int.toNat_add, Int.toNat_mul, Int.ofNat_lt, Int.ofNat_le, Int.natCast_inj]
      exact ⟨fun _ => by omega, fun _ => trivial⟩
  · refine WP_call (R := fun y => y = gDepth G) ?_ (fun y hy => WP_some.2 hy)
    have b0 := key (gOu G) 0 (fun k => G 16 ((G 7 k).toNat / 2)) (by omega) (by omega) ho
    refine WP_cnt (gSt G) (fun i s => s.2 = (i : Int) ∧ s.1 = mxF y (fun k => G 16 ((G 8 k).toNat / 2)) i) (by unfold cFU; omega) ⟨rfl, rfl⟩ (fun i s hi hI => ?_) (fun s hI => ?_)
    · obtain ⟨a1, a2⟩ := hI
      have b1 := key i y (fun k => G 16 ((G 8 k).toNat / 2)) (by omega) (by omega) (fun k hk => hs k (by omega))
      have b2 := hs i hi
      have b3 := w.2.2.2.2.1 i hi
      rw [w.n] at b3
      have e1 := r.2.2.2.2.1 i hi
      have e2 : aShr (G 8 i) 1 = (((G 8 i).toNat / 2 : Nat) : Int) := by rw [aShr_1, w32_id (by omega)]; omega
      have e3 := (r.2.2.1 ((G 8 i).toNat / 2) (by omega)).2
      simp (disch := omega) only [mX20_depth_L38, a1, a2, er, e1, e2, e3, max_e, WP_ite, WP_some, WP_none, WE_inl, WE_inr, wf, wfL, wfR, rdI_e, rdZ_e, rdL_e, wrI_e, wrL_e, bX_some, bE_inl, bE_inr, bT_inl, bT_inr, bX_ite, ite_someI, ite_someL, ite_someB, tt_eq, iteb, gz_01, gz_b2i, w32_id, w32_gI, w32_bz, Int.toNat_natCast, Int.reduceToNat, Int.toNat_add, Int.toNat_mul, Int.ofNat_lt, Int.ofNat_le, Int.natCast_inj]
      exact ⟨fun _ => ⟨by omega, rfl⟩, fun _ => by omega⟩
    · obtain ⟨a1, a2⟩ := hI
      simp (disch := omega) only [mX20_depth_L38, a1, a2, er, WP_ite, WP_some, WP_none, WE_inl, WE_inr, wf, wfL, wfR, rdI_e, rdZ_e, rdL_e, wrI_e, wrL_e, bX_some, bE_inl, bE_inr, bT_inl, bT_inr, bX_ite, ite_someI, ite_someL, ite_someB, tt_eq, iteb, gz_01, gz_b2i, w32_id, w32_gI, w32_bz, Int.toNat_natCast, Int.reduceToNat, Int.toNat_add, Int.toNat_mul, Int.ofNat_lt, Int.ofNat_le, Int.natCast_inj]
      exact ⟨fun _ => by omega, fun _ => by subst hy; rfl⟩
theorem L7 {p1 p2 : Int} (h : Inv c S) (hc : c < 64) (h1 : i32 p1) (h2 : i32 p2) : WP (mL_7 S p1 p2) (Inv (c + 1)) := by
  have rx := h.1.x hc
  unfold mL_7 mX0_graph
  have go := fun code kd v => L_qry (m := mX1_graph S p1 p2) (m1 := fun S1 => mX23_graph S1 p1 p2) (cs := [(1, 1), (2, 2)]) code kd v h hc
  by_cases hq : isDs S p1
  · have hx := designIn_t hq; obtain ⟨k, G, hk, rfl, w, r, m⟩ := InvG.get h hq; rw [Int.toNat_natCast] at hx; have hn := w.nums
    unfold i32 at h2
    by_cases q1 : p2 < 0
    · have z : p2 ≠ 0 ∧ p2 ≠ 1 ∧ p2 ≠ 2 ∧ p2 ≠ 3 ∧ p2 ≠ 4 ∧ p2 ≠ 5 ∧ p2 ≠ 6 ∧ p2 ≠ 7 := by omega
      (refine go 2 2 0 ?_ (fun _ => rfl) (by omega) (fun S1 eS => ?_); (focus (simp (disch := omega) only [mX1_graph, hx, gI_thr, gz_0, gz_1, true_or, or_true, or_false, false_or, rdI_e, rdZ_e, rdL_e, wrI_e, wrL_e, bX_some, bE_inl, bE_inr, bT_inl, bT_inr, wf_eq, wfL_eq, wfR_eq, gkc_chip, gkc_dsg, gkc_lib, gk_chip, gk_dsg, gk_lib, gth_e rx, inside_0 rx, inside_1, need_0 rx, need_1, now_0 rx, now_1, roomX_0 rx, roomX_1, w32_id, w32_gI, ← Int.not_lt, not_true_eq_false, not_false_eq_true, if_true, if_false, reduceIte, Bool.false_eq_true, Int.toNat_natCast, Int.reduceToNat, Int.toNat_add, Int.toNat_mul, Int.reduceLT, Int.reduceEq, Int.reduceNeg, Nat.reduceAdd, hI_sI, and_self, Nat.reduceEqDiff, true_and, and_true, and_false, false_and, ne_eq, q1,z])); simp (disch := omega) only [mX23_graph, m_isDesign_t h eS h1 hq, gI_thr, gz_0, gz_1, true_or, or_true, or_false, false_or, rdI_e, rdZ_e, rdL_e, wrI_e, wrL_e, bX_some, bE_inl, bE_inr, bT_inl, bT_inr, wf_eq, wfL_eq, wfR_eq, gkc_chip, gkc_dsg, gkc_lib, gk_chip, gk_dsg, gk_lib, gth_e rx, inside_0 rx, inside_1, need_0 rx, need_1, now_0 rx, now_1, roomX_0 rx, roomX_1, w32_id, w32_gI, ← Int.not_lt, not_true_eq_false, not_false_eq_true, if_true, if_false, reduceIte, Bool.false_eq_true, Int.toNat_natCast, Int.reduceToNat, Int.toNat_add, Int.toNat_mul, Int.reduceLT, Int.reduceEq, Int.reduceNeg, Nat.reduceAdd, hI_sI, and_self, Nat.reduceEqDiff, true_and, and_true, and_false, false_and, ne_eq, eS, m_within, q1,z])
    by_cases q2 : 7 < p2
    · have z : p2 ≠ 0 ∧ p2 ≠ 1 ∧ p2 ≠ 2 ∧ p2 ≠ 3 ∧ p2 ≠ 4 ∧ p2 ≠ 5 ∧ p2 ≠ 6 ∧ p2 ≠ 7 := by omega
      (refine go 2 2 0 ?_ (fun _ => rfl) (by omega) (fun S1 eS => ?_); (focus (simp (disch := omega) only [mX1_graph, hx, gI_thr, gz_0, gz_1, true_or, or_true, or_false, false_or, rdI_e, rdZ_e, rdL_e, wrI_e, wrL_e, bX_some, bE_inl, bE_inr, bT_inl, bT_inr, wf_eq, wfL_eq, wfR_eq, gkc_chip, gkc_dsg, gkc_lib, gk_chip, gk_dsg, gk_lib, gth_e rx, inside_0 rx, inside_1, need_0 rx, need_1, now_0 rx, now_1, roomX_0 rx, roomX_1, w32_id, w32_gI, ← Int.not_lt, not_true_eq_false, not_false_eq_true, if_true, if_false, reduceIte, Bool.false_eq_true, Int.toNat_natCast, Int.reduceToNat, Int.toNat_add, Int.toNat_mul, Int.reduceLT, Int.reduceEq, Int.reduceNeg, Nat.reduceAdd, hI_sI, and_self, Nat.reduceEqDiff, true_and, and_true, and_false, false_and, ne_eq, q1,q2,z])); simp (disch := omega) only [mX23_graph, m_isDesign_t h eS h1 hq, gI_thr, gz_0, gz_1, true_or, or_true, or_false, false_or, rdI_e, rdZ_e, rdL_e, wrI_e, wrL_e, bX_some, bE_inl, bE_inr, bT_inl, bT_inr, wf_eq, wfL_eq, wfR_eq, gkc_chip, gkc_dsg, gkc_lib, gk_chip, gk_dsg, gk_lib, gth_e rx, inside_0 rx, inside_1, need_0 rx, need_1, now_0 rx, now_1, roomX_0 rx, roomX_1, w32_id, w32_gI, ← Int.not_lt, not_true_eq_false, not_false_eq_true, if_true, if_false, reduceIte, Bool.false_eq_true, Int.toNat_natCast, Int.reduceToNat, Int.toNat_add, Int.toNat_mul, Int.reduceLT, Int.reduceEq, Int.reduceNeg, Nat.reduceAdd, hI_sI, and_self, Nat.reduceEqDiff, true_and, and_true, and_false, false_and, ne_eq, eS, m_within, q1,q2,z])
    have z : p2 = 0 ∨ p2 = 1 ∨ p2 = 2 ∨ p2 = 3 ∨ p2 = 4 ∨ p2 = 5 ∨ p2 = 6 ∨ p2 = 7 := by omega
    rcases z with rfl | rfl | rfl | rfl | rfl | rfl | rfl | rfl
    · (refine go 0 0 (G 0 0) ?_ (fun g => absurd rfl g) (by omega) (fun S1 eS => ?_); (focus (simp (disch := omega) only [mX1_graph, hx, gI_thr, gz_0, gz_1, true_or, or_true, or_false, false_or, rdI_e, rdZ_e, rdL_e, wrI_e, wrL_e, bX_some, bE_inl, bE_inr, bT_inl, bT_inr, wf_eq, wfL_eq, wfR_eq, gkc_chip, gkc_dsg, gkc_lib, gk_chip, gk_dsg, gk_lib, gth_e rx, inside_0 rx, inside_1, need_0 rx, need_1, now_0 rx, now_1, roomX_0 rx, roomX_1, w32_id, w32_gI, ← Int.not_lt, not_true_eq_false, not_false_eq_true, if_true, if_false, reduceIte, Bool.false_eq_true, Int.toNat_natCast, Int.reduceToNat, Int.toNat_add, Int.toNat_mul, Int.reduceLT, Int.reduceEq, Int.reduceNeg, Nat.reduceAdd, hI_sI, and_self, Nat.reduceEqDiff, true_and, and_true, and_false, false_and, ne_eq, r.1.1,m.1.1])); simp (disch := omega) only [mX23_graph, m_isDesign_t h eS h1 hq, gI_thr, gz_0, gz_1, true_or, or_true, or_false, false_or, rdI_e, rdZ_e, rdL_e, wrI_e, wrL_e, bX_some, bE_inl, bE_inr, bT_inl, bT_inr, wf_eq, wfL_eq, wfR_eq, gkc_chip, gkc_dsg, gkc_lib, gk_chip, gk_dsg, gk_lib, gth_e rx, inside_0 rx, inside_1, need_0 rx, need_1, now_0 rx, now_1, roomX_0 rx, roomX_1, w32_id, w32_gI, ← Int.not_lt, not_true_eq_false, not_false_eq_true, if_true, if_false, reduceIte, Bool.false_eq_true, Int.toNat_natCast, Int.reduceToNat, Int.toNat_add, Int.toNat_mul, Int.reduceLT, Int.reduceEq, Int.reduceNeg, Nat.reduceAdd, hI_sI, and_self, Nat.reduceEqDiff, true_and, and_true, and_false, false_and, ne_eq, eS, m_within, r.1.1,m.1.1])
    · (refine go 0 0 (G 1 0) ?_ (fun g => absurd rfl g) (by omega) (fun S1 eS => ?_); (focus (simp (disch := omega) only [mX1_graph, hx, gI_thr, gz_0, gz_1, true_or, or_true, or_false, false_or, rdI_e, rdZ_e, rdL_e, wrI_e, wrL_e, bX_some, bE_inl, bE_inr, bT_inl, bT_inr, wf_eq, wfL_eq, wfR_eq, gkc_chip, gkc_dsg, gkc_lib, gk_chip, gk_dsg, gk_lib, gth_e rx, inside_0 rx, inside_1, need_0 rx, need_1, now_0 rx, now_1, roomX_0 rx, roomX_1, w32_id, w32_gI, ← Int.not_lt, not_true_eq_false, not_false_eq_true, if_true, if_false, reduceIte, Bool.false_eq_true, Int.toNat_natCast, Int.reduceToNat, Int.toNat_add, Int.toNat_mul, Int.reduceLT, Int.reduceEq, Int.reduceNeg, Nat.reduceAdd, hI_sI, and_self, Nat.reduceEqDiff, true_and, and_true, and_false, false_and, ne_eq, r.1.2.1,m.1.2.1])); simp (disch := omega) only [mX23_graph, m_isDesign_t h eS h1 hq, gI_thr, gz_0, gz_1, true_or, or_true, or_false, false_or, rdI_e, rdZ_e, rdL_e, wrI_e, wrL_e, bX_some, bE_inl, bE_inr, bT_inl, bT_inr, wf_eq, wfL_eq, wfR_eq, gkc_chip, gkc_dsg, gkc_lib, gk_chip, gk_dsg, gk_lib, gth_e rx, inside_0 rx, inside_1, need_0 rx, need_1, now_0 rx, now_1, roomX_0 rx, roomX_1, w32_id, w32_gI, ← Int.not_lt, not_true_eq_false, not_false_eq_true, if_true, if_false, reduceIte, Bool.false_eq_true, Int.toNat_natCast, Int.reduceToNat, Int.toNat_add, Int.toNat_mul, Int.reduceLT, Int.reduceEq, Int.reduceNeg, Nat.reduceAdd, hI_sI, and_self, Nat.reduceEqDiff, true_and, and_true, and_false, false_and, ne_eq, eS, m_within, r.1.2.1,m.1.2.1])
    · (refine go 0 0 (G 2 0) ?_ (fun g => absurd rfl g) (by omega) (fun S1 eS => ?_); (focus (simp (disch := omega) only [mX1_graph, hx, gI_thr, gz_0, gz_1, true_or, or_true, or_false, false_or, rdI_e, rdZ_e, rdL_e, wrI_e, wrL_e, bX_some, bE_inl, bE_inr, bT_inl, bT_inr, wf_eq, wfL_eq, wfR_eq, gkc_chip, gkc_dsg, gkc_lib, gk_chip, gk_dsg, gk_lib, gth_e rx, inside_0 rx, inside_1, need_0 rx, need_1, now_0 rx, now_1, roomX_0 rx, roomX_1, w32_id, w32_gI, ← Int.not_lt, not_true_eq_false, not_false_eq_true, if_true, if_false, reduceIte, Bool.false_eq_true, Int.toNat_natCast, Int.reduceToNat, Int.toNat_add, Int.toNat_mul, Int.reduceLT, Int.reduceEq, Int.reduceNeg, Nat.reduceAdd, hI_sI, and_self, Nat.reduceEqDiff, true_and, and_true, and_false, false_and, ne_eq, r.1.2.2.1,m.1.2.2.1])); simp (disch := omega) only [mX23_graph, m_isDesign_t h eS h1 hq, gI_thr, gz_0, gz_1, true_or, or_true, or_false, false_or, rdI_e, rdZ_e, rdL_e, wrI_e, wrL_e, bX_some, bE_inl, bE_inr, bT_inl, bT_inr, wf_eq, wfL_eq, wfR_eq, gkc_chip, gkc_dsg, gkc_lib, gk_chip, gk_dsg, gk_lib, gth_e rx, inside_0 rx, inside_1, need_0 rx, need_1, now_0 rx, now_1, roomX_0 rx, roomX_1, w32_id, w32_gI, ← Int.not_lt, not_true_eq_false, not_false_eq_true, if_true, if_false, reduceIte, Bool.false_eq_true, Int.toNat_natCast, Int.reduceToNat, Int.toNat_add, Int.toNat_mul, Int.reduceLT, Int.reduceEq, Int.reduceNeg, Nat.reduceAdd, hI_sI, and_self, Nat.reduceEqDiff, true_and, and_true, and_false, false_and, ne_eq, eS, m_within, r.1.2.2.1,m.1.2.2.1])
    · (refine go 0 0 ((gNo G : Int) - gFi G) ?_ (fun g => absurd rfl g) (by omega) (fun S1 eS => ?_); (focus (simp (disch := omega) only [mX1_graph, hx, gI_thr, gz_0, gz_1, true_or, or_true, or_false, false_or, rdI_e, rdZ_e, rdL_e, wrI_e, wrL_e, bX_some, bE_inl, bE_inr, bT_inl, bT_inr, wf_eq, wfL_eq, wfR_eq, gkc_chip, gkc_dsg, gkc_lib, gk_chip, gk_dsg, gk_lib, gth_e rx, inside_0 rx, inside_1, need_0 rx, need_1, now_0 rx, now_1, roomX_0 rx, roomX_1, w32_id, w32_gI, ← Int.not_lt, not_true_eq_false, not_false_eq_true, if_true, if_false, reduceIte, Bool.false_eq_true, Int.toNat_natCast, Int.reduceToNat, Int.toNat_add, Int.toNat_mul, Int.reduceLT, Int.reduceEq, Int.reduceNeg, Nat.reduceAdd, hI_sI, and_self, Nat.reduceEqDiff, true_and, and_true, and_false, false_and, ne_eq, r.1.2.2.2.1,m.1.2.2.2.1,k_first r w,w.n,m.1.2.2.2.2.1,w.i,w.s])); simp (disch := omega) only [mX23_graph, m_isDesign_t h eS h1 hq, gI_thr, gz_0, gz_1, true_or, or_true, or_false, false_or, rdI_e, rdZ_e, rdL_e, wrI_e, wrL_e, bX_some, bE_inl, bE_inr, bT_inl, bT_inr, wf_eq, wfL_eq, wfR_eq, gkc_chip, gkc_dsg, gkc_lib, gk_chip, gk_dsg, gk_lib, gth_e rx, inside_0 rx, inside_1, need_0 rx, need_1, now_0 rx, now_1, roomX_0 rx, roomX_1, w32_id, w32_gI, ← Int.not_lt, not_true_eq_false, not_false_eq_true, if_true, if_false, reduceIte, Bool.false_eq_true, Int.toNat_natCast, Int.reduceToNat, Int.toNat_add, Int.toNat_mul, Int.reduceLT, Int.reduceEq, Int.reduceNeg, Nat.reduceAdd, hI_sI, and_self, Nat.reduceEqDiff, true_and, and_true, and_false, false_and, ne_eq, eS, m_within, r.1.2.2.2.1,m.1.2.2.2.1,k_first r w,w.n,m.1.2.2.2.2.1,w.i,w.s])
      rw [hn.2.2.2.2.2.2]; rfl
    · (refine go 0 0 (gDepth G) ?_ (fun g => absurd rfl g) (by omega) (fun S1 eS => ?_); (focus (simp (disch := omega) only [mX1_graph, hx, gI_thr, gz_0, gz_1, true_or, or_true, or_false, false_or, rdI_e, rdZ_e, rdL_e, wrI_e, wrL_e, bX_some, bE_inl, bE_inr, bT_inl, bT_inr, wf_eq, wfL_eq, wfR_eq, gkc_chip, gkc_dsg, gkc_lib, gk_chip, gk_dsg, gk_lib, gth_e rx, inside_0 rx, inside_1, need_0 rx, need_1, now_0 rx, now_1, roomX_0 rx, roomX_1, w32_id, w32_gI, ← Int.not_lt, not_true_eq_false, not_false_eq_true, if_true, if_false, reduceIte, Bool.false_eq_true, Int.toNat_natCast, Int.reduceToNat, Int.toNat_add, Int.toNat_mul, Int.reduceLT, Int.reduceEq, Int.reduceNeg, Nat.reduceAdd, hI_sI, and_self, Nat.reduceEqDiff, true_and, and_true, and_false, false_and, ne_eq, k_depth r w,m.1.2.2.2.2.2.2.2.2.2,w.2.2.2.2.2.2.2.2.2.2])); simp (disch := omega) only [mX23_graph, m_isDesign_t h eS h1 hq, gI_thr, gz_0, gz_1, true_or, or_true, or_false, false_or, rdI_e, rdZ_e, rdL_e, wrI_e, wrL_e, bX_some, bE_inl, bE_inr, bT_inl, bT_inr, wf_eq, wfL_eq, wfR_eq, gkc_chip, gkc_dsg, gkc_lib, gk_chip, gk_dsg, gk_lib, gth_e rx, inside_0 rx, inside_1, need_0 rx, need_1, now_0 rx, now_1, roomX_0 rx, roomX_1, w32_id, w32_gI, ← Int.not_lt, not_true_eq_false, not_false_eq_true, if_true, if_false, reduceIte, Bool.false_eq_true, Int.toNat_natCast, Int.reduceToNat, Int.toNat_add, Int.toNat_mul, Int.reduceLT, Int.reduceEq, Int.reduceNeg, Nat.reduceAdd, hI_sI, and_self, Nat.reduceEqDiff, true_and, and_true, and_false, false_and, ne_eq, eS, m_within, k_depth r w,m.1.2.2.2.2.2.2.2.2.2,w.2.2.2.2.2.2.2.2.2.2])
    · (refine go 0 0 (G 14 0) ?_ (fun g => absurd rfl g) (by omega) (fun S1 eS => ?_); (focus (simp (disch := omega) only [mX1_graph, hx, gI_thr, gz_0, gz_1, true_or, or_true, or_false, false_or, rdI_e, rdZ_e, rdL_e, wrI_e, wrL_e, bX_some, bE_inl, bE_inr, bT_inl, bT_inr, wf_eq, wfL_eq, wfR_eq, gkc_chip, gkc_dsg, gkc_lib, gk_chip, gk_dsg, gk_lib, gth_e rx, inside_0 rx, inside_1, need_0 rx, need_1, now_0 rx, now_1, roomX_0 rx, roomX_1, w32_id, w32_gI, ← Int.not_lt, not_true_eq_false, not_false_eq_true, if_true, if_false, reduceIte, Bool.false_eq_true, Int.toNat_natCast, Int.reduceToNat, Int.toNat_add, Int.toNat_mul, Int.reduceLT, Int.reduceEq, Int.reduceNeg, Nat.reduceAdd, hI_sI, and_self, Nat.reduceEqDiff, true_and, and_true, and_false, false_and, ne_eq, r.1.2.2.2.2.2.2.1,m.1.2.2.2.2.2.2.2.1])); simp (disch := omega) only [mX23_graph, m_isDesign_t h eS h1 hq, gI_thr, gz_0, gz_1, true_or, or_true, or_false, false_or, rdI_e, rdZ_e, rdL_e, wrI_e, wrL_e, bX_some, bE_inl, bE_inr, bT_inl, bT_inr, wf_eq, wfL_eq, wfR_eq, gkc_chip, gkc_dsg, gkc_lib, gk_chip, gk_dsg, gk_lib, gth_e rx, inside_0 rx, inside_1, need_0 rx, need_1, now_0 rx, now_1, roomX_0 rx, roomX_1, w32_id, w32_gI, ← Int.not_lt, not_true_eq_false, not_false_eq_true, if_true, if_false, reduceIte, Bool.false_eq_true, Int.toNat_natCast, Int.reduceToNat, Int.toNat_add, Int.toNat_mul, Int.reduceLT, Int.reduceEq, Int.reduceNeg, Nat.reduceAdd, hI_sI, and_self, Nat.reduceEqDiff, true_and, and_true, and_false, false_and, ne_eq, eS, m_within, r.1.2.2.2.2.2.2.1,m.1.2.2.2.2.2.2.2.1])
    · (refine go 0 0 (G 15 0) ?_ (fun g => absurd rfl g) (by omega) (fun S1 eS => ?_); (focus (simp (disch := omega) only [mX1_graph, hx, gI_thr, gz_0, gz_1, true_or, or_true, or_false, false_or, rdI_e, rdZ_e, rdL_e, wrI_e, wrL_e, bX_some, bE_inl, bE_inr, bT_inl, bT_inr, wf_eq, wfL_eq, wfR_eq, gkc_chip, gkc_dsg, gkc_lib, gk_chip, gk_dsg, gk_lib, gth_e rx, inside_0 rx, inside_1, need_0 rx, need_1, now_0 rx, now_1, roomX_0 rx, roomX_1, w32_id, w32_gI, ← Int.not_lt, not_true_eq_false, not_false_eq_true, if_true, if_false, reduceIte, Bool.false_eq_true, Int.toNat_natCast, Int.reduceToNat, Int.toNat_add, Int.toNat_mul, Int.reduceLT, Int.reduceEq, Int.reduceNeg, Nat.reduceAdd, hI_sI, and_self, Nat.reduceEqDiff, true_and, and_true, and_false, false_and, ne_eq, r.1.2.2.2.2.2.2.2,m.1.2.2.2.2.2.2.2.2.1])); simp (disch := omega) only [mX23_graph, m_isDesign_t h eS h1 hq, gI_thr, gz_0, gz_1, true_or, or_true, or_false, false_or, rdI_e, rdZ_e, rdL_e, wrI_e, wrL_e, bX_some, bE_inl, bE_inr, bT_inl, bT_inr, wf_eq, wfL_eq, wfR_eq, gkc_chip, gkc_dsg, gkc_lib, gk_chip, gk_dsg, gk_lib, gth_e rx, inside_0 rx, inside_1, need_0 rx, need_1, now_0 rx, now_1, roomX_0 rx, roomX_1, w32_id, w32_gI, ← Int.not_lt, not_true_eq_false, not_false_eq_true, if_true, if_false, reduceIte, Bool.false_eq_true, Int.toNat_natCast, Int.reduceToNat, Int.toNat_add, Int.toNat_mul, Int.reduceLT, Int.reduceEq, Int.reduceNeg, Nat.reduceAdd, hI_sI, and_self, Nat.reduceEqDiff, true_and, and_true, and_false, false_and, ne_eq, eS, m_within, r.1.2.2.2.2.2.2.2,m.1.2.2.2.2.2.2.2.2.1])
    · (refine go 0 0 (G 11 0) ?_ (fun g => absurd rfl g) (by omega) (fun S1 eS => ?_); (focus (simp (disch := omega) only [mX1_graph, hx, gI_thr, gz_0, gz_1, true_or, or_true, or_false, false_or, rdI_e, rdZ_e, rdL_e, wrI_e, wrL_e, bX_some, bE_inl, bE_inr, bT_inl, bT_inr, wf_eq, wfL_eq, wfR_eq, gkc_chip, gkc_dsg, gkc_lib, gk_chip, gk_dsg, gk_lib, gth_e rx, inside_0 rx, inside_1, need_0 rx, need_1, now_0 rx, now_1, roomX_0 rx, roomX_1, w32_id, w32_gI, ← Int.not_lt, not_true_eq_false, not_false_eq_true, if_true, if_false, reduceIte, Bool.false_eq_true, Int.toNat_natCast, Int.reduceToNat, Int.toNat_add, Int.toNat_mul, Int.reduceLT, Int.reduceEq, Int.reduceNeg, Nat.reduceAdd, hI_sI, and_self, Nat.reduceEqDiff, true_and, and_true, and_false, false_and, ne_eq, r.1.2.2.2.2.1,m.1.2.2.2.2.2.1])); simp (disch := omega) only [mX23_graph, m_isDesign_t h eS h1 hq, gI_thr, gz_0, gz_1, true_or, or_true, or_false, false_or, rdI_e, rdZ_e, rdL_e, wrI_e, wrL_e, bX_some, bE_inl, bE_inr, bT_inl, bT_inr, wf_eq, wfL_eq, wfR_eq, gkc_chip, gkc_dsg, gkc_lib, gk_chip, gk_dsg, gk_lib, gth_e rx, inside_0 rx, inside_1, need_0 rx, need_1, now_0 rx, now_1, roomX_0 rx, roomX_1, w32_id, w32_gI, ← Int.not_lt, not_true_eq_false, not_false_eq_true, if_true, if_false, reduceIte, Bool.false_eq_true, Int.toNat_natCast, Int.reduceToNat, Int.toNat_add, Int.toNat_mul, Int.reduceLT, Int.reduceEq, Int.reduceNeg, Nat.reduceAdd, hI_sI, and_self, Nat.reduceEqDiff, true_and, and_true, and_false, false_and, ne_eq, eS, m_within, r.1.2.2.2.2.1,m.1.2.2.2.2.2.1])
  · (refine go 1 1 0 ?_ (fun _ => rfl) (by omega) (fun S1 eS => ?_); (focus (rw [mX1_graph, designIn_f hq rx h1]; rfl)); (unfold mX23_graph; rw [m_isDesign_f h eS h1 hq]; rfl))
end QDSG
