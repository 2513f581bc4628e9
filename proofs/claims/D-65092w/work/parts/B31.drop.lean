/-! drop -/
theorem m_isDesign_r {S : Sto} {p : Int} (h0 : 0 ≤ p) (h1 : p < 6) (h2 : gI S 2036 p.toNat ≠ 0) : mX23_isDesign S p = some 1 := by
  unfold mX23_isDesign
  rw [w32_id (by omega), if_pos h0, if_pos h1, rdZ_e (by omega), w32_bz, if_pos (bzn h2)]; rfl
theorem m_isLibrary_r {S : Sto} {p : Int} (h0 : 0 ≤ p) (h1 : p < 3) (h2 : gI S 2066 p.toNat ≠ 0) : mX23_isLibrary S p = some 1 := by
  unfold mX23_isLibrary
  rw [w32_id (by omega), if_pos h0, if_pos h1, rdZ_e (by omega), w32_bz, if_pos (bzn h2)]; rfl
theorem m_isChip_r {S : Sto} {p : Int} (h0 : 0 ≤ p) (h1 : p < 4) (h2 : gI S 2105 p.toNat ≠ 0) : mX23_isChip S p = some 1 := by
  unfold mX23_isChip
  rw [w32_id (by omega), if_pos h0, if_pos h1, rdZ_e (by omega), w32_bz, if_pos (bzn h2)]; rfl
section DROP
variable {c : Nat} {S : Sto}
theorem L5 {p1 p2 : Int} (h : Inv c S) (hc : c < 64) (h1 : i32 p1) (h2 : i32 p2) : WP (mL_5 S p1 p2) (Inv (c + 1)) := by
  have rx := h.1.x hc
  unfold mL_5 mX0_drop
  have h2' := h2
  unfold i32 at h1 h2'
  refine L_void (m1 := fun S1 => mX23_drop S1 p1 p2) (bC_WP ?_)
  by_cases q1 : p1 < 0
  · rw [mX1_drop, kind_f rx h1 (.inl q1), bT_inr, WP_some, WE_inr]
    refine ⟨1, rfl, ?_⟩
    simp (disch := omega) only [mX23_drop, m_within, gI_thr, gz_0, gz_1, true_or, or_true, or_false, false_or, rdI_e, rdZ_e, rdL_e, wrI_e, wrL_e, bX_some, bE_inl, bE_inr, bT_inl, bT_inr, wf_eq, wfL_eq, wfR_eq, gkc_chip, gkc_dsg, gkc_lib, gk_chip, gk_dsg, gk_lib, gth_e rx, inside_0 rx, inside_1, need_0 rx, need_1, now_0 rx, now_1, roomX_0 rx, roomX_1, w32_id, w32_gI, ← Int.not_lt, not_true_eq_false, not_false_eq_true, if_true, if_false, reduceIte, Bool.false_eq_true, Int.toNat_natCast, Int.reduceToNat, Int.toNat_add, Int.toNat_mul, Int.reduceLT, Int.reduceEq, Int.reduceNeg, Nat.reduceAdd, hI_sI, and_self, Nat.reduceEqDiff, true_and, and_true, and_false, false_and, ne_eq, q1, WP_some]
    exact h.q2 hc
  by_cases q2 : 2 < p1
  · rw [mX1_drop, kind_f rx h1 (.inr q2), bT_inr, WP_some, WE_inr]
    refine ⟨1, rfl, ?_⟩
    simp (disch := omega) only [mX23_drop, m_within, gI_thr, gz_0, gz_1, true_or, or_true, or_false, false_or, rdI_e, rdZ_e, rdL_e, wrI_e, wrL_e, bX_some, bE_inl, bE_inr, bT_inl, bT_inr, wf_eq, wfL_eq, wfR_eq, gkc_chip, gkc_dsg, gkc_lib, gk_chip, gk_dsg, gk_lib, gth_e rx, inside_0 rx, inside_1, need_0 rx, need_1, now_0 rx, now_1, roomX_0 rx, roomX_1, w32_id, w32_gI, ← Int.not_lt, not_true_eq_false, not_false_eq_true, if_true, if_false, reduceIte, Bool.false_eq_true, Int.toNat_natCast, Int.reduceToNat, Int.toNat_add, Int.toNat_mul, Int.reduceLT, Int.reduceEq, Int.reduceNeg, Nat.reduceAdd, hI_sI, and_self, Nat.reduceEqDiff, true_and, and_true, and_false, false_and, ne_eq, q1, q2, WP_some]
    exact h.q2 hc
  have z : p1 = 0 ∨ p1 = 1 ∨ p1 = 2 := by omega
  rcases z with rfl | rfl | rfl
  · have e0 : aN (kK 432) = 6 := rfl
    have ef : ∀ S2, (∀ i, gI S2 432 i = gI S 432 i) → (∀ i, gI S2 2036 i = gI S 2036 i) → mX23_isOne S2 0 p2 = some (if isDs S p2 then 1 else 0) := fun S2 x1 x2 => by
      unfold mX23_isOne
      rw [m_isDesign_v h x1 x2 h2]
      by_cases q : isDs S p2
      · rw [if_pos q]; rfl
      · rw [if_neg q]; rfl
    by_cases q : isDs S p2
    · obtain ⟨d, rfl⟩ : ∃ d : Nat, p2 = (d : Int) := ⟨p2.toNat, by have := q.1; omega⟩
      have hd : d < 6 := by have := q.2.1; omega
      have q' : 0 ≤ (d : Int) ∧ (d : Int) < ((6 : Nat) : Int) ∧ gI S 432 (d : Int).toNat ≠ 0 := q
      rw [mX1_drop, kind_0, bT_inl, gB, if_pos (by decide), e0, flagsE (by omega) h2', bX_some, if_pos q', inside_1, bT_inl, wrI_e (by omega), WP_some, WE_inl, Int.toNat_natCast]
      rw [WP_some]
      show WP (mX23_drop (sI S 432 d 0) 0 (d : Int)) _
      have eq := (h.2.2.2.2.1 d hd).2.1
      have e1 : mX23_isOne (sI S 432 d 0) 0 (d : Int) = some 1 := by
        unfold mX23_isOne
        have e2 : mX23_isDesign (sI S 432 d 0) (d : Int) = some 1 := m_isDesign_r (by omega) (by omega) (by rw [Int.toNat_natCast, hI_sI_a (by omega), eq]; have := q.2.2; rwa [Int.toNat_natCast] at this)
        rw [e2]; rfl
      simp (disch := omega) only [mX23_drop, m_within, gI_thr, gz_0, gz_1, true_or, or_true, or_false, false_or, rdI_e, rdZ_e, rdL_e, wrI_e, wrL_e, bX_some, bE_inl, bE_inr, bT_inl, bT_inr, wf_eq, wfL_eq, wfR_eq, gkc_chip, gkc_dsg, gkc_lib, gk_chip, gk_dsg, gk_lib, gth_e rx, inside_0 rx, inside_1, need_0 rx, need_1, now_0 rx, now_1, roomX_0 rx, roomX_1, w32_id, w32_gI, ← Int.not_lt, not_true_eq_false, not_false_eq_true, if_true, if_false, reduceIte, Bool.false_eq_true, Int.toNat_natCast, Int.reduceToNat, Int.toNat_add, Int.toNat_mul, Int.reduceLT, Int.reduceEq, Int.reduceNeg, Nat.reduceAdd, hI_sI, and_self, Nat.reduceEqDiff, true_and, and_true, and_false, false_and, ne_eq, e1, WP_some]
      refine h.putG (d := d) hd (fun a i z _ _ z3 => ?_) (fun _ _ _ => rfl) (Nat.le_add_right _ _) (Nat.le_add_right _ _) ?_
      · rw [hI_sI, if_neg (by omega), hI_sI, if_neg (kept_2000 z), hI_sI, if_neg (by omega)]
      · have ez : gI (sI (sI (sI S 432 d 0) 2000 0 0) 2036 d 0) 432 d = 0 := by rw [hI_sI_a (by omega), hI_sI_a (by omega), hI_sI, if_pos ⟨rfl, rfl⟩]; rfl
        refine ⟨.inl ez, ?_, fun ht => ?_⟩
        · rw [ez, hI_sI, if_pos ⟨rfl, rfl⟩]; rfl
        · unfold thG at ht; rw [ez] at ht; exact absurd ht (by decide)
    · have q' : ¬ (0 ≤ p2 ∧ p2 < ((6 : Nat) : Int) ∧ gI S 432 p2.toNat ≠ 0) := q
      rw [mX1_drop, kind_0, bT_inl, gB, if_pos (by decide), e0, flagsE (by omega) h2', bX_some, if_neg q', inside_0 rx, bT_inr, WP_some, WE_inr]
      refine ⟨2, rfl, ?_⟩
      show WP (mX23_drop (thrS S) 0 p2) _
      simp (disch := omega) only [mX23_drop, m_within, gI_thr, gz_0, gz_1, true_or, or_true, or_false, false_or, rdI_e, rdZ_e, rdL_e, wrI_e, wrL_e, bX_some, bE_inl, bE_inr, bT_inl, bT_inr, wf_eq, wfL_eq, wfR_eq, gkc_chip, gkc_dsg, gkc_lib, gk_chip, gk_dsg, gk_lib, gth_e rx, inside_0 rx, inside_1, need_0 rx, need_1, now_0 rx, now_1, roomX_0 rx, roomX_1, w32_id, w32_gI, ← Int.not_lt, not_true_eq_false, not_false_eq_true, if_true, if_false, reduceIte, Bool.false_eq_true, Int.toNat_natCast, Int.reduceToNat, Int.toNat_add, Int.toNat_mul, Int.reduceLT, Int.reduceEq, Int.reduceNeg, Nat.reduceAdd, hI_sI, and_self, Nat.reduceEqDiff, true_and, and_true, and_false, false_and, ne_eq, ef (thrS S) (fun _ => rfl) (fun _ => rfl), if_neg q, WP_some]
      exact h.q2 hc
  · have e0 : aN (kK 433) = 3 := rfl
    have ef : ∀ S2, (∀ i, gI S2 433 i = gI S 433 i) → (∀ i, gI S2 2066 i = gI S 2066 i) → mX23_isOne S2 1 p2 = some (if isLb S p2 then 1 else 0) := fun S2 x1 x2 => by
      unfold mX23_isOne
      rw [m_isLibrary_v h x1 x2 h2]
      by_cases q : isLb S p2
      · rw [if_pos q]; rfl
      · rw [if_neg q]; rfl
    by_cases q : isLb S p2
    · obtain ⟨d, rfl⟩ : ∃ d : Nat, p2 = (d : Int) := ⟨p2.toNat, by have := q.1; omega⟩
      have hd : d < 3 := by have := q.2.1; omega
      have q' : 0 ≤ (d : Int) ∧ (d : Int) < ((3 : Nat) : Int) ∧ gI S 433 (d : Int).toNat ≠ 0 := q
      rw [mX1_drop, kind_1, bT_inl, gB, if_pos (by decide), e0, flagsE (by omega) h2', bX_some, if_pos q', inside_1, bT_inl, wrI_e (by omega), WP_some, WE_inl, Int.toNat_natCast]
      rw [WP_some]
      show WP (mX23_drop (sI S 433 d 0) 1 (d : Int)) _
      have eq := (h.2.2.2.2.2.1 d hd).2.1
      have e1 : mX23_isOne (sI S 433 d 0) 1 (d : Int) = some 1 := by
        unfold mX23_isOne
        have e2 : mX23_isLibrary (sI S 433 d 0) (d : Int) = some 1 := m_isLibrary_r (by omega) (by omega) (by rw [Int.toNat_natCast, hI_sI_a (by omega), eq]; have := q.2.2; rwa [Int.toNat_natCast] at this)
        rw [e2]; rfl
      simp (disch := omega) only [mX23_drop, m_within, gI_thr, gz_0, gz_1, true_or, or_true, or_false, false_or, rdI_e, rdZ_e, rdL_e, wrI_e, wrL_e, bX_some, bE_inl, bE_inr, bT_inl, bT_inr, wf_eq, wfL_eq, wfR_eq, gkc_chip, gkc_dsg, gkc_lib, gk_chip, gk_dsg, gk_lib, gth_e rx, inside_0 rx, inside_1, need_0 rx, need_1, now_0 rx, now_1, roomX_0 rx, roomX_1, w32_id, w32_gI, ← Int.not_lt, not_true_eq_false, not_false_eq_true, if_true, if_false, reduceIte, Bool.false_eq_true, Int.toNat_natCast, Int.reduceToNat, Int.toNat_add, Int.toNat_mul, Int.reduceLT, Int.reduceEq, Int.reduceNeg, Nat.reduceAdd, hI_sI, and_self, Nat.reduceEqDiff, true_and, and_true, and_false, false_and, ne_eq, e1, WP_some]
      refine h.putL (d := d) hd (fun a i z _ _ z3 => ?_) (fun _ _ _ => rfl) (Nat.le_add_right _ _) (Nat.le_add_right _ _) ?_
      · rw [hI_sI, if_neg (by omega), hI_sI, if_neg (kept_2000 z), hI_sI, if_neg (by omega)]
      · have ez : gI (sI (sI (sI S 433 d 0) 2000 0 0) 2066 d 0) 433 d = 0 := by rw [hI_sI_a (by omega), hI_sI_a (by omega), hI_sI, if_pos ⟨rfl, rfl⟩]; rfl
        refine ⟨.inl ez, ?_, fun ht => ?_⟩
        · rw [ez, hI_sI, if_pos ⟨rfl, rfl⟩]; rfl
        · unfold thL at ht; rw [ez] at ht; exact absurd ht (by decide)
    · have q' : ¬ (0 ≤ p2 ∧ p2 < ((3 : Nat) : Int) ∧ gI S 433 p2.toNat ≠ 0) := q
      rw [mX1_drop, kind_1, bT_inl, gB, if_pos (by decide), e0, flagsE (by omega) h2', bX_some, if_neg q', inside_0 rx, bT_inr, WP_some, WE_inr]
      refine ⟨2, rfl, ?_⟩
      show WP (mX23_drop (thrS S) 1 p2) _
      simp (disch := omega) only [mX23_drop, m_within, gI_thr, gz_0, gz_1, true_or, or_true, or_false, false_or, rdI_e, rdZ_e, rdL_e, wrI_e, wrL_e, bX_some, bE_inl, bE_inr, bT_inl, bT_inr, wf_eq, wfL_eq, wfR_eq, gkc_chip, gkc_dsg, gkc_lib, gk_chip, gk_dsg, gk_lib, gth_e rx, inside_0 rx, inside_1, need_0 rx, need_1, now_0 rx, now_1, roomX_0 rx, roomX_1, w32_id, w32_gI, ← Int.not_lt, not_true_eq_false, not_false_eq_true, if_true, if_false, reduceIte, Bool.false_eq_true, Int.toNat_natCast, Int.reduceToNat, Int.toNat_add, Int.toNat_mul, Int.reduceLT, Int.reduceEq, Int.reduceNeg, Nat.reduceAdd, hI_sI, and_self, Nat.reduceEqDiff, true_and, and_true, and_false, false_and, ne_eq, ef (thrS S) (fun _ => rfl) (fun _ => rfl), if_neg q, WP_some]
      exact h.q2 hc
  · have e0 : aN (kK 434) = 4 := rfl
    have ef : ∀ S2, (∀ i, gI S2 434 i = gI S 434 i) → (∀ i, gI S2 2105 i = gI S 2105 i) → mX23_isOne S2 2 p2 = some (if isCh S p2 then 1 else 0) := fun S2 x1 x2 => by
      unfold mX23_isOne
      rw [m_isChip_v h x1 x2 h2]
      by_cases q : isCh S p2
      · rw [if_pos q]; rfl
      · rw [if_neg q]; rfl
    by_cases q : isCh S p2
    · obtain ⟨d, rfl⟩ : ∃ d : Nat, p2 = (d : Int) := ⟨p2.toNat, by have := q.1; omega⟩
      have hd : d < 4 := by have := q.2.1; omega
      have q' : 0 ≤ (d : Int) ∧ (d : Int) < ((4 : Nat) : Int) ∧ gI S 434 (d : Int).toNat ≠ 0 := q
      rw [mX1_drop, kind_2, bT_inl, gB, if_pos (by decide), e0, flagsE (by omega) h2', bX_some, if_pos q', inside_1, bT_inl, wrI_e (by omega), WP_some, WE_inl, Int.toNat_natCast]
      rw [WP_some]
      show WP (mX23_drop (sI S 434 d 0) 2 (d : Int)) _
      have eq := (h.2.2.2.2.2.2 d hd).2.1
      have e1 : mX23_isOne (sI S 434 d 0) 2 (d : Int) = some 1 := by
        unfold mX23_isOne
        have e2 : mX23_isChip (sI S 434 d 0) (d : Int) = some 1 := m_isChip_r (by omega) (by omega) (by rw [Int.toNat_natCast, hI_sI_a (by omega), eq]; have := q.2.2; rwa [Int.toNat_natCast] at this)
        rw [e2]; rfl
      simp (disch := omega) only [mX23_drop, m_within, gI_thr, gz_0, gz_1, true_or, or_true, or_false, false_or, rdI_e, rdZ_e, rdL_e, wrI_e, wrL_e, bX_some, bE_inl, bE_inr, bT_inl, bT_inr, wf_eq, wfL_eq, wfR_eq, gkc_chip, gkc_dsg, gkc_lib, gk_chip, gk_dsg, gk_lib, gth_e rx, inside_0 rx, inside_1, need_0 rx, need_1, now_0 rx, now_1, roomX_0 rx, roomX_1, w32_id, w32_gI, ← Int.not_lt, not_true_eq_false, not_false_eq_true, if_true, if_false, reduceIte, Bool.false_eq_true, Int.toNat_natCast, Int.reduceToNat, Int.toNat_add, Int.toNat_mul, Int.reduceLT, Int.reduceEq, Int.reduceNeg, Nat.reduceAdd, hI_sI, and_self, Nat.reduceEqDiff, true_and, and_true, and_false, false_and, ne_eq, e1, WP_some]
      refine h.putC (k := d) hd (fun a i z _ _ z3 => ?_) (fun _ _ _ _ _ => rfl) (Nat.le_add_right _ _) (Nat.le_add_right _ _) ?_
      · rw [hI_sI, if_neg (by omega), hI_sI, if_neg (kept_2000 z), hI_sI, if_neg (by omega)]
      · have ez : gI (sI (sI (sI S 434 d 0) 2000 0 0) 2105 d 0) 434 d = 0 := by rw [hI_sI_a (by omega), hI_sI_a (by omega), hI_sI, if_pos ⟨rfl, rfl⟩]; rfl
        refine ⟨.inl ez, ?_, fun ht => ?_⟩
        · rw [ez, hI_sI, if_pos ⟨rfl, rfl⟩]; rfl
        · unfold thC at ht; rw [ez] at ht; exact absurd ht (by decide)
    · have q' : ¬ (0 ≤ p2 ∧ p2 < ((4 : Nat) : Int) ∧ gI S 434 p2.toNat ≠ 0) := q
      rw [mX1_drop, kind_2, bT_inl, gB, if_pos (by decide), e0, flagsE (by omega) h2', bX_some, if_neg q', inside_0 rx, bT_inr, WP_some, WE_inr]
      refine ⟨2, rfl, ?_⟩
      show WP (mX23_drop (thrS S) 2 p2) _
      simp (disch := omega) only [mX23_drop, m_within, gI_thr, gz_0, gz_1, true_or, or_true, or_false, false_or, rdI_e, rdZ_e, rdL_e, wrI_e, wrL_e, bX_some, bE_inl, bE_inr, bT_inl, bT_inr, wf_eq, wfL_eq, wfR_eq, gkc_chip, gkc_dsg, gkc_lib, gk_chip, gk_dsg, gk_lib, gth_e rx, inside_0 rx, inside_1, need_0 rx, need_1, now_0 rx, now_1, roomX_0 rx, roomX_1, w32_id, w32_gI, ← Int.not_lt, not_true_eq_false, not_false_eq_true, if_true, if_false, reduceIte, Bool.false_eq_true, Int.toNat_natCast, Int.reduceToNat, Int.toNat_add, Int.toNat_mul, Int.reduceLT, Int.reduceEq, Int.reduceNeg, Nat.reduceAdd, hI_sI, and_self, Nat.reduceEqDiff, true_and, and_true, and_false, false_and, ne_eq, ef (thrS S) (fun _ => rfl) (fun _ => rfl), if_neg q, WP_some]
      exact h.q2 hc
end DROP
