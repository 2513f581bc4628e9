/-! end, drop, isThere -/
theorem kept_2000 {a i : Nat} (h : kept a i = true) : ¬ (a = 2000 ∧ i = 0) := by rintro ⟨rfl, rfl⟩; exact absurd h (by decide)
section SMALL
variable {c : Nat} {S : Sto}
theorem L1 {p1 : Int} (h : Inv c S) (hc : c < 64) (h1 : i32 p1) : WP (mL_1 S p1) (Inv (c + 1)) := by
  have rx := h.1.x hc
  unfold mL_1 mX0_end
  unfold i32 at h1
  obtain ⟨n, n1, n2, n3, n4⟩ := h.2.1
  refine L_void (m1 := fun S1 => mX23_end S1 p1) (bC_WP ?_)
  have bad : Inv (c + 1) (sI (sI (thrS S) 2000 0 1) 2000 2 (n : Int)) := by
    refine (h.q2 (z := 1) hc).cg (fun a i z => ?_) (fun _ _ _ => rfl) (Nat.le_refl _) (h.q2 (z := 1) hc).1
    rw [hI_sI]
    split
    · rename_i q
      obtain ⟨rfl, rfl⟩ := q
      rw [hI_sI_i (by omega), gI_thr, n3, w32_id (by omega)]
    · rfl
  by_cases q1 : p1 < 0
  · simp (disch := omega) only [mX1_end, gI_thr, gz_0, gz_1, true_or, or_true, or_false, false_or, rdI_e, rdZ_e, rdL_e, wrI_e, wrL_e, bX_some, bE_inl, bE_inr, bT_inl, bT_inr, wf_eq, wfL_eq, wfR_eq, gkc_chip, gkc_dsg, gkc_lib, gk_chip, gk_dsg, gk_lib, gth_e rx, inside_0 rx, inside_1, need_0 rx, need_1, now_0 rx, now_1, roomX_0 rx, roomX_1, w32_id, w32_gI, ← Int.not_lt, not_true_eq_false, not_false_eq_true, if_true, if_false, reduceIte, Bool.false_eq_true, Int.toNat_natCast, Int.reduceToNat, Int.toNat_add, Int.toNat_mul, Int.reduceLT, Int.reduceEq, Int.reduceNeg, Nat.reduceAdd, hI_sI, and_self, Nat.reduceEqDiff, true_and, and_true, and_false, false_and, ne_eq, q1, WP_some, WE_inr]
    refine ⟨1, rfl, ?_⟩
    simp (disch := omega) only [mX23_end, gI_thr, gz_0, gz_1, true_or, or_true, or_false, false_or, rdI_e, rdZ_e, rdL_e, wrI_e, wrL_e, bX_some, bE_inl, bE_inr, bT_inl, bT_inr, wf_eq, wfL_eq, wfR_eq, gkc_chip, gkc_dsg, gkc_lib, gk_chip, gk_dsg, gk_lib, gth_e rx, inside_0 rx, inside_1, need_0 rx, need_1, now_0 rx, now_1, roomX_0 rx, roomX_1, w32_id, w32_gI, ← Int.not_lt, not_true_eq_false, not_false_eq_true, if_true, if_false, reduceIte, Bool.false_eq_true, Int.toNat_natCast, Int.reduceToNat, Int.toNat_add, Int.toNat_mul, Int.reduceLT, Int.reduceEq, Int.reduceNeg, Nat.reduceAdd, hI_sI, and_self, Nat.reduceEqDiff, true_and, and_true, and_false, false_and, ne_eq, q1, WP_some, n3]
    exact bad
  by_cases q2 : (n : Int) < p1
  · simp (disch := omega) only [mX1_end, gI_thr, gz_0, gz_1, true_or, or_true, or_false, false_or, rdI_e, rdZ_e, rdL_e, wrI_e, wrL_e, bX_some, bE_inl, bE_inr, bT_inl, bT_inr, wf_eq, wfL_eq, wfR_eq, gkc_chip, gkc_dsg, gkc_lib, gk_chip, gk_dsg, gk_lib, gth_e rx, inside_0 rx, inside_1, need_0 rx, need_1, now_0 rx, now_1, roomX_0 rx, roomX_1, w32_id, w32_gI, ← Int.not_lt, not_true_eq_false, not_false_eq_true, if_true, if_false, reduceIte, Bool.false_eq_true, Int.toNat_natCast, Int.reduceToNat, Int.toNat_add, Int.toNat_mul, Int.reduceLT, Int.reduceEq, Int.reduceNeg, Nat.reduceAdd, hI_sI, and_self, Nat.reduceEqDiff, true_and, and_true, and_false, false_and, ne_eq, q1, q2, n2, WP_some, WE_inr]
    refine ⟨1, rfl, ?_⟩
    simp (disch := omega) only [mX23_end, gI_thr, gz_0, gz_1, true_or, or_true, or_false, false_or, rdI_e, rdZ_e, rdL_e, wrI_e, wrL_e, bX_some, bE_inl, bE_inr, bT_inl, bT_inr, wf_eq, wfL_eq, wfR_eq, gkc_chip, gkc_dsg, gkc_lib, gk_chip, gk_dsg, gk_lib, gth_e rx, inside_0 rx, inside_1, need_0 rx, need_1, now_0 rx, now_1, roomX_0 rx, roomX_1, w32_id, w32_gI, ← Int.not_lt, not_true_eq_false, not_false_eq_true, if_true, if_false, reduceIte, Bool.false_eq_true, Int.toNat_natCast, Int.reduceToNat, Int.toNat_add, Int.toNat_mul, Int.reduceLT, Int.reduceEq, Int.reduceNeg, Nat.reduceAdd, hI_sI, and_self, Nat.reduceEqDiff, true_and, and_true, and_false, false_and, ne_eq, q1, q2, WP_some, n3]
    exact bad
  · simp (disch := omega) only [mX1_end, gI_thr, gz_0, gz_1, true_or, or_true, or_false, false_or, rdI_e, rdZ_e, rdL_e, wrI_e, wrL_e, bX_some, bE_inl, bE_inr, bT_inl, bT_inr, wf_eq, wfL_eq, wfR_eq, gkc_chip, gkc_dsg, gkc_lib, gk_chip, gk_dsg, gk_lib, gth_e rx, inside_0 rx, inside_1, need_0 rx, need_1, now_0 rx, now_1, roomX_0 rx, roomX_1, w32_id, w32_gI, ← Int.not_lt, not_true_eq_false, not_false_eq_true, if_true, if_false, reduceIte, Bool.false_eq_true, Int.toNat_natCast, Int.reduceToNat, Int.toNat_add, Int.toNat_mul, Int.reduceLT, Int.reduceEq, Int.reduceNeg, Nat.reduceAdd, hI_sI, and_self, Nat.reduceEqDiff, true_and, and_true, and_false, false_and, ne_eq, q1, q2, n2, WP_some, WE_inl]
    have z0 : ∀ a i, a ≠ 1 → gI (sI S 1 1 p1) a i = gI S a i := fun a i z => hI_sI_a z
    simp (disch := omega) only [mX23_end, gI_thr, gz_0, gz_1, true_or, or_true, or_false, false_or, rdI_e, rdZ_e, rdL_e, wrI_e, wrL_e, bX_some, bE_inl, bE_inr, bT_inl, bT_inr, wf_eq, wfL_eq, wfR_eq, gkc_chip, gkc_dsg, gkc_lib, gk_chip, gk_dsg, gk_lib, gth_e rx, inside_0 rx, inside_1, need_0 rx, need_1, now_0 rx, now_1, roomX_0 rx, roomX_1, w32_id, w32_gI, ← Int.not_lt, not_true_eq_false, not_false_eq_true, if_true, if_false, reduceIte, Bool.false_eq_true, Int.toNat_natCast, Int.reduceToNat, Int.toNat_add, Int.toNat_mul, Int.reduceLT, Int.reduceEq, Int.reduceNeg, Nat.reduceAdd, hI_sI, and_self, Nat.reduceEqDiff, true_and, and_true, and_false, false_and, ne_eq, q1, q2, WP_some, n3]
    have e : ∀ a i, kept a i = true → ¬ (a = 1 ∧ i = 1) → ¬ (a = 2000 ∧ i = 2) → gI (sI (sI (sI S 1 1 p1) 2000 0 0) 2000 2 p1) a i = gI S a i := fun a i k q3 q4 => by
      rw [hI_sI, if_neg q4, hI_sI, if_neg (kept_2000 k), hI_sI, if_neg q3]
    refine h.putT (fun a i k y1 y2 y3 y4 y5 y6 y7 => e a i k (by omega) (by omega)) (fun _ _ _ => rfl) (Nat.le_add_right _ _) (Nat.le_add_right _ _) ⟨p1.toNat, by omega, ?_, ?_, fun i hi => ?_⟩ (h.2.2.1.cg (Nat.le_succ _) (e _ _ (by decide) (by omega) (by omega)) (e _ _ (by decide) (by omega) (by omega)) (fun a i q => e a i (keptN_kept q) (by have := keptN_rng q; omega) (by have := keptN_rng q; omega))) (h.2.2.2.1.cg (e _ _ (by decide) (by omega) (by omega)) (e _ _ (by decide) (by omega) (by omega)) (fun i => e _ _ (kept_rng (by omega)) (by omega) (by omega)) (fun i => e _ _ (kept_rng (by omega)) (by omega) (by omega)))
    · rw [hI_sI_a (by omega), hI_sI_a (by omega), hI_sI, if_pos ⟨rfl, rfl⟩, w32_id (by omega)]; omega
    · rw [hI_sI, if_pos ⟨rfl, rfl⟩, w32_id (by omega)]; omega
    · rw [e _ _ (kept_rng (by omega)) (by omega) (by omega), e _ _ (kept_rng (by omega)) (by omega) (by omega)]; exact n4 i (by omega)
end SMALL
