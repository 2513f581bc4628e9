/-! drop, isThere -/
theorem flagsE {S : Sto} {n l : Nat} {p : Int} (hn : n < 1000) (hp : -2147483648 ≤ p ∧ p < 2147483648) :
    bX (if 0 ≤ w32 p then if w32 p < w32 (n : Nat) then rdZ n S l p fun v2 => if ¬ w32 v2 = 0 then some true else some false else some false else some false) (fun b => if b = true then some (1 : Int) else some 0) = some (if 0 ≤ p ∧ p < n ∧ gI S l p.toNat ≠ 0 then 1 else 0) := by
  rw [w32_id hp, w32_id (by omega)]
  by_cases h1 : 0 ≤ p
  · by_cases h2 : p < n
    · rw [if_pos h1, if_pos h2, rdZ_e (by omega), w32_bz]
      by_cases h3 : gI S l p.toNat ≠ 0
      · rw [if_pos (bzn h3), if_pos ⟨h1, h2, h3⟩]; rfl
      · rw [if_neg (bzz h3), if_neg (fun g => h3 g.2.2)]; rfl
    · rw [if_pos h1, if_neg h2, if_neg (fun g => h2 g.2.1)]; rfl
  · rw [if_neg h1, if_neg (fun g => h1 g.1)]; rfl
theorem kind_f {S : Sto} {p : Int} (rx : RoomX S) (hp : -2147483648 ≤ p ∧ p < 2147483648) (h : p < 0 ∨ 2 < p) : mX1_kind S p = some (.inr (2, thrS S)) := by
  unfold mX1_kind
  rw [w32_id hp]
  rcases h with h | h
  · rw [if_neg (by omega), bX_some, if_neg (by decide), bX_some, need_0 rx]; rfl
  · rw [if_pos (by omega), if_neg (by omega), bX_some, if_neg (by decide), bX_some, need_0 rx]; rfl
theorem kind_0 {S : Sto} : mX1_kind S 0 = some (.inl 432) := by
  unfold mX1_kind
  rw [if_pos (by decide), if_pos (by decide), bX_some, if_pos rfl, bX_some, need_1]; rfl
theorem kind_1 {S : Sto} : mX1_kind S 1 = some (.inl 433) := by
  unfold mX1_kind
  rw [if_pos (by decide), if_pos (by decide), bX_some, if_pos rfl, bX_some, need_1]; rfl
theorem kind_2 {S : Sto} : mX1_kind S 2 = some (.inl 434) := by
  unfold mX1_kind
  rw [if_pos (by decide), if_pos (by decide), bX_some, if_pos rfl, bX_some, need_1]; rfl
section THERE
variable {c : Nat} {S : Sto}
theorem L6 {p1 p2 : Int} (h : Inv c S) (hc : c < 64) (h1 : i32 p1) (h2 : i32 p2) : WP (mL_6 S p1 p2) (Inv (c + 1)) := by
  have rx := h.1.x hc
  unfold mL_6 mX0_isThere
  have h2' := h2
  unfold i32 at h1 h2'
  refine L_bool (m1 := fun S1 => mX23_isThere S1 p1 p2) (bC_WP ?_)
  by_cases q1 : p1 < 0
  · rw [mX1_isThere, kind_f rx h1 (.inl q1), bT_inr, WP_some, WE_inr]
    refine ⟨1, rfl, ?_⟩
    simp (disch := omega) only [mX23_isThere, m_within, gI_thr, gz_0, gz_1, true_or, or_true, or_false, false_or, rdI_e, rdZ_e, rdL_e, wrI_e, wrL_e, bX_some, bE_inl, bE_inr, bT_inl, bT_inr, wf_eq, wfL_eq, wfR_eq, gkc_chip, gkc_dsg, gkc_lib, gk_chip, gk_dsg, gk_lib, gth_e rx, inside_0 rx, inside_1, need_0 rx, need_1, now_0 rx, now_1, roomX_0 rx, roomX_1, w32_id, w32_gI, ← Int.not_lt, not_true_eq_false, not_false_eq_true, if_true, if_false, reduceIte, Bool.false_eq_true, Int.toNat_natCast, Int.reduceToNat, Int.toNat_add, Int.toNat_mul, Int.reduceLT, Int.reduceEq, Int.reduceNeg, Nat.reduceAdd, hI_sI, and_self, Nat.reduceEqDiff, true_and, and_true, and_false, false_and, ne_eq, q1, WP_some]
    exact ⟨fun g => absurd g (by decide), h.q2 hc⟩
  by_cases q2 : 2 < p1
  · rw [mX1_isThere, kind_f rx h1 (.inr q2), bT_inr, WP_some, WE_inr]
    refine ⟨1, rfl, ?_⟩
    simp (disch := omega) only [mX23_isThere, m_within, gI_thr, gz_0, gz_1, true_or, or_true, or_false, false_or, rdI_e, rdZ_e, rdL_e, wrI_e, wrL_e, bX_some, bE_inl, bE_inr, bT_inl, bT_inr, wf_eq, wfL_eq, wfR_eq, gkc_chip, gkc_dsg, gkc_lib, gk_chip, gk_dsg, gk_lib, gth_e rx, inside_0 rx, inside_1, need_0 rx, need_1, now_0 rx, now_1, roomX_0 rx, roomX_1, w32_id, w32_gI, ← Int.not_lt, not_true_eq_false, not_false_eq_true, if_true, if_false, reduceIte, Bool.false_eq_true, Int.toNat_natCast, Int.reduceToNat, Int.toNat_add, Int.toNat_mul, Int.reduceLT, Int.reduceEq, Int.reduceNeg, Nat.reduceAdd, hI_sI, and_self, Nat.reduceEqDiff, true_and, and_true, and_false, false_and, ne_eq, q1, q2, WP_some]
    exact ⟨fun g => absurd g (by decide), h.q2 hc⟩
  have fin : ∀ (b : Prop) [Decidable b] (l : Nat), mX1_isThere S p1 p2 = some (.inl (if b then 1 else 0)) → (∀ S1, (∀ a i, gI S1 a i = gI S a i) → mX23_isThere S1 p1 p2 = some ((if b then 1 else 0), sI S1 2000 0 0)) → WP (mX1_isThere S p1 p2) (WE (fun x1 => WP (bX (if ¬ w32 x1 = 0 then some 1 else some 0) fun y2 => wrL 1 S 2178 0 y2 fun S3 => some (0, S3)) (fun x => WP (mX23_isThere x.2 p1 p2) (fun y => w32 (gI y.2 2000 0) = w32 x.1 ∧ (x.1 = 0 → gL y.2 2178 0 = (if ¬ w32 y.1 = 0 then 1 else 0)) ∧ (x.1 = 0 ∨ w32 x.1 ≠ 0) ∧ Inv (c + 1) y.2))) (fun t => ∃ c_1, List.lookup t.1 [((2 : Nat), (1 : Int))] = some c_1 ∧ WP (mX23_isThere t.2 p1 p2) (fun y => w32 (gI y.2 2000 0) = w32 c_1 ∧ (c_1 = 0 → gL y.2 2178 0 = (if ¬ w32 y.1 = 0 then 1 else 0)) ∧ (c_1 = 0 ∨ w32 c_1 ≠ 0) ∧ Inv (c + 1) y.2))) := by
    intro b _ l e1 e2
    rw [e1, WP_some, WE_inl, ite_someL, bX_some, wrL_e (by omega), WP_some]
    show WP (mX23_isThere (sL S 2178 0 (if ¬ w32 (if b then (1 : Int) else 0) = 0 then 1 else 0)) p1 p2) _
    rw [e2 (sL S 2178 0 (if ¬ w32 (if b then (1 : Int) else 0) = 0 then 1 else 0)) (fun _ _ => rfl), WP_some]
    refine ⟨by rw [hI_sI, if_pos ⟨rfl, rfl⟩]; rfl, fun _ => ?_, .inl rfl, h.q1 hc⟩
    rw [gL_sI, gL_sL, if_pos ⟨rfl, rfl⟩]
  have z : p1 = 0 ∨ p1 = 1 ∨ p1 = 2 := by omega
  rcases z with rfl | rfl | rfl
  · refine fin (isDs S p2) 432 ?_ (fun S1 eS => ?_)
    · have e0 : aN (kK 432) = 6 := rfl
      rw [mX1_isThere, kind_0, bT_inl, gB, if_pos (by decide), e0, flagsE (by omega) h2', bX_some]
      show gz (if isDs S p2 then 1 else 0) _ = _
      rw [gz_01]
      rfl
    · have e1 : mX23_isOne (sI S1 2000 0 0) 0 p2 = some (if isDs S p2 then 1 else 0) := by
        unfold mX23_isOne
        rw [m_isDesign_v h (fun i => (hI_sI_a (by omega)).trans (eS _ _)) (fun i => (hI_sI_a (by omega)).trans (eS _ _)) h2]
        by_cases q : isDs S p2
        · rw [if_pos q]; rfl
        · rw [if_neg q]; rfl
      simp (disch := omega) only [mX23_isThere, m_within, gI_thr, gz_0, gz_1, true_or, or_true, or_false, false_or, rdI_e, rdZ_e, rdL_e, wrI_e, wrL_e, bX_some, bE_inl, bE_inr, bT_inl, bT_inr, wf_eq, wfL_eq, wfR_eq, gkc_chip, gkc_dsg, gkc_lib, gk_chip, gk_dsg, gk_lib, gth_e rx, inside_0 rx, inside_1, need_0 rx, need_1, now_0 rx, now_1, roomX_0 rx, roomX_1, w32_id, w32_gI, ← Int.not_lt, not_true_eq_false, not_false_eq_true, if_true, if_false, reduceIte, Bool.false_eq_true, Int.toNat_natCast, Int.reduceToNat, Int.toNat_add, Int.toNat_mul, Int.reduceLT, Int.reduceEq, Int.reduceNeg, Nat.reduceAdd, hI_sI, and_self, Nat.reduceEqDiff, true_and, and_true, and_false, false_and, ne_eq, e1]
      by_cases q : isDs S p2
      · rw [if_pos q]; rfl
      · rw [if_neg q]; rfl
  · refine fin (isLb S p2) 433 ?_ (fun S1 eS => ?_)
    · have e0 : aN (kK 433) = 3 := rfl
      rw [mX1_isThere, kind_1, bT_inl, gB, if_pos (by decide), e0, flagsE (by omega) h2', bX_some]
      show gz (if isLb S p2 then 1 else 0) _ = _
      rw [gz_01]
      rfl
    · have e1 : mX23_isOne (sI S1 2000 0 0) 1 p2 = some (if isLb S p2 then 1 else 0) := by
        unfold mX23_isOne
        rw [m_isLibrary_v h (fun i => (hI_sI_a (by omega)).trans (eS _ _)) (fun i => (hI_sI_a (by omega)).trans (eS _ _)) h2]
        by_cases q : isLb S p2
        · rw [if_pos q]; rfl
        · rw [if_neg q]; rfl
      simp (disch := omega) only [mX23_isThere, m_within, gI_thr, gz_0, gz_1, true_or, or_true, or_false, false_or, rdI_e, rdZ_e, rdL_e, wrI_e, wrL_e, bX_some, bE_inl, bE_inr, bT_inl, bT_inr, wf_eq, wfL_eq, wfR_eq, gkc_chip, gkc_dsg, gkc_lib, gk_chip, gk_dsg, gk_lib, gth_e rx, inside_0 rx, inside_1, need_0 rx, need_1, now_0 rx, now_1, roomX_0 rx, roomX_1, w32_id, w32_gI, ← Int.not_lt, not_true_eq_false, not_false_eq_true, if_true, if_false, reduceIte, Bool.false_eq_true, Int.toNat_natCast, Int.reduceToNat, Int.toNat_add, Int.toNat_mul, Int.reduceLT, Int.reduceEq, Int.reduceNeg, Nat.reduceAdd, hI_sI, and_self, Nat.reduceEqDiff, true_and, and_true, and_false, false_and, ne_eq, e1]
      by_cases q : isLb S p2
      · rw [if_pos q]; rfl
      · rw [if_neg q]; rfl
  · refine fin (isCh S p2) 434 ?_ (fun S1 eS => ?_)
    · have e0 : aN (kK 434) = 4 := rfl
      rw [mX1_isThere, kind_2, bT_inl, gB, if_pos (by decide), e0, flagsE (by omega) h2', bX_some]
      show gz (if isCh S p2 then 1 else 0) _ = _
      rw [gz_01]
      rfl
    · have e1 : mX23_isOne (sI S1 2000 0 0) 2 p2 = some (if isCh S p2 then 1 else 0) := by
        unfold mX23_isOne
        rw [m_isChip_v h (fun i => (hI_sI_a (by omega)).trans (eS _ _)) (fun i => (hI_sI_a (by omega)).trans (eS _ _)) h2]
        by_cases q : isCh S p2
        · rw [if_pos q]; rfl
        · rw [if_neg q]; rfl
      simp (disch := omega) only [mX23_isThere, m_within, gI_thr, gz_0, gz_1, true_or, or_true, or_false, false_or, rdI_e, rdZ_e, rdL_e, wrI_e, wrL_e, bX_some, bE_inl, bE_inr, bT_inl, bT_inr, wf_eq, wfL_eq, wfR_eq, gkc_chip, gkc_dsg, gkc_lib, gk_chip, gk_dsg, gk_lib, gth_e rx, inside_0 rx, inside_1, need_0 rx, need_1, now_0 rx, now_1, roomX_0 rx, roomX_1, w32_id, w32_gI, ← Int.not_lt, not_true_eq_false, not_false_eq_true, if_true, if_false, reduceIte, Bool.false_eq_true, Int.toNat_natCast, Int.reduceToNat, Int.toNat_add, Int.toNat_mul, Int.reduceLT, Int.reduceEq, Int.reduceNeg, Nat.reduceAdd, hI_sI, and_self, Nat.reduceEqDiff, true_and, and_true, and_false, false_and, ne_eq, e1]
      by_cases q : isCh S p2
      · rw [if_pos q]; rfl
      · rw [if_neg q]; rfl
end THERE
