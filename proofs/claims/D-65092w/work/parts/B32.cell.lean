/-! cell, chip -/
theorem WFL.n {B : Lib} (w : WFL B) : B 0 0 = (liN B : Int) := by have := w.1; unfold liN; omega
theorem WFL.nums {B : Lib} (w : WFL B) : 1 ≤ liN B ∧ liN B ≤ 12 := by have := w.1; have := w.n; omega
def lInvN (B : Lib) : Nat → Int
  | 0 => -1
  | n + 1 => if B 1 n = 1 ∧ B 2 n = 1 ∧ (lInvN B n = -1 ∨ B 3 n < B 3 (lInvN B n).toNat) then (n : Int) else lInvN B n
def lInv (B : Lib) : Int := lInvN B (liN B)
theorem lInvN_rng {B : Lib} {n : Nat} : -1 ≤ lInvN B n ∧ lInvN B n < n := by
  induction n with
  | zero => show -1 ≤ (-1 : Int) ∧ (-1 : Int) < _; omega
  | succ n ih => show -1 ≤ (if _ then _ else _) ∧ (if _ then _ else _) < _; split <;> omega
theorem k_inverter {S : Sto} {L : Nat} {B : Lib} (r : RepL S L B) (w : WFL B) : mX21_inverter S L = some (lInv B) := by
  have hn := w.nums
  have e0 := r.1
  rw [w.n] at e0
  unfold mX21_inverter
  refine WP.of (WP_call (R := fun y => y = lInv B) ?_ (fun y hy => WP_some.2 hy))
  refine WP_cnt (liN B) (fun i s => s.2 = (i : Int) ∧ s.1 = lInvN B i) (by unfold cFU; omega) ⟨rfl, rfl⟩ (fun i s hi hI => ?_) (fun s hI => ?_)
  · obtain ⟨a1, a2⟩ := hI
    have hr := lInvN_rng (B := B) (n := i)
    have e1 := r.2 i hi
    have w1 := w.2 i hi
    have hs : lInvN B (i + 1) = if B 1 i = 1 ∧ B 2 i = 1 ∧ (lInvN B i = -1 ∨ B 3 i < B 3 (lInvN B i).toNat) then (i : Int) else lInvN B i := rfl
    rw [hs]
    have b2 := gI_rng S (L + 2) i
    rw [e1.2.1] at b2
    by_cases q1 : B 1 i = 1
    · by_cases q2 : B 2 i = 1
      · by_cases q : lInvN B i = -1
        · rw [if_pos ⟨q1, q2, .inl q⟩]
          simp (disch := omega) only [mX21_inverter_L4, a1, a2, e0, e1.1, e1.2.1, e1.2.2.1, WP_ite, WP_some, WP_none, WE_inl, WE_inr, wf, wfL, wfR, rdI_e, rdZ_e, rdL_e, wrI_e, wrL_e, bX_some, bE_inl, bE_inr, bT_inl, bT_inr, bX_ite, ite_someI, ite_someL, ite_someB, tt_eq, iteb, gz_01, gz_b2i, w32_id, w32_gI, w32_bz, Int.toNat_natCast, Int.reduceToNat, Int.toNat_add, Int.toNat_mul, Int.ofNat_lt, Int.ofNat_le, Int.natCast_inj, q, q1, q2, not_true_eq_false, if_false, if_true, reduceIte]
          exact ⟨fun _ => ⟨by omega, by trivial⟩, fun _ => by omega⟩
        · have e2 := r.2 (lInvN B i).toNat (by omega)
          have w2 := w.2 (lInvN B i).toNat (by omega)
          by_cases q3 : B 3 i < B 3 (lInvN B i).toNat
          · rw [if_pos ⟨q1, q2, .inr q3⟩]
            simp (disch := omega) only [mX21_inverter_L4, a1, a2, e0, e1.1, e1.2.1, e1.2.2.1, e2.2.2.1, WP_ite, WP_some, WP_none, WE_inl, WE_inr, wf, wfL, wfR, rdI_e, rdZ_e, rdL_e, wrI_e, wrL_e, bX_some, bE_inl, bE_inr, bT_inl, bT_inr, bX_ite, ite_someI, ite_someL, ite_someB, tt_eq, iteb, gz_01, gz_b2i, w32_id, w32_gI, w32_bz, Int.toNat_natCast, Int.reduceToNat, Int.toNat_add, Int.toNat_mul, Int.ofNat_lt, Int.ofNat_le, Int.natCast_inj, q, q1, q2, q3, not_false_eq_true, not_true_eq_false, if_false, if_true, reduceIte]
            exact ⟨fun _ => ⟨by omega, by trivial⟩, fun _ => by omega⟩
          · rw [if_neg (fun g => g.2.2.elim q q3)]
            simp (disch := omega) only [mX21_inverter_L4, a1, a2, e0, e1.1, e1.2.1, e1.2.2.1, e2.2.2.1, WP_ite, WP_some, WP_none, WE_inl, WE_inr, wf, wfL, wfR, rdI_e, rdZ_e, rdL_e, wrI_e, wrL_e, bX_some, bE_inl, bE_inr, bT_inl, bT_inr, bX_ite, ite_someI, ite_someL, ite_someB, tt_eq, iteb, gz_01, gz_b2i, w32_id, w32_gI, w32_bz, Int.toNat_natCast, Int.reduceToNat, Int.toNat_add, Int.toNat_mul, Int.ofNat_lt, Int.ofNat_le, Int.natCast_inj, q, q1, q2, q3, not_false_eq_true, not_true_eq_false, if_false, if_true, reduceIte, Bool.false_eq_true]
            exact ⟨fun _ => ⟨by omega, by trivial⟩, fun _ => by omega⟩
      · rw [if_neg (fun g => q2 g.2.1)]
        simp (disch := omega) only [mX21_inverter_L4, a1, a2, e0, e1.1, e1.2.1, e1.2.2.1, WP_ite, WP_some, WP_none, WE_inl, WE_inr, wf, wfL, wfR, rdI_e, rdZ_e, rdL_e, wrI_e, wrL_e, bX_some, bE_inl, bE_inr, bT_inl, bT_inr, bX_ite, ite_someI, ite_someL, ite_someB, tt_eq, iteb, gz_01, gz_b2i, w32_id, w32_gI, w32_bz, Int.toNat_natCast, Int.reduceToNat, Int.toNat_add, Int.toNat_mul, Int.ofNat_lt, Int.ofNat_le, Int.natCast_inj, q1, q2, if_false, if_true, reduceIte, Bool.false_eq_true]
        exact ⟨fun _ => ⟨by omega, by trivial⟩, fun _ => by omega⟩
    · rw [if_neg (fun g => q1 g.1)]
      simp (disch := omega) only [mX21_inverter_L4, a1, a2, e0, e1.1, WP_ite, WP_some, WP_none, WE_inl, WE_inr, wf, wfL, wfR, rdI_e, rdZ_e, rdL_e, wrI_e, wrL_e, bX_some, bE_inl, bE_inr, bT_inl, bT_inr, bX_ite, ite_someI, ite_someL, ite_someB, tt_eq, iteb, gz_01, gz_b2i, w32_id, w32_gI, w32_bz, Int.toNat_natCast, Int.reduceToNat, Int.toNat_add, Int.toNat_mul, Int.ofNat_lt, Int.ofNat_le, Int.natCast_inj, q1, if_false, if_true, reduceIte, Bool.false_eq_true]
      exact ⟨fun _ => ⟨by omega, by trivial⟩, fun _ => by omega⟩
  · obtain ⟨a1, a2⟩ := hI
    simp (disch := omega) only [mX21_inverter_L4, a1, a2, e0, WP_ite, WP_some, WP_none, WE_inl, WE_inr, wf, wfL, wfR, rdI_e, rdZ_e, rdL_e, wrI_e, wrL_e, bX_some, bE_inl, bE_inr, bT_inl, bT_inr, bX_ite, ite_someI, ite_someL, ite_someB, tt_eq, iteb, gz_01, gz_b2i, w32_id, w32_gI, w32_bz, Int.toNat_natCast, Int.reduceToNat, Int.toNat_add, Int.toNat_mul, Int.ofNat_lt, Int.ofNat_le, Int.natCast_inj]
    exact ⟨fun _ => by omega, fun _ => rfl⟩
