/-! a chip is run -/
theorem okP_1 {b a i : Nat} (h : a ≠ b) : okP [(b, none)] a i := okP_cons (fun e => absurd e.symm h) okP_nil
section RUNN
variable {c : Nat} {S : Sto}
theorem kBit_eq {C : Chp} {p : Nat} {n : Int} : (if n < 0 then decide (n = -2) else kVal C p n.toNat) = kBit C p n := rfl
/-- the reference's outputs and next values, nets being worked out -/
theorem m_runOut {k p : Nat} {C : Chp} {x8 : Sto} {p1 p2 v6 v7 : Int} (m : RefK x8 k C) (w : WFC C) (hk : k < 4) (hp1 : p1 = (k : Int)) (he : aOr p2 (aShl v6 v7) = (p : Int)) (hp : p < 4096) (hv : ∀ n, n < kN C → tb (gL x8 2121 n) (p % 64) = kVal C p n) :
    lpF (mX23_run_L80 x8 p1 p2 v6 v7) (0, 0) = some ((kTold C p : Nat) : Int) := by
  have hn := w.nums
  subst hp1
  have e63 : aAnd (p : Int) 63 = ((p % 64 : Nat) : Int) := by rw [aAnd_63]; omega
  refine WP.of (WP_cnt (kO C) (fun i s => s.2 = (i : Int) ∧ s.1 = ((bitsN i (fun k => kBit C p (C 6 k)) : Nat) : Int)) (by unfold cFU; omega) ⟨rfl, rfl⟩ (fun i s hi hI => ?_) (fun s hI => ?_))
  · obtain ⟨a1, a2⟩ := hI
    have e1 := m.1.2.2.1
    rw [w.o] at e1
    have e2 := m.2.2.2.1 i hi
    have e3 := w.2.2.2.1 i hi
    rw [w.i, w.r, w.g] at e3
    have eb := m_bitOfNet (S := x8) (b := kVal C p) (n := C 6 i) (i := p % 64) (by omega) (by omega) (fun h => hv _ (by omega))
    have z : (16 * (k : Int) + (i : Int)).toNat = 16 * k + i := by omega
    simp (disch := omega) only [mX23_run_L80, a1, a2, e1, e2, z, he, e63, eb, kBit_eq, WP_ite, WP_some, WP_none, WE_inl, WE_inr, wf, wfL, wfR, rdI_e, rdZ_e, rdL_e, wrI_e, wrL_e, bX_some, bE_inl, bE_inr, bT_inl, bT_inr, bX_ite, ite_someI, ite_someL, ite_someB, tt_eq, iteb, gz_01, gz_b2i, w32_id, w32_gI, w32_bz, Int.toNat_natCast, Int.reduceToNat, Int.toNat_add, Int.toNat_mul, Int.ofNat_lt, Int.ofNat_le, Int.natCast_inj]
    exact ⟨fun _ => ⟨by omega, aOr_bits (f := fun k => kBit C p (C 6 k)) rfl (by omega)⟩, fun _ => by omega⟩
  · obtain ⟨a1, a2⟩ := hI
    have e1 := m.1.2.2.1
    rw [w.o] at e1
    simp (disch := omega) only [mX23_run_L80, a1, a2, e1, WP_ite, WP_some, WP_none, WE_inl, WE_inr, wf, wfL, wfR, rdI_e, rdZ_e, rdL_e, wrI_e, wrL_e, bX_some, bE_inl, bE_inr, bT_inl, bT_inr, bX_ite, ite_someI, ite_someL, ite_someB, tt_eq, iteb, gz_01, gz_b2i, w32_id, w32_gI, w32_bz, Int.toNat_natCast, Int.reduceToNat, Int.toNat_add, Int.toNat_mul, Int.ofNat_lt, Int.ofNat_le, Int.natCast_inj]
    exact ⟨fun _ => by omega, fun _ => rfl⟩
theorem m_runNext {k p : Nat} {C : Chp} {x8 : Sto} {p1 p2 v6 v7 : Int} (m : RefK x8 k C) (w : WFC C) (hk : k < 4) (hp1 : p1 = (k : Int)) (he : aOr p2 (aShl v6 v7) = (p : Int)) (hp : p < 4096) (hv : ∀ n, n < kN C → tb (gL x8 2121 n) (p % 64) = kVal C p n) :
    lpF (mX23_run_L128 x8 p1 p2 v6 v7) (0, 0) = some ((kMoved C p : Nat) : Int) := by
  have hn := w.nums
  subst hp1
  have e63 : aAnd (p : Int) 63 = ((p % 64 : Nat) : Int) := by rw [aAnd_63]; omega
  refine WP.of (WP_cnt (kR C) (fun i s => s.2 = (i : Int) ∧ s.1 = ((bitsN i (fun k => kBit C p (C 7 k)) : Nat) : Int)) (by unfold cFU; omega) ⟨rfl, rfl⟩ (fun i s hi hI => ?_) (fun s hI => ?_))
  · obtain ⟨a1, a2⟩ := hI
    have e1 := m.1.2.1
    rw [w.r] at e1
    have e2 := m.2.2.2.2.1 i hi
    have e3 := w.2.2.2.2.1 i hi
    rw [w.i, w.r, w.g] at e3
    have eb := m_bitOfNet (S := x8) (b := kVal C p) (n := C 7 i) (i := p % 64) (by omega) (by omega) (fun h => hv _ (by omega))
    have z : (6 * (k : Int) + (i : Int)).toNat = 6 * k + i := by omega
    simp (disch := omega) only [mX23_run_L128, a1, a2, e1, e2, z, he, e63, eb, kBit_eq, WP_ite, WP_some, WP_none, WE_inl, WE_inr, wf, wfL, wfR, rdI_e, rdZ_e, rdL_e, wrI_e, wrL_e, bX_some, bE_inl, bE_inr, bT_inl, bT_inr, bX_ite, ite_someI, ite_someL, ite_someB, tt_eq, iteb, gz_01, gz_b2i, w32_id, w32_gI, w32_bz, Int.toNat_natCast, Int.reduceToNat, Int.toNat_add, Int.toNat_mul, Int.ofNat_lt, Int.ofNat_le, Int.natCast_inj]
    exact ⟨fun _ => ⟨by omega, aOr_bits (f := fun k => kBit C p (C 7 k)) rfl (by omega)⟩, fun _ => by omega⟩
  · obtain ⟨a1, a2⟩ := hI
    have e1 := m.1.2.1
    rw [w.r] at e1
    simp (disch := omega) only [mX23_run_L128, a1, a2, e1, WP_ite, WP_some, WP_none, WE_inl, WE_inr, wf, wfL, wfR, rdI_e, rdZ_e, rdL_e, wrI_e, wrL_e, bX_some, bE_inl, bE_inr, bT_inl, bT_inr, bX_ite, ite_someI, ite_someL, ite_someB, tt_eq, iteb, gz_01, gz_b2i, w32_id, w32_gI, w32_bz, Int.toNat_natCast, Int.reduceToNat, Int.toNat_add, Int.toNat_mul, Int.ofNat_lt, Int.ofNat_le, Int.natCast_inj]
    exact ⟨fun _ => by omega, fun _ => rfl⟩
theorem kMoved_lt {C : Chp} {p : Nat} : kMoved C p < 2 ^ kR C := bitsN_lt _ _
theorem kTold_lt {C : Chp} {p : Nat} : kTold C p < 2 ^ kO C := bitsN_lt _ _
theorem L23 {p1 p2 : Int} (h : Inv c S) (hc : c < 64) (h1 : i32 p1) (h2 : i32 p2) : WP (mL_23 S p1 p2) (Inv (c + 1)) := by
  have rx := h.1.x hc
  unfold mL_23 mX0_run
  by_cases hq : isCh S p1
  · have hx := chipIn_t hq; obtain ⟨k, C, hk, rfl, w, r, m, wx, rX, mX⟩ := InvC.get h hq; rw [Int.toNat_natCast] at hx; have hn := w.nums; have eg := r.1.2.2.2.1; have em := m.1.2.2.2.1; rw [w.g] at eg em; have ei := r.1.1; have mi := m.1.1; rw [w.i] at ei mi; have er := r.1.2.1; have mr := m.1.2.1; rw [w.r] at er mr; have eo := r.1.2.2.1; have mo := m.1.2.2.1; rw [w.o] at eo mo; have el := r.1.2.2.2.2.1; have ml := m.1.2.2.2.2.1; rw [w.l] at el ml
    have wv := w.st64
    unfold i32 at h2
    have hsh := aShl1 (k := kI C) (by omega)
    obtain ⟨P, hP⟩ : ∃ P, 2 ^ kI C = P := ⟨_, rfl⟩
    have hpl : P ≤ 4096 := by rw [← hP]; exact Nat.pow_le_pow_right (n := 2) (by omega) (show kI C ≤ 12 by omega)
    rw [hP] at hsh
    have ib := m_isBelow hP (by omega) h2
    by_cases q1 : p2 < 0
    · refine L_modF (m1 := fun S1 => mX23_run S1 _ _) 2 2 h hc ?_ rfl (by omega) (fun S1 eS => ?_)
      · simp (disch := omega) only [mX1_run, hx, gI_thr, gz_0, gz_1, true_or, or_true, or_false, false_or, rdI_e, rdZ_e, rdL_e, wrI_e, wrL_e, bX_some, bE_inl, bE_inr, bT_inl, bT_inr, wf_eq, wfL_eq, wfR_eq, gkc_chip, gkc_dsg, gkc_lib, gk_chip, gk_dsg, gk_lib, gth_e rx, inside_0 rx, inside_1, need_0 rx, need_1, now_0 rx, now_1, roomX_0 rx, roomX_1, w32_id, w32_gI, ← Int.not_lt, not_true_eq_false, not_false_eq_true, if_true, if_false, reduceIte, Bool.false_eq_true, Int.toNat_natCast, Int.reduceToNat, Int.toNat_add, Int.toNat_mul, Int.reduceLT, Int.reduceEq, Int.reduceNeg, Nat.reduceAdd, hI_sI, and_self, Nat.reduceEqDiff, true_and, and_true, and_false, false_and, ne_eq, q1]
      · simp (disch := omega) only [mX23_run, m_isChip_t h eS h1 hq, gI_thr, gz_0, gz_1, true_or, or_true, or_false, false_or, rdI_e, rdZ_e, rdL_e, wrI_e, wrL_e, bX_some, bE_inl, bE_inr, bT_inl, bT_inr, wf_eq, wfL_eq, wfR_eq, gkc_chip, gkc_dsg, gkc_lib, gk_chip, gk_dsg, gk_lib, gth_e rx, inside_0 rx, inside_1, need_0 rx, need_1, now_0 rx, now_1, roomX_0 rx, roomX_1, w32_id, w32_gI, ← Int.not_lt, not_true_eq_false, not_false_eq_true, if_true, if_false, reduceIte, Bool.false_eq_true, Int.toNat_natCast, Int.reduceToNat, Int.toNat_add, Int.toNat_mul, Int.reduceLT, Int.reduceEq, Int.reduceNeg, Nat.reduceAdd, hI_sI, and_self, Nat.reduceEqDiff, true_and, and_true, and_false, false_and, ne_eq, q1, ib, eS, mi]
    by_cases q2 : p2 < (P : Int)
    · obtain ⟨q, rfl⟩ : ∃ p : Nat, p2 = (p : Int) := ⟨p2.toNat, by omega⟩
      have hpp : q < 2 ^ kI C := by rw [hP]; omega
      have hx0 : (C 14 0).toNat * P ≤ 64 * 4096 := Nat.mul_le_mul (by omega) hpl
      have es : aShl (C 14 0) (kI C : Int) = (((C 14 0).toNat * P : Nat) : Int) := by
        rw [← hP, ← aShl_nat (a := (C 14 0).toNat) (k := kI C) (by omega) (by rw [hP]; omega), Int.toNat_of_nonneg wv.2.2.1]
      have hx2 : (C 14 0).toNat * P + q < 2 ^ (kI C + kR C) := by
        have q9 := ipow (kR C)
        have := w.2.2.2.2.2
        have a1 : (C 14 0).toNat + 1 ≤ 2 ^ kR C := by omega
        have a2 := Nat.mul_le_mul_right P a1
        rw [Nat.pow_add, Nat.mul_comm (2 ^ kI C), hP]
        rw [Nat.add_mul, Nat.one_mul] at a2
        omega
      have hx3 : 2 ^ (kI C + kR C) ≤ 4096 := Nat.pow_le_pow_right (n := 2) (by omega) (show kI C + kR C ≤ 12 by omega)
      have eo : aOr (((C 14 0).toNat * P : Nat) : Int) (q : Int) = (((C 14 0).toNat * P + q : Nat) : Int) := by
        rw [aOr_nat (by omega) (by omega), ← hP, or_shl hpp]
      have eo2 : aOr (q : Int) (((C 14 0).toNat * P : Nat) : Int) = (((C 14 0).toNat * P + q : Nat) : Int) := by rw [aOr_comm, eo]
      generalize hs : (C 14 0).toNat * P + q = p at *
      have hm : ((kMoved C p : Nat) : Int) < 64 := by
        have a1 := kMoved_lt (C := C) (p := p)
        have q9 : 2 ^ kR C ≤ 2 ^ 6 := Nat.pow_le_pow_right (by omega) (by omega)
        omega
      refine L_modS (m1 := fun S1 => mX23_run S1 _ _) ?_
      simp (disch := omega) only [mX1_run, hx, gI_thr, gz_0, gz_1, true_or, or_true, or_false, false_or, rdI_e, rdZ_e, rdL_e, wrI_e, wrL_e, bX_some, bE_inl, bE_inr, bT_inl, bT_inr, wf_eq, wfL_eq, wfR_eq, gkc_chip, gkc_dsg, gkc_lib, gk_chip, gk_dsg, gk_lib, gth_e rx, inside_0 rx, inside_1, need_0 rx, need_1, now_0 rx, now_1, roomX_0 rx, roomX_1, w32_id, w32_gI, ← Int.not_lt, not_true_eq_false, not_false_eq_true, if_true, if_false, reduceIte, Bool.false_eq_true, Int.toNat_natCast, Int.reduceToNat, Int.toNat_add, Int.toNat_mul, Int.reduceLT, Int.reduceEq, Int.reduceNeg, Nat.reduceAdd, hI_sI, and_self, Nat.reduceEqDiff, true_and, and_true, and_false, false_and, ne_eq, ei, hsh, q1, q2, r.1.2.2.2.2.2.2, es, eo]
      refine WP_callF (k_values r w (p := p) (T := 435) (by omega) (by omega) rfl) fr_mX22_values (fun x4 hv hf => ?_)
      have r4 : RepK x4 (344 + 22 * k) C := r.cg (fun a i l1 l2 => hf.gi (okP_1 (by omega)))
      rw [k_moved r4 w hv rfl, bX_some]
      have hv6 : ∀ n, n < kN C → gI (sI x4 (344 + 22 * k) 5 ((kMoved C p : Nat) : Int)) 435 n = b2i (kVal C p n) := fun n hn' => by rw [hI_sI_a (by omega)]; exact hv n hn'
      rw [k_told (C := C) (p := p) (by rw [hI_sI_i (by omega)]; exact r4.1.2.2.1) (fun j hj => by rw [hI_sI_a (by omega)]; exact r4.2.2.2.1 j hj) w hv6 rfl, bX_some, WP_some, WE_inl]
      generalize hS1 : sL (sI x4 (344 + 22 * k) 5 ((kMoved C p : Nat) : Int)) 2178 0 (i2l ((kTold C p : Nat) : Int)) = S1
      have eS : ∀ a i, a ≠ 435 → gI S1 a i = if a = 344 + 22 * k ∧ i = 5 then ((kMoved C p : Nat) : Int) else gI S a i := fun a i z => by
        rw [← hS1]; show gI (sI x4 (344 + 22 * k) 5 ((kMoved C p : Nat) : Int)) a i = _
        rw [hI_sI, w32_id (by omega)]
        congr 1
        exact hf.gi (okP_1 z)
      have eN : ∀ a i, a ≠ 435 → ¬ (a = 344 + 22 * k ∧ i = 5) → gI S1 a i = gI S a i := fun a i z0 z => by rw [eS a i z0, if_neg z]
      have eL : ∀ a i, a ≠ 435 → ¬ (a = 2178 ∧ i = 0) → gL S1 a i = gL S a i := fun a i z0 z => by rw [← hS1, gL_sL, if_neg z]; exact hf.gl (okP_1 z0)
      have m1' : RefK S1 k C := m.cg (fun a i l1 l2 => eN a i (by omega) (by omega))
      have hp4 : p < 4096 := by omega
      have e6 : aShr (p : Int) 6 = ((p / 64 : Nat) : Int) := by rw [aShr_6, w32_id (by omega)]; omega
      have eh := hf.heap
      show WP (mX23_run S1 (k : Int) (q : Int)) _
      simp (disch := omega) only [mX23_run, m_isChip_w h (fun i => eN 434 i (by omega) (by omega)) (fun i => eN 2105 i (by omega) (by omega)) h1 hq, gI_thr, gz_0, gz_1, true_or, or_true, or_false, false_or, rdI_e, rdZ_e, rdL_e, wrI_e, wrL_e, bX_some, bE_inl, bE_inr, bT_inl, bT_inr, wf_eq, wfL_eq, wfR_eq, gkc_chip, gkc_dsg, gkc_lib, gk_chip, gk_dsg, gk_lib, gth_e rx, inside_0 rx, inside_1, need_0 rx, need_1, now_0 rx, now_1, roomX_0 rx, roomX_1, w32_id, w32_gI, ← Int.not_lt, not_true_eq_false, not_false_eq_true, if_true, if_false, reduceIte, Bool.false_eq_true, Int.toNat_natCast, Int.reduceToNat, Int.toNat_add, Int.toNat_mul, Int.reduceLT, Int.reduceEq, Int.reduceNeg, Nat.reduceAdd, hI_sI, and_self, Nat.reduceEqDiff, true_and, and_true, and_false, false_and, ne_eq, eN, mi, ib, q1, q2, m.1.2.2.2.2.2.2, es, eo2, e6]
      have m2' : RefK (sI S1 2000 0 0) k C := m1'.sI (by omega)
      refine WP_callF (m_workNets (b := false) (st := -1) (pn := -1) (x := 0) m2' w hk (by omega) (by omega) (by omega) (fun i hi => tb_0)) fr_mX23_workNets (fun x8 hw hg => ?_)
      have m8 : RefK x8 k C := m2'.fr hg (by decide)
      have hv8 : ∀ n, n < kN C → tb (gL x8 2121 n) (p % 64) = kVal C p n := fun n hn' => by
        rw [hw n hn' (p % 64) (Nat.mod_lt _ (by omega)), show 64 * (p / 64) + p % 64 = p by omega]; rfl
      rw [m_runOut (p := p) m8 w hk rfl (by rw [es, eo2]) hp4 hv8, bX_some, m_runNext (p := p) m8 w hk rfl (by rw [es, eo2]) hp4 hv8, bX_some, WP_some]
      have eg : ∀ a i, a ≠ 2121 → ¬ (a = 2000 ∧ i = 0) → gI x8 a i = gI S1 a i := fun a i z1 z2 => (hg.gi (okP_1 z1)).trans (by rw [hI_sI, if_neg z2])
      have egL : ∀ a i, a ≠ 2121 → gL x8 a i = gL S1 a i := fun a i z1 => hg.gl (okP_1 z1)
      have hh := hg.heap
      refine ⟨rfl, ?_, ?_, h.stC hk w r m wx rX mX (v := ((kMoved C p : Nat) : Int)) ⟨by omega, ?_⟩ (fun a i z z1 z2 => ?_) ?_ ?_ (fun a i z => ?_) ?_ ?_⟩
      · rw [hI_sI_a (by omega), hg.gi (okP_1 (by omega)), hI_sI, if_pos ⟨rfl, rfl⟩]; rfl
      · show gL x8 2178 0 = _
        rw [egL 2178 0 (by omega), ← hS1, gL_sL, if_pos ⟨rfl, rfl⟩]
      · have a1 := kMoved_lt (C := C) (p := p)
        have a2 := ipow (kR C)
        omega
      · have z3 : a ≠ 435 ∧ a ≠ 2121 ∧ ¬ (a = 2000 ∧ i = 0) := ⟨by rintro rfl; exact absurd (kept_lab z) (by decide), by rintro rfl; exact absurd (kept_lab z) (by decide), by rintro ⟨rfl, rfl⟩; exact absurd z (by decide)⟩
        rw [hI_sI, if_neg z2, eg a i z3.2.1 z3.2.2, eN a i z3.1 z1]
      · rw [hI_sI_a (by omega), eg _ _ (by omega) (by omega), eS _ _ (by omega), if_pos ⟨rfl, rfl⟩]
      · rw [hI_sI, if_pos ⟨rfl, rfl⟩, w32_id (by omega)]
      · show gL x8 a i = _
        rw [egL a i (by omega), eL a i (by omega) (by omega)]
      · show nC x8 ≤ _
        rw [hh.1]
        show nC S1 ≤ _
        rw [← hS1]
        show nC x4 ≤ _
        rw [eh.1]; omega
      · show nS x8 ≤ _
        rw [hh.2]
        show nS S1 ≤ _
        rw [← hS1]
        show nS x4 ≤ _
        rw [eh.2]; omega
    · refine L_modF (m1 := fun S1 => mX23_run S1 _ _) 2 2 h hc ?_ rfl (by omega) (fun S1 eS => ?_)
      · simp (disch := omega) only [mX1_run, hx, gI_thr, gz_0, gz_1, true_or, or_true, or_false, false_or, rdI_e, rdZ_e, rdL_e, wrI_e, wrL_e, bX_some, bE_inl, bE_inr, bT_inl, bT_inr, wf_eq, wfL_eq, wfR_eq, gkc_chip, gkc_dsg, gkc_lib, gk_chip, gk_dsg, gk_lib, gth_e rx, inside_0 rx, inside_1, need_0 rx, need_1, now_0 rx, now_1, roomX_0 rx, roomX_1, w32_id, w32_gI, ← Int.not_lt, not_true_eq_false, not_false_eq_true, if_true, if_false, reduceIte, Bool.false_eq_true, Int.toNat_natCast, Int.reduceToNat, Int.toNat_add, Int.toNat_mul, Int.reduceLT, Int.reduceEq, Int.reduceNeg, Nat.reduceAdd, hI_sI, and_self, Nat.reduceEqDiff, true_and, and_true, and_false, false_and, ne_eq, q1, q2, ei, hsh]
      · simp (disch := omega) only [mX23_run, m_isChip_t h eS h1 hq, gI_thr, gz_0, gz_1, true_or, or_true, or_false, false_or, rdI_e, rdZ_e, rdL_e, wrI_e, wrL_e, bX_some, bE_inl, bE_inr, bT_inl, bT_inr, wf_eq, wfL_eq, wfR_eq, gkc_chip, gkc_dsg, gkc_lib, gk_chip, gk_dsg, gk_lib, gth_e rx, inside_0 rx, inside_1, need_0 rx, need_1, now_0 rx, now_1, roomX_0 rx, roomX_1, w32_id, w32_gI, ← Int.not_lt, not_true_eq_false, not_false_eq_true, if_true, if_false, reduceIte, Bool.false_eq_true, Int.toNat_natCast, Int.reduceToNat, Int.toNat_add, Int.toNat_mul, Int.reduceLT, Int.reduceEq, Int.reduceNeg, Nat.reduceAdd, hI_sI, and_self, Nat.reduceEqDiff, true_and, and_true, and_false, false_and, ne_eq, q1, q2, ib, eS, mi]
  · refine L_modF (m1 := fun S1 => mX23_run S1 _ _) 1 1 h hc ?_ rfl (by omega) (fun S1 eS => ?_)
    · rw [mX1_run, chipIn_f hq rx h1]; rfl
    · unfold mX23_run; rw [m_isChip_f h eS h1 hq]; rfl
end RUNN
