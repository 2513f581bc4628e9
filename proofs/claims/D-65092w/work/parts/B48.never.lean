/-! what a comparing leaves; never -/
section NEV
variable {c : Nat} {S : Sto}
theorem TabOk_nev {k1 k : Nat} {G1 : Dsg} (h1 : k1 < 6) (w1 : WFG G1) (r1 : RepG S (273 + 9 * k1) G1) (hk : k ≤ 16) :
    TabOk S (gIn G1) (gSt G1) (2 ^ gSt G1) 1 (2 ^ gIn G1) (273 + 9 * k1 + 7) (273 + 9 * k1 + 8) 0 0 (aShl 1 (k : Int)) (fun a _ i => (gF G1 9 (2 ^ gIn G1) a i).testBit k) (gF G1 10 (2 ^ gIn G1)) (fun _ _ => 0) (gF G1 9 (2 ^ gIn G1)) (fun _ _ => 0) := by
  have n1 := w1.nums
  have p1 := pow_le6 n1.1
  refine ⟨fun a i ha hi => ?_, fun b i hb hi => ⟨by show 0 < 65536; omega, by show 0 < 1; omega, by rw [if_pos rfl], by rw [if_pos rfl]⟩, fun a b i ha hb hi => ?_, ⟨?_, ?_, fun g => absurd rfl g, fun g => absurd rfl g⟩, ⟨by omega, by omega, by omega, by omega⟩, rfl, rfl, by omega, ?_, ?_, n1.1, by omega, Nat.le_refl _⟩
  · have g := gF_rng w1 ha hi
    have t := r1.2.2.2.2.2 _ (idx_lt ha hi)
    exact ⟨t.1.trans g.1, g.2.1, t.2.trans g.2.2.1, g.2.2.2⟩
  · exact aAnd_bit (by have := (gF_rng w1 ha hi).2.1; omega) hk
  · exact (by decide : ∀ k : Fin 6, aN (kK (273 + 9 * k.val + 7)) = 4096) ⟨k1, h1⟩
  · exact (by decide : ∀ k : Fin 6, aN (kK (273 + 9 * k.val + 8)) = 4096) ⟨k1, h1⟩
  · rw [← Nat.pow_add]; exact pow_le12 (by omega)
  · have := pow_le12 (n := gIn G1) (by omega); omega
theorem L16 {p1 p2 : Int} (h : Inv c S) (hc : c < 64) (h1 : i32 p1) (h2 : i32 p2) : WP (mL_16 S p1 p2) (Inv (c + 1)) := by
  have rx := h.1.x hc
  unfold mL_16 mX0_never
  by_cases hq1 : isDs S p1
  · have hx1 := designIn_t hq1
    obtain ⟨k1, G1, hk1, rfl, w1, r1, m1⟩ := InvG.get h hq1
    rw [Int.toNat_natCast] at hx1
    unfold i32 at h2
    have n1 := w1.nums
    have ri1 : gI S (273 + 9 * k1) 4 = gIn G1 := by rw [r1.1.1, w1.i]
    have ro1 : gI S (273 + 9 * k1) 6 = gOu G1 := by rw [r1.1.2.2.1, w1.o]
    have mi1 : gI S 2037 k1 = gIn G1 := by rw [m1.1.1, w1.i]
    have mo1 : gI S 2039 k1 = gOu G1 := by rw [m1.1.2.2.1, w1.o]
    by_cases q1 : p2 < 0
    · refine L_modF (m1 := fun S1 => mX23_never S1 _ _) 1 1 h hc ?_ rfl (by omega) (fun S1 eS => ?_)
      · simp (disch := omega) only [mX1_never, hx1, gI_thr, gz_0, gz_1, true_or, or_true, or_false, false_or, rdI_e, rdZ_e, rdL_e, wrI_e, wrL_e, bX_some, bE_inl, bE_inr, bT_inl, bT_inr, wf_eq, wfL_eq, wfR_eq, gkc_chip, gkc_dsg, gkc_lib, gk_chip, gk_dsg, gk_lib, gth_e rx, inside_0 rx, inside_1, need_0 rx, need_1, now_0 rx, now_1, roomX_0 rx, roomX_1, w32_id, w32_gI, ← Int.not_lt, not_true_eq_false, not_false_eq_true, if_true, if_false, reduceIte, Bool.false_eq_true, Int.toNat_natCast, Int.reduceToNat, Int.toNat_add, Int.toNat_mul, Int.reduceLT, Int.reduceEq, Int.reduceNeg, Nat.reduceAdd, hI_sI, and_self, Nat.reduceEqDiff, true_and, and_true, and_false, false_and, ne_eq, q1]
      · simp (disch := omega) only [mX23_never, m_isDesign_t h eS h1 hq1, gI_thr, gz_0, gz_1, true_or, or_true, or_false, false_or, rdI_e, rdZ_e, rdL_e, wrI_e, wrL_e, bX_some, bE_inl, bE_inr, bT_inl, bT_inr, wf_eq, wfL_eq, wfR_eq, gkc_chip, gkc_dsg, gkc_lib, gk_chip, gk_dsg, gk_lib, gth_e rx, inside_0 rx, inside_1, need_0 rx, need_1, now_0 rx, now_1, roomX_0 rx, roomX_1, w32_id, w32_gI, ← Int.not_lt, not_true_eq_false, not_false_eq_true, if_true, if_false, reduceIte, Bool.false_eq_true, Int.toNat_natCast, Int.reduceToNat, Int.toNat_add, Int.toNat_mul, Int.reduceLT, Int.reduceEq, Int.reduceNeg, Nat.reduceAdd, hI_sI, and_self, Nat.reduceEqDiff, true_and, and_true, and_false, false_and, ne_eq, q1]
    by_cases q2 : p2 < gOu G1
    · obtain ⟨k, rfl⟩ : ∃ k : Nat, p2 = (k : Int) := ⟨p2.toNat, by omega⟩
      have hk : k ≤ 16 := by omega
      have rs1 : gI S (273 + 9 * k1) 5 = gSt G1 := by rw [r1.1.2.1, w1.s]
      have wv1 := w1.st64
      have wa1 := w1.2.2.2.2.2.2
      have ip1 := ipow (gSt G1)
      obtain ⟨a0, ha0⟩ : ∃ a0 : Nat, G1 11 0 = (a0 : Int) := ⟨(G1 11 0).toNat, by omega⟩
      have ra1 : gI S (273 + 9 * k1) 7 = (a0 : Int) := by rw [r1.1.2.2.2.2.1, ha0]
      have ma1 : gI S 2040 k1 = (a0 : Int) := by rw [m1.1.2.2.2.2.2.1, ha0]
      have h0 : a0 < 2 ^ gSt G1 ∧ 0 < 1 := by omega
      have T := TabOk_nev (k := k) hk1 w1 r1 hk
      refine L_modS (m1 := fun S1 => mX23_never S1 _ _) ?_
      simp (disch := omega) only [mX1_never, hx1, gI_thr, gz_0, gz_1, true_or, or_true, or_false, false_or, rdI_e, rdZ_e, rdL_e, wrI_e, wrL_e, bX_some, bE_inl, bE_inr, bT_inl, bT_inr, wf_eq, wfL_eq, wfR_eq, gkc_chip, gkc_dsg, gkc_lib, gk_chip, gk_dsg, gk_lib, gth_e rx, inside_0 rx, inside_1, need_0 rx, need_1, now_0 rx, now_1, roomX_0 rx, roomX_1, w32_id, w32_gI, ← Int.not_lt, not_true_eq_false, not_false_eq_true, if_true, if_false, reduceIte, Bool.false_eq_true, Int.toNat_natCast, Int.reduceToNat, Int.toNat_add, Int.toNat_mul, Int.reduceLT, Int.reduceEq, Int.reduceNeg, Nat.reduceAdd, hI_sI, and_self, Nat.reduceEqDiff, true_and, and_true, and_false, false_and, ne_eq, q1, q2, ri1, ro1, rs1, ra1]
      refine WP_callF (k_go T h0) fr_mX11_go (fun x hx fx => ?_)
      rw [WP_some, WE_inl]
      refine WP.mono (m := mX23_never (sL x.2 2178 0 (i2l x.1)) (k1 : Int) (k : Int)) (P := fun y => y.1 = x.1 ∧ gI y.2 2000 0 = 0 ∧ Fr W_mX23_never [] false (sL x.2 2178 0 (i2l x.1)) y.2 ∧ ∃ n : Nat, n ≤ 4097 ∧ gI x.2 192 5 = n ∧ gI y.2 2000 95 = n ∧ ∀ j, j < n → gI x.2 197 j = gI y.2 2072 j) ?_ (fun y hy => ?_)
      · generalize hS1 : sL x.2 2178 0 (i2l x.1) = S1
        have eB : ∀ a i, (a < 192 ∨ 197 < a) → gI S1 a i = gI S a i := fun a i z => by
          rw [← hS1]; exact fx.gi (okP_lab (by simp only [W_mX11_go, List.forall_mem_cons, List.not_mem_nil, false_implies, implies_true, and_true]; omega))
        refine WP.mono (WP.pc (R := fun y => Fr W_mX23_never [] false S1 y.2) (P := fun y => y.1 = x.1 ∧ gI y.2 2000 0 = 0 ∧ ∃ n : Nat, n ≤ 4097 ∧ gI x.2 192 5 = n ∧ gI y.2 2000 95 = n ∧ ∀ j, j < n → gI x.2 197 j = gI y.2 2072 j) ?_ fr_mX23_never) (fun y hy => ⟨hy.1.1, hy.1.2.1, hy.2, hy.1.2.2⟩)
        simp (disch := omega) only [mX23_never, m_isDesign_w h (fun i => eB 432 i (by omega)) (fun i => eB 2036 i (by omega)) h1 hq1, gI_thr, gz_0, gz_1, true_or, or_true, or_false, false_or, rdI_e, rdZ_e, rdL_e, wrI_e, wrL_e, bX_some, bE_inl, bE_inr, bT_inl, bT_inr, wf_eq, wfL_eq, wfR_eq, gkc_chip, gkc_dsg, gkc_lib, gk_chip, gk_dsg, gk_lib, gth_e rx, inside_0 rx, inside_1, need_0 rx, need_1, now_0 rx, now_1, roomX_0 rx, roomX_1, w32_id, w32_gI, ← Int.not_lt, not_true_eq_false, not_false_eq_true, if_true, if_false, reduceIte, Bool.false_eq_true, Int.toNat_natCast, Int.reduceToNat, Int.toNat_add, Int.toNat_mul, Int.reduceLT, Int.reduceEq, Int.reduceNeg, Nat.reduceAdd, hI_sI, and_self, Nat.reduceEqDiff, true_and, and_true, and_false, false_and, ne_eq, eB, mi1, mo1, q1, q2]
        have m1' : RefG (sI S1 2000 0 0) k1 G1 := m1.cg w1 (fun a i l1 l2 _ _ => (hI_sI_a (by omega)).trans (eB a i (by omega)))
        refine WP_callF (m_layA m1' w1 hk1) fr_mX23_layA (fun x9 h9 f9 => ?_)
        have oA : ∀ a i, a ≠ 2073 → a ≠ 2074 → okP W_mX23_layA a i := fun a i z1 z2 => okP_cons (fun e => absurd e.symm z1) (okP_1 z2)
        refine WP_call (R := fun S' => (∀ p, p < 4096 → gI S' 2073 p = aAnd (aShr (gI x9 2073 p) (k : Int)) 1 ∧ gI S' 2075 p = 0 ∧ gI S' 2076 p = 0) ∧ ∀ a i, a ≠ 2073 → a ≠ 2075 → a ≠ 2076 → gI S' a i = gI x9 a i) ?_ (fun x10 h10 => ?_)
        · refine WP_cnt 4096 (fun i z => z.1 = (i : Int) ∧ (∀ p, p < i → gI z.2 2073 p = aAnd (aShr (gI x9 2073 p) (k : Int)) 1 ∧ gI z.2 2075 p = 0 ∧ gI z.2 2076 p = 0) ∧ (∀ p, i ≤ p → gI z.2 2073 p = gI x9 2073 p) ∧ ∀ a i, a ≠ 2073 → a ≠ 2075 → a ≠ 2076 → gI z.2 a i = gI x9 a i) (by decide) ⟨rfl, fun p hp => absurd hp (Nat.not_lt_zero _), fun _ _ => rfl, fun _ _ _ _ _ => rfl⟩ (fun i z hi hI => ?_) (fun z hI => ?_)
          · obtain ⟨b1, b2, b3, b4⟩ := hI
            have e1 := b3 i (Nat.le_refl _)
            simp (disch := omega) only [mX23_never_L47, b1, e1, WP_ite, WP_some, WP_none, WE_inl, WE_inr, wf, wfL, wfR, rdI_e, rdZ_e, rdL_e, wrI_e, wrL_e, bX_some, bE_inl, bE_inr, bT_inl, bT_inr, bX_ite, ite_someI, ite_someL, ite_someB, tt_eq, iteb, gz_01, gz_b2i, w32_id, w32_gI, w32_bz, Int.toNat_natCast, Int.reduceToNat, Int.toNat_add, Int.toNat_mul, Int.ofNat_lt, Int.ofNat_le, Int.natCast_inj]
            refine ⟨fun _ => ⟨by omega, fun p hp => ?_, fun p hp => ?_, fun a j z1 z2 z3 => ?_⟩, fun g => by omega⟩
            · have g2 := b2 p
              refine ⟨?_, ?_, ?_⟩
              · rw [hI_sI_a (by omega), hI_sI_a (by omega), hI_sI]
                by_cases e : p = i
                · rw [if_pos ⟨rfl, e⟩, w32_aAnd, e]
                · rw [if_neg (fun g => e g.2)]; exact (g2 (by omega)).1
              · rw [hI_sI_a (by omega), hI_sI]
                by_cases e : p = i
                · rw [if_pos ⟨rfl, e⟩]; rfl
                · rw [if_neg (fun g => e g.2), hI_sI_a (by omega)]; exact (g2 (by omega)).2.1
              · rw [hI_sI]
                by_cases e : p = i
                · rw [if_pos ⟨rfl, e⟩]; rfl
                · rw [if_neg (fun g => e g.2), hI_sI_a (by omega), hI_sI_a (by omega)]; exact (g2 (by omega)).2.2
            · rw [hI_sI_a (by omega), hI_sI_a (by omega), hI_sI, if_neg (by omega)]; exact b3 p (by omega)
            · rw [hI_sI_a z3, hI_sI_a z2, hI_sI_a z1]; exact b4 a j z1 z2 z3
          · obtain ⟨b1, b2, b3, b4⟩ := hI
            simp (disch := omega) only [mX23_never_L47, b1, WP_ite, WP_some, WP_none, WE_inl, WE_inr, wf, wfL, wfR, rdI_e, rdZ_e, rdL_e, wrI_e, wrL_e, bX_some, bE_inl, bE_inr, bT_inl, bT_inr, bX_ite, ite_someI, ite_someL, ite_someB, tt_eq, iteb, gz_01, gz_b2i, w32_id, w32_gI, w32_bz, Int.toNat_natCast, Int.reduceToNat, Int.toNat_add, Int.toNat_mul, Int.ofNat_lt, Int.ofNat_le, Int.natCast_inj]
            exact ⟨fun g => by omega, fun _ => ⟨b2, b4⟩⟩
        · have e10 : ∀ a i, a ≠ 2073 → a ≠ 2074 → a ≠ 2075 → a ≠ 2076 → a ≠ 2000 → gI x10 a i = gI S1 a i := fun a i z1 z2 z3 z4 z5 => (h10.2 a i z1 z3 z4).trans ((f9.gi (oA a i z1 z2)).trans (hI_sI_a z5))
          have u1 : gI x10 2037 k1 = (gIn G1 : Int) := by rw [e10 _ _ (by omega) (by omega) (by omega) (by omega) (by omega), eB _ _ (by omega), mi1]
          have u2 : gI x10 2040 k1 = (a0 : Int) := by rw [e10 _ _ (by omega) (by omega) (by omega) (by omega) (by omega), eB _ _ (by omega), ma1]
          rw [u1, u2]
          have hpi := pow_le12 (n := gIn G1) (by omega)
          have hpt := pow_le12 (n := gIn G1 + gSt G1) (by omega)
          have TM : TabMO x10 (gIn G1) (2 ^ gSt G1) 1 (2 ^ gIn G1) (fun a _ i => (gF G1 9 (2 ^ gIn G1) a i).testBit k) (gF G1 10 (2 ^ gIn G1)) (fun _ _ => 0) (fun a i => b2i ((gF G1 9 (2 ^ gIn G1) a i).testBit k)) (fun _ _ => 0) := by
            refine ⟨fun a i ha hi => ?_, fun b i hb hi => ?_, fun a b i ha hb hi => ?_, rfl, pow_le6 n1.1, by omega, ?_, by omega, by omega, by omega, Nat.one_le_two_pow⟩
            · have g := gF_rng w1 ha hi
              have il := idx_lt (G := G1) ha hi
              have t := h9 _ il
              rw [(h10.1 _ (by omega)).1, t.1, g.1, aBit (by omega) (by omega), h10.2 2074 _ (by omega) (by omega) (by omega)]
              exact ⟨rfl, t.2.trans g.2.2.1, g.2.2.2⟩
            · have : b = 0 := by omega
              subst this
              rw [Nat.zero_mul, Nat.zero_add]
              have t := h10.1 i (by omega)
              exact ⟨t.2.1, t.2.2, by omega⟩
            · dsimp only
              rw [w32_b2i]
              show (b2i _ = 0) ↔ _
              rw [b2i_eq0]
            · rw [← Nat.pow_add]; exact pow_le12 (by omega)
          have hAB : 2 ^ gSt G1 * 1 ≤ 4096 := by have := pow_le6 n1.1; omega
          refine WP_callF (m_search (b0 := 0) TM h0 hAB) fr_mX23_search (fun y hy fy => ?_)
          obtain ⟨ev, n, hn, l1, l2, l3, hr⟩ := hx.same (fun a i p q => (T.1 a i p q).2.2.2) (fun b i p q => (T.2.1 b i p q).2.1) h0 hAB hy
          refine WP_some.2 ⟨ev.symm, ?_, n, hn, l1, l2, hr⟩
          rw [fy.gi (okP_of (by decide)), h10.2 _ _ (by omega) (by omega) (by omega), f9.gi (oA _ _ (by omega) (by omega)), hI_sI, if_pos ⟨rfl, rfl⟩]; rfl
      · obtain ⟨y1, y2, y3, y4⟩ := hy
        have := cmp_inv h fx y3 (by decide) (by decide) (by decide) (by decide) y4
        exact ⟨y1, y2, this.1, this.2⟩
    · refine L_modF (m1 := fun S1 => mX23_never S1 _ _) 1 1 h hc ?_ rfl (by omega) (fun S1 eS => ?_)
      · simp (disch := omega) only [mX1_never, hx1, gI_thr, gz_0, gz_1, true_or, or_true, or_false, false_or, rdI_e, rdZ_e, rdL_e, wrI_e, wrL_e, bX_some, bE_inl, bE_inr, bT_inl, bT_inr, wf_eq, wfL_eq, wfR_eq, gkc_chip, gkc_dsg, gkc_lib, gk_chip, gk_dsg, gk_lib, gth_e rx, inside_0 rx, inside_1, need_0 rx, need_1, now_0 rx, now_1, roomX_0 rx, roomX_1, w32_id, w32_gI, ← Int.not_lt, not_true_eq_false, not_false_eq_true, if_true, if_false, reduceIte, Bool.false_eq_true, Int.toNat_natCast, Int.reduceToNat, Int.toNat_add, Int.toNat_mul, Int.reduceLT, Int.reduceEq, Int.reduceNeg, Nat.reduceAdd, hI_sI, and_self, Nat.reduceEqDiff, true_and, and_true, and_false, false_and, ne_eq, q1, q2, ro1]
      · simp (disch := omega) only [mX23_never, m_isDesign_t h eS h1 hq1, gI_thr, gz_0, gz_1, true_or, or_true, or_false, false_or, rdI_e, rdZ_e, rdL_e, wrI_e, wrL_e, bX_some, bE_inl, bE_inr, bT_inl, bT_inr, wf_eq, wfL_eq, wfR_eq, gkc_chip, gkc_dsg, gkc_lib, gk_chip, gk_dsg, gk_lib, gth_e rx, inside_0 rx, inside_1, need_0 rx, need_1, now_0 rx, now_1, roomX_0 rx, roomX_1, w32_id, w32_gI, ← Int.not_lt, not_true_eq_false, not_false_eq_true, if_true, if_false, reduceIte, Bool.false_eq_true, Int.toNat_natCast, Int.reduceToNat, Int.toNat_add, Int.toNat_mul, Int.reduceLT, Int.reduceEq, Int.reduceNeg, Nat.reduceAdd, hI_sI, and_self, Nat.reduceEqDiff, true_and, and_true, and_false, false_and, ne_eq, q1, q2, eS, mo1]
  · refine L_modF (m1 := fun S1 => mX23_never S1 _ _) 1 1 h hc ?_ rfl (by omega) (fun S1 eS => ?_)
    · rw [mX1_never, designIn_f hq1 rx h1]; rfl
    · unfold mX23_never; rw [m_isDesign_f h eS h1 hq1]; rfl
end NEV
