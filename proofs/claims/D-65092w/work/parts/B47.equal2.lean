/-! equal: the call -/
theorem idx_lt {G : Dsg} {a i : Nat} (ha : a < 2 ^ gSt G) (hi : i < 2 ^ gIn G) : a * 2 ^ gIn G + i < 2 ^ (gIn G + gSt G) := by
  have := mul_lt_of ha hi
  rw [Nat.pow_add, Nat.mul_comm (2 ^ gIn G)]
  exact this
def gF (G : Dsg) (f N a i : Nat) : Nat := (G f (a * N + i)).toNat
theorem pow_le6 {n : Nat} (h : n ≤ 6) : 2 ^ n ≤ 64 := Nat.pow_le_pow_right (n := 2) (by omega) h
theorem pow_le12 {n : Nat} (h : n ≤ 12) : 2 ^ n ≤ 4096 := Nat.pow_le_pow_right (n := 2) (by omega) h
theorem gF_rng {G : Dsg} (w : WFG G) {a i : Nat} (ha : a < 2 ^ gSt G) (hi : i < 2 ^ gIn G) :
    G 9 (a * 2 ^ gIn G + i) = (gF G 9 (2 ^ gIn G) a i : Int) ∧ gF G 9 (2 ^ gIn G) a i < 65536 ∧ G 10 (a * 2 ^ gIn G + i) = (gF G 10 (2 ^ gIn G) a i : Int) ∧ gF G 10 (2 ^ gIn G) a i < 2 ^ gSt G := by
  have h := w.st64.2.2.2.2 _ (idx_lt ha hi)
  have h2 := w.2.2.2.2.2.1 _ (idx_lt ha hi)
  have q := ipow (gSt G)
  unfold gF
  omega
section EQ
variable {c : Nat} {S : Sto}
theorem TabOk_eq {k1 k2 : Nat} {G1 G2 : Dsg} (h1 : k1 < 6) (h2 : k2 < 6) (w1 : WFG G1) (w2 : WFG G2) (r1 : RepG S (273 + 9 * k1) G1) (r2 : RepG S (273 + 9 * k2) G2) (e : gIn G1 = gIn G2) :
    TabOk S (gIn G1) (gSt G1) (2 ^ gSt G1) (2 ^ gSt G2) (2 ^ gIn G1) (273 + 9 * k1 + 7) (273 + 9 * k1 + 8) (273 + 9 * k2 + 7) (273 + 9 * k2 + 8) (-1) (fun a b i => decide (gF G1 9 (2 ^ gIn G1) a i ≠ gF G2 9 (2 ^ gIn G1) b i)) (gF G1 10 (2 ^ gIn G1)) (gF G2 10 (2 ^ gIn G1)) (gF G1 9 (2 ^ gIn G1)) (gF G2 9 (2 ^ gIn G1)) := by
  have n1 := w1.nums
  have n2 := w2.nums
  have p1 := pow_le6 n1.1
  have p2 := pow_le6 n2.1
  refine ⟨fun a i ha hi => ?_, fun b i hb hi => ?_, fun a b i ha hb hi => ?_, ⟨?_, ?_, fun _ => ?_, fun _ => ?_⟩, ⟨by omega, by omega, by omega, by omega⟩, rfl, rfl, ?_, ?_, ?_, n1.1, by omega, Nat.one_le_two_pow⟩
  · have g := gF_rng w1 ha hi
    have t := r1.2.2.2.2.2 _ (idx_lt ha hi)
    exact ⟨t.1.trans g.1, g.2.1, t.2.trans g.2.2.1, g.2.2.2⟩
  · rw [e] at hi ⊢
    have g := gF_rng w2 hb hi
    have t := r2.2.2.2.2.2 _ (idx_lt hb hi)
    rw [if_neg (by omega), if_neg (by omega)]
    exact ⟨g.2.1, g.2.2.2, t.1.trans g.1, t.2.trans g.2.2.1⟩
  · have g1 := (gF_rng w1 ha hi).2.1
    have hi2 : i < 2 ^ gIn G2 := by rw [← e]; exact hi
    have g2 := (gF_rng w2 hb hi2).2.1
    rw [← e] at g2
    rw [xor_m1 (by omega) (by omega), decide_eq_false_iff_not]
    exact ⟨fun h g => g h, fun h => Decidable.byContradiction h⟩
  · exact (by decide : ∀ k : Fin 6, aN (kK (273 + 9 * k.val + 7)) = 4096) ⟨k1, h1⟩
  · exact (by decide : ∀ k : Fin 6, aN (kK (273 + 9 * k.val + 8)) = 4096) ⟨k1, h1⟩
  · exact (by decide : ∀ k : Fin 6, kK (273 + 9 * k.val + 7) = 119) ⟨k2, h2⟩
  · exact (by decide : ∀ k : Fin 6, kK (273 + 9 * k.val + 8) = 119) ⟨k2, h2⟩
  · exact Nat.mul_le_mul p1 p2
  · rw [← Nat.pow_add]; exact pow_le12 (by omega)
  · rw [← Nat.pow_add]; exact pow_le12 (by omega)
theorem L15 {p1 p2 : Int} (h : Inv c S) (hc : c < 64) (h1 : i32 p1) (h2 : i32 p2) : WP (mL_15 S p1 p2) (Inv (c + 1)) := by
  have rx := h.1.x hc
  unfold mL_15 mX0_equal
  by_cases hq1 : isDs S p1
  · have hx1 := designIn_t hq1
    obtain ⟨k1, G1, hk1, rfl, w1, r1, m1⟩ := InvG.get h hq1
    rw [Int.toNat_natCast] at hx1
    by_cases hq2 : isDs S p2
    · have hx2 := designIn_t hq2
      obtain ⟨k2, G2, hk2, rfl, w2, r2, m2⟩ := InvG.get h hq2
      rw [Int.toNat_natCast] at hx2
      have n1 := w1.nums
      have n2 := w2.nums
      have ri1 : gI S (273 + 9 * k1) 4 = gIn G1 := by rw [r1.1.1, w1.i]
      have ri2 : gI S (273 + 9 * k2) 4 = gIn G2 := by rw [r2.1.1, w2.i]
      have ro1 : gI S (273 + 9 * k1) 6 = gOu G1 := by rw [r1.1.2.2.1, w1.o]
      have ro2 : gI S (273 + 9 * k2) 6 = gOu G2 := by rw [r2.1.2.2.1, w2.o]
      have mi1 : gI S 2037 k1 = gIn G1 := by rw [m1.1.1, w1.i]
      have mi2 : gI S 2037 k2 = gIn G2 := by rw [m2.1.1, w2.i]
      have mo1 : gI S 2039 k1 = gOu G1 := by rw [m1.1.2.2.1, w1.o]
      have mo2 : gI S 2039 k2 = gOu G2 := by rw [m2.1.2.2.1, w2.o]
      by_cases q1 : gIn G1 = gIn G2
      · by_cases q2 : gOu G1 = gOu G2
        · have rs1 : gI S (273 + 9 * k1) 5 = gSt G1 := by rw [r1.1.2.1, w1.s]
          have wv1 := w1.st64
          have wv2 := w2.st64
          have wa1 := w1.2.2.2.2.2.2
          have wa2 := w2.2.2.2.2.2.2
          have ip1 := ipow (gSt G1)
          have ip2 := ipow (gSt G2)
          obtain ⟨a0, ha0⟩ : ∃ a0 : Nat, G1 11 0 = (a0 : Int) := ⟨(G1 11 0).toNat, by omega⟩
          obtain ⟨b0, hb0⟩ : ∃ b0 : Nat, G2 11 0 = (b0 : Int) := ⟨(G2 11 0).toNat, by omega⟩
          have ra1 : gI S (273 + 9 * k1) 7 = (a0 : Int) := by rw [r1.1.2.2.2.2.1, ha0]
          have ra2 : gI S (273 + 9 * k2) 7 = (b0 : Int) := by rw [r2.1.2.2.2.2.1, hb0]
          have ma1 : gI S 2040 k1 = (a0 : Int) := by rw [m1.1.2.2.2.2.2.1, ha0]
          have ma2 : gI S 2040 k2 = (b0 : Int) := by rw [m2.1.2.2.2.2.2.1, hb0]
          have h0 : a0 < 2 ^ gSt G1 ∧ b0 < 2 ^ gSt G2 := by omega
          have T := TabOk_eq hk1 hk2 w1 w2 r1 r2 q1
          have qo : (gOu G1 : Int) = (gOu G2 : Int) := by rw [q2]
          have qi : (gIn G1 : Int) = (gIn G2 : Int) := by rw [q1]
          refine L_modS (m1 := fun S1 => mX23_equal S1 _ _) ?_
          simp (disch := omega) only [mX1_equal, hx1, hx2, gI_thr, gz_0, gz_1, true_or, or_true, or_false, false_or, rdI_e, rdZ_e, rdL_e, wrI_e, wrL_e, bX_some, bE_inl, bE_inr, bT_inl, bT_inr, wf_eq, wfL_eq, wfR_eq, gkc_chip, gkc_dsg, gkc_lib, gk_chip, gk_dsg, gk_lib, gth_e rx, inside_0 rx, inside_1, need_0 rx, need_1, now_0 rx, now_1, roomX_0 rx, roomX_1, w32_id, w32_gI, ← Int.not_lt, not_true_eq_false, not_false_eq_true, if_true, if_false, reduceIte, Bool.false_eq_true, Int.toNat_natCast, Int.reduceToNat, Int.toNat_add, Int.toNat_mul, Int.reduceLT, Int.reduceEq, Int.reduceNeg, Nat.reduceAdd, hI_sI, and_self, Nat.reduceEqDiff, true_and, and_true, and_false, false_and, ne_eq, ri1, ri2, ro1, ro2, rs1, ra1, ra2, ← qi, ← qo]
          refine WP_callF (k_go T h0) fr_mX11_go (fun x hx fx => ?_)
          rw [WP_some, WE_inl]
          refine WP.mono (m := mX23_equal (sL x.2 2178 0 (i2l x.1)) (k1 : Int) (k2 : Int)) (P := fun y => y.1 = x.1 ∧ gI y.2 2000 0 = 0 ∧ Fr W_mX23_equal [] false (sL x.2 2178 0 (i2l x.1)) y.2 ∧ ∃ n : Nat, n ≤ 4097 ∧ gI x.2 192 5 = n ∧ gI y.2 2000 95 = n ∧ ∀ j, j < n → gI x.2 197 j = gI y.2 2072 j) ?_ (fun y hy => ?_)
          · generalize hS1 : sL x.2 2178 0 (i2l x.1) = S1
            have eB : ∀ a i, (a < 192 ∨ 197 < a) → gI S1 a i = gI S a i := fun a i z => by
              rw [← hS1]; exact fx.gi (okP_lab (by simp only [W_mX11_go, List.forall_mem_cons, List.not_mem_nil, false_implies, implies_true, and_true]; omega))
            refine WP.mono (WP.pc (R := fun y => Fr W_mX23_equal [] false S1 y.2) (P := fun y => y.1 = x.1 ∧ gI y.2 2000 0 = 0 ∧ ∃ n : Nat, n ≤ 4097 ∧ gI x.2 192 5 = n ∧ gI y.2 2000 95 = n ∧ ∀ j, j < n → gI x.2 197 j = gI y.2 2072 j) ?_ fr_mX23_equal) (fun y hy => ⟨hy.1.1, hy.1.2.1, hy.2, hy.1.2.2⟩)
            simp (disch := omega) only [mX23_equal, m_isDesign_w h (fun i => eB 432 i (by omega)) (fun i => eB 2036 i (by omega)) h1 hq1, m_isDesign_w h (fun i => eB 432 i (by omega)) (fun i => eB 2036 i (by omega)) h2 hq2, gI_thr, gz_0, gz_1, true_or, or_true, or_false, false_or, rdI_e, rdZ_e, rdL_e, wrI_e, wrL_e, bX_some, bE_inl, bE_inr, bT_inl, bT_inr, wf_eq, wfL_eq, wfR_eq, gkc_chip, gkc_dsg, gkc_lib, gk_chip, gk_dsg, gk_lib, gth_e rx, inside_0 rx, inside_1, need_0 rx, need_1, now_0 rx, now_1, roomX_0 rx, roomX_1, w32_id, w32_gI, ← Int.not_lt, not_true_eq_false, not_false_eq_true, if_true, if_false, reduceIte, Bool.false_eq_true, Int.toNat_natCast, Int.reduceToNat, Int.toNat_add, Int.toNat_mul, Int.reduceLT, Int.reduceEq, Int.reduceNeg, Nat.reduceAdd, hI_sI, and_self, Nat.reduceEqDiff, true_and, and_true, and_false, false_and, ne_eq, eB, mi1, mi2, mo1, mo2, ← qi, ← qo]
            have m1' : RefG (sI S1 2000 0 0) k1 G1 := m1.cg w1 (fun a i l1 l2 _ _ => (hI_sI_a (by omega)).trans (eB a i (by omega)))
            have m2' : RefG (sI S1 2000 0 0) k2 G2 := m2.cg w2 (fun a i l1 l2 _ _ => (hI_sI_a (by omega)).trans (eB a i (by omega)))
            have oA : ∀ a i, a ≠ 2073 → a ≠ 2074 → okP W_mX23_layA a i := fun a i z1 z2 => okP_cons (fun e => absurd e.symm z1) (okP_1 z2)
            have oB : ∀ a i, a ≠ 2075 → a ≠ 2076 → okP W_mX23_layB a i := fun a i z1 z2 => okP_cons (fun e => absurd e.symm z1) (okP_1 z2)
            refine WP_callF (m_layA m1' w1 hk1) fr_mX23_layA (fun x9 h9 f9 => ?_)
            have m2'' : RefG x9 k2 G2 := m2'.cg w2 (fun a i l1 l2 _ _ => f9.gi (oA _ _ (by omega) (by omega)))
            refine WP_callF (m_layB m2'' w2 hk2) fr_mX23_layB (fun x10 h10 f10 => ?_)
            have e10 : ∀ a i, a ≠ 2073 → a ≠ 2074 → a ≠ 2075 → a ≠ 2076 → a ≠ 2000 → gI x10 a i = gI S1 a i := fun a i z1 z2 z3 z4 z5 => (f10.gi (oB a i z3 z4)).trans ((f9.gi (oA a i z1 z2)).trans (hI_sI_a z5))
            have u1 : gI x10 2037 k1 = (gIn G1 : Int) := by rw [e10 _ _ (by omega) (by omega) (by omega) (by omega) (by omega), eB _ _ (by omega), mi1]
            have u2 : gI x10 2040 k1 = (a0 : Int) := by rw [e10 _ _ (by omega) (by omega) (by omega) (by omega) (by omega), eB _ _ (by omega), ma1]
            have u3 : gI x10 2040 k2 = (b0 : Int) := by rw [e10 _ _ (by omega) (by omega) (by omega) (by omega) (by omega), eB _ _ (by omega), ma2]
            rw [u1, u2, u3]
            have TM : TabMO x10 (gIn G1) (2 ^ gSt G1) (2 ^ gSt G2) (2 ^ gIn G1) (fun a b i => decide (gF G1 9 (2 ^ gIn G1) a i ≠ gF G2 9 (2 ^ gIn G1) b i)) (gF G1 10 (2 ^ gIn G1)) (gF G2 10 (2 ^ gIn G1)) (fun a i => (gF G1 9 (2 ^ gIn G1) a i : Int)) (fun b i => (gF G2 9 (2 ^ gIn G1) b i : Int)) := by
              refine ⟨fun a i ha hi => ?_, fun b i hb hi => ?_, fun a b i ha hb hi => ?_, rfl, pow_le6 n1.1, pow_le6 n2.1, ?_, ?_, by omega, Nat.one_le_two_pow, Nat.one_le_two_pow⟩
              · have g := gF_rng w1 ha hi
                have t := h9 _ (idx_lt ha hi)
                rw [f10.gi (oB _ _ (by omega) (by omega)), f10.gi (oB _ _ (by omega) (by omega))]
                exact ⟨t.1.trans g.1, t.2.trans g.2.2.1, g.2.2.2⟩
              · have hi2 : i < 2 ^ gIn G2 := by rw [← q1]; exact hi
                have g := gF_rng w2 hb hi2
                have t := h10 _ (idx_lt hb hi2)
                rw [← q1] at g t
                exact ⟨t.1.trans g.1, t.2.trans g.2.2.1, g.2.2.2⟩
              · have g1 := (gF_rng w1 ha hi).2.1
                have hi2 : i < 2 ^ gIn G2 := by rw [← q1]; exact hi
                have g2 := (gF_rng w2 hb hi2).2.1
                rw [← q1] at g2
                dsimp only
                rw [w32_id (by omega), w32_id (by omega), decide_eq_false_iff_not]
                exact ⟨fun h g => g (by omega), fun h => by have := Decidable.byContradiction h; omega⟩
              · rw [← Nat.pow_add]; exact pow_le12 (by omega)
              · rw [← Nat.pow_add]; exact pow_le12 (by omega)
            have hAB : 2 ^ gSt G1 * 2 ^ gSt G2 ≤ 4096 := Nat.mul_le_mul (pow_le6 n1.1) (pow_le6 n2.1)
            refine WP_callF (m_search TM h0 hAB) fr_mX23_search (fun y hy fy => ?_)
            obtain ⟨ev, n, hn, l1, l2, l3, hr⟩ := hx.same (fun a i p q => (T.1 a i p q).2.2.2) (fun b i p q => (T.2.1 b i p q).2.1) h0 hAB hy
            refine WP_some.2 ⟨ev.symm, ?_, n, hn, l1, l2, hr⟩
            rw [fy.gi (okP_of (by decide)), f10.gi (oB _ _ (by omega) (by omega)), f9.gi (oA _ _ (by omega) (by omega)), hI_sI, if_pos ⟨rfl, rfl⟩]; rfl
          · obtain ⟨y1, y2, y3, y4⟩ := hy
            have := cmp_inv h fx y3 (by decide) (by decide) (by decide) (by decide) y4
            exact ⟨y1, y2, this.1, this.2⟩
        · have qo : ¬ (gOu G1 : Int) = (gOu G2 : Int) := by omega
          have qi : (gIn G1 : Int) = (gIn G2 : Int) := by rw [q1]
          refine L_modF (m1 := fun S1 => mX23_equal S1 _ _) 2 2 h hc ?_ rfl (by omega) (fun S1 eS => ?_)
          · simp (disch := omega) only [mX1_equal, hx1, hx2, gI_thr, gz_0, gz_1, true_or, or_true, or_false, false_or, rdI_e, rdZ_e, rdL_e, wrI_e, wrL_e, bX_some, bE_inl, bE_inr, bT_inl, bT_inr, wf_eq, wfL_eq, wfR_eq, gkc_chip, gkc_dsg, gkc_lib, gk_chip, gk_dsg, gk_lib, gth_e rx, inside_0 rx, inside_1, need_0 rx, need_1, now_0 rx, now_1, roomX_0 rx, roomX_1, w32_id, w32_gI, ← Int.not_lt, not_true_eq_false, not_false_eq_true, if_true, if_false, reduceIte, Bool.false_eq_true, Int.toNat_natCast, Int.reduceToNat, Int.toNat_add, Int.toNat_mul, Int.reduceLT, Int.reduceEq, Int.reduceNeg, Nat.reduceAdd, hI_sI, and_self, Nat.reduceEqDiff, true_and, and_true, and_false, false_and, ne_eq, ri1, ri2, ro1, ro2, qi, qo]
          · simp (disch := omega) only [mX23_equal, m_isDesign_t h eS h1 hq1, m_isDesign_t h eS h2 hq2, gI_thr, gz_0, gz_1, true_or, or_true, or_false, false_or, rdI_e, rdZ_e, rdL_e, wrI_e, wrL_e, bX_some, bE_inl, bE_inr, bT_inl, bT_inr, wf_eq, wfL_eq, wfR_eq, gkc_chip, gkc_dsg, gkc_lib, gk_chip, gk_dsg, gk_lib, gth_e rx, inside_0 rx, inside_1, need_0 rx, need_1, now_0 rx, now_1, roomX_0 rx, roomX_1, w32_id, w32_gI, ← Int.not_lt, not_true_eq_false, not_false_eq_true, if_true, if_false, reduceIte, Bool.false_eq_true, Int.toNat_natCast, Int.reduceToNat, Int.toNat_add, Int.toNat_mul, Int.reduceLT, Int.reduceEq, Int.reduceNeg, Nat.reduceAdd, hI_sI, and_self, Nat.reduceEqDiff, true_and, and_true, and_false, false_and, ne_eq, eS, mi1, mi2, mo1, mo2, qi, qo]
      · have qi : ¬ (gIn G1 : Int) = (gIn G2 : Int) := by omega
        refine L_modF (m1 := fun S1 => mX23_equal S1 _ _) 2 2 h hc ?_ rfl (by omega) (fun S1 eS => ?_)
        · simp (disch := omega) only [mX1_equal, hx1, hx2, gI_thr, gz_0, gz_1, true_or, or_true, or_false, false_or, rdI_e, rdZ_e, rdL_e, wrI_e, wrL_e, bX_some, bE_inl, bE_inr, bT_inl, bT_inr, wf_eq, wfL_eq, wfR_eq, gkc_chip, gkc_dsg, gkc_lib, gk_chip, gk_dsg, gk_lib, gth_e rx, inside_0 rx, inside_1, need_0 rx, need_1, now_0 rx, now_1, roomX_0 rx, roomX_1, w32_id, w32_gI, ← Int.not_lt, not_true_eq_false, not_false_eq_true, if_true, if_false, reduceIte, Bool.false_eq_true, Int.toNat_natCast, Int.reduceToNat, Int.toNat_add, Int.toNat_mul, Int.reduceLT, Int.reduceEq, Int.reduceNeg, Nat.reduceAdd, hI_sI, and_self, Nat.reduceEqDiff, true_and, and_true, and_false, false_and, ne_eq, ri1, ri2, ro1, ro2, qi]
        · simp (disch := omega) only [mX23_equal, m_isDesign_t h eS h1 hq1, m_isDesign_t h eS h2 hq2, gI_thr, gz_0, gz_1, true_or, or_true, or_false, false_or, rdI_e, rdZ_e, rdL_e, wrI_e, wrL_e, bX_some, bE_inl, bE_inr, bT_inl, bT_inr, wf_eq, wfL_eq, wfR_eq, gkc_chip, gkc_dsg, gkc_lib, gk_chip, gk_dsg, gk_lib, gth_e rx, inside_0 rx, inside_1, need_0 rx, need_1, now_0 rx, now_1, roomX_0 rx, roomX_1, w32_id, w32_gI, ← Int.not_lt, not_true_eq_false, not_false_eq_true, if_true, if_false, reduceIte, Bool.false_eq_true, Int.toNat_natCast, Int.reduceToNat, Int.toNat_add, Int.toNat_mul, Int.reduceLT, Int.reduceEq, Int.reduceNeg, Nat.reduceAdd, hI_sI, and_self, Nat.reduceEqDiff, true_and, and_true, and_false, false_and, ne_eq, eS, mi1, mi2, mo1, mo2, qi]
    · refine L_modF (m1 := fun S1 => mX23_equal S1 _ _) 1 1 h hc ?_ rfl (by omega) (fun S1 eS => ?_)
      · rw [mX1_equal, hx1, bT_inl, gkc_dsg hk1, designIn_f hq2 rx h2]; rfl
      · unfold mX23_equal; rw [m_isDesign_t h eS h1 hq1, bX_some, m_isDesign_f h eS h2 hq2]; rfl
  · refine L_modF (m1 := fun S1 => mX23_equal S1 _ _) 1 1 h hc ?_ rfl (by omega) (fun S1 eS => ?_)
    · rw [mX1_equal, designIn_f hq1 rx h1]; rfl
    · unfold mX23_equal; rw [m_isDesign_f h eS h1 hq1]; rfl
end EQ
