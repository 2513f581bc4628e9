/-! proves: the call -/
section PROVES
variable {c : Nat} {S : Sto}
def kTF (C : Chp) (N a i : Nat) : Nat := kTold C (a * N + i)
def kMF (C : Chp) (N a i : Nat) : Nat := kMoved C (a * N + i)
theorem kidx_lt {C : Chp} {a i : Nat} (ha : a < 2 ^ kR C) (hi : i < 2 ^ kI C) : a * 2 ^ kI C + i < 2 ^ kB C := by
  have := mul_lt_of ha hi
  unfold kB
  rw [Nat.pow_add, Nat.mul_comm (2 ^ kI C)]
  exact this
theorem kTF_lt {C : Chp} (w : WFC C) {N a i : Nat} : kTF C N a i < 65536 := by
  have hn := w.nums
  have l1 := kTold_lt (C := C) (p := a * N + i)
  have pO : 2 ^ kO C ≤ 65536 := Nat.pow_le_pow_right (n := 2) (by omega) hn.2.2.2.1
  unfold kTF; omega
theorem TabOk_ch {k1 k2 : Nat} {C : Chp} {G2 : Dsg} (h1 : k1 < 4) (h2 : k2 < 6) (w1 : WFC C) (w2 : WFG G2) (r1 : ∀ p, p < 2 ^ kB C → gI S 268 p = ((kTold C p : Nat) : Int) ∧ gI S 269 p = ((kMoved C p : Nat) : Int)) (r2 : RepG S (273 + 9 * k2) G2) (e : kI C = gIn G2) :
    TabOk S (kI C) (kR C) (2 ^ kR C) (2 ^ gSt G2) (2 ^ kI C) 268 269 (273 + 9 * k2 + 7) (273 + 9 * k2 + 8) (-1) (fun a b i => decide (kTF C (2 ^ kI C) a i ≠ gF G2 9 (2 ^ kI C) b i)) (kMF C (2 ^ kI C)) (gF G2 10 (2 ^ kI C)) (kTF C (2 ^ kI C)) (gF G2 9 (2 ^ kI C)) := by
  have n1 := w1.nums
  have n2 := w2.nums
  have p1 := pow_le6 n1.1
  have p2 := pow_le6 n2.1
  refine ⟨fun a i ha hi => ?_, fun b i hb hi => ?_, fun a b i ha hb hi => ?_, ⟨rfl, rfl, fun _ => ?_, fun _ => ?_⟩, ⟨by omega, by omega, by omega, by omega⟩, rfl, rfl, ?_, ?_, ?_, n1.1, by omega, Nat.one_le_two_pow⟩
  · have t := r1 _ (kidx_lt ha hi)
    exact ⟨t.1, kTF_lt w1, t.2, kMoved_lt⟩
  · rw [e] at hi ⊢
    have g := gF_rng w2 hb hi
    have t := r2.2.2.2.2.2 _ (idx_lt hb hi)
    rw [if_neg (by omega), if_neg (by omega)]
    exact ⟨g.2.1, g.2.2.2, t.1.trans g.1, t.2.trans g.2.2.1⟩
  · have g1 := kTF_lt w1 (N := 2 ^ kI C) (a := a) (i := i)
    have hi2 : i < 2 ^ gIn G2 := by rw [← e]; exact hi
    have g2 := (gF_rng w2 hb hi2).2.1
    rw [← e] at g2
    rw [xor_m1 (by omega) (by omega), decide_eq_false_iff_not]
    exact ⟨fun h g => g h, fun h => Decidable.byContradiction h⟩
  · exact (by decide : ∀ k : Fin 6, kK (273 + 9 * k.val + 7) = 119) ⟨k2, h2⟩
  · exact (by decide : ∀ k : Fin 6, kK (273 + 9 * k.val + 8) = 119) ⟨k2, h2⟩
  · exact Nat.mul_le_mul p1 p2
  · rw [← Nat.pow_add]; exact pow_le12 (by omega)
  · rw [← Nat.pow_add]; exact pow_le12 (by omega)
abbrev W25 : List (Nat × Option Nat) := [(264, some 1), (264, some 2), (265, none), (268, none), (269, none), (192, some 5), (196, none), (193, none), (197, none), (194, none), (195, none)]
theorem L25 {p1 p2 : Int} (h : Inv c S) (hc : c < 64) (h1 : i32 p1) (h2 : i32 p2) : WP (mL_25 S p1 p2) (Inv (c + 1)) := by
  have rx := h.1.x hc
  unfold mL_25 mX0_proves
  by_cases hq1 : isCh S p1
  · have hx1 := chipIn_t hq1
    obtain ⟨k1, C, hk1, rfl, w1, r1, m1, wx, rX, mX⟩ := InvC.get h hq1
    rw [Int.toNat_natCast] at hx1
    by_cases hq2 : isDs S p2
    · have hx2 := designIn_t hq2
      obtain ⟨k2, G2, hk2, rfl, w2, r2, m2⟩ := InvG.get h hq2
      rw [Int.toNat_natCast] at hx2
      have n1 := w1.nums
      have n2 := w2.nums
      have ri1 : gI S (344 + 22 * k1) 1 = kI C := by rw [r1.1.1, w1.i]
      have ri2 : gI S (273 + 9 * k2) 4 = gIn G2 := by rw [r2.1.1, w2.i]
      have ro1 : gI S (344 + 22 * k1) 3 = kO C := by rw [r1.1.2.2.1, w1.o]
      have ro2 : gI S (273 + 9 * k2) 6 = gOu G2 := by rw [r2.1.2.2.1, w2.o]
      have mi1 : gI S 2106 k1 = kI C := by rw [m1.1.1, w1.i]
      have mi2 : gI S 2037 k2 = gIn G2 := by rw [m2.1.1, w2.i]
      have mo1 : gI S 2108 k1 = kO C := by rw [m1.1.2.2.1, w1.o]
      have mo2 : gI S 2039 k2 = gOu G2 := by rw [m2.1.2.2.1, w2.o]
      by_cases q1 : kI C = gIn G2
      · by_cases q2 : kO C = gOu G2
        · have rs1 : gI S (344 + 22 * k1) 2 = kR C := by rw [r1.1.2.1, w1.r]
          have wv2 := w2.st64
          have wa1 := w1.2.2.2.2.2
          have wa2 := w2.2.2.2.2.2.2
          have ip1 := ipow (kR C)
          have ip2 := ipow (gSt G2)
          obtain ⟨a0, ha0⟩ : ∃ a0 : Nat, C 13 0 = (a0 : Int) := ⟨(C 13 0).toNat, by omega⟩
          obtain ⟨b0, hb0⟩ : ∃ b0 : Nat, G2 11 0 = (b0 : Int) := ⟨(G2 11 0).toNat, by omega⟩
          have ra1 : gI S (344 + 22 * k1) 4 = (a0 : Int) := by rw [r1.1.2.2.2.2.2.1, ha0]
          have ra2 : gI S (273 + 9 * k2) 7 = (b0 : Int) := by rw [r2.1.2.2.2.2.1, hb0]
          have ma1 : gI S 2109 k1 = (a0 : Int) := by rw [m1.1.2.2.2.2.2.1, ha0]
          have ma2 : gI S 2040 k2 = (b0 : Int) := by rw [m2.1.2.2.2.2.2.1, hb0]
          have h0 : a0 < 2 ^ kR C ∧ b0 < 2 ^ gSt G2 := by omega
          have qo : (kO C : Int) = (gOu G2 : Int) := by rw [q2]
          have qi : (kI C : Int) = (gIn G2 : Int) := by rw [q1]
          refine L_modS (m1 := fun S1 => mX23_proves S1 _ _) ?_
          unfold mX1_proves
          rw [hx1, bT_inl, gkc_chip hk1, hx2, bT_inl, gkc_dsg hk2, ri1, ri2, qi, if_pos rfl, ro1, ro2, qo, if_pos rfl, bX_some, if_pos rfl, bX_some, need_1, bT_inl]
          refine WP_callF (k_tables hk1 r1 w1) fr_mX19_tables (fun x5 h5 f5 => ?_)
          have e5 : ∀ a i, 270 ≤ a → gI x5 a i = gI S a i := fun a i z => f5.gi (okP_lab (by simp only [W_mX19_tables, List.forall_mem_cons, List.not_mem_nil, false_implies, implies_true, and_true]; omega))
          have r2' : RepG x5 (273 + 9 * k2) G2 := r2.cg (fun a i l1 l2 => e5 a i (by omega))
          have T := TabOk_ch hk1 hk2 w1 w2 h5 r2' q1
          rw [e5 _ 1 (by omega), e5 _ 2 (by omega), e5 _ 4 (by omega), e5 _ 7 (by omega), ri1, rs1, ra1, ra2]
          refine WP_callF (k_go T h0) fr_mX11_go (fun x hx fx0 => ?_)
          have fx : Fr W25 [(264, some 0)] false S x.2 := by
            have f5' : Fr W25 [(264, some 0)] false S x5 := (Fr.refl _ _ _ _).tr f5 (by first | decide | (repeat (first | exact sub_nil | refine sub_cons (by simp) ?_))) (by first | decide | (repeat (first | exact sub_nil | refine sub_cons (by simp) ?_))) (fun h => h)
            exact f5'.tr fx0 (by first | decide | (repeat (first | exact sub_nil | refine sub_cons (by simp) ?_))) (by first | decide | (repeat (first | exact sub_nil | refine sub_cons (by simp) ?_))) (fun h => h)
          rw [WP_some, WE_inl]
          refine WP.mono (m := mX23_proves (sL x.2 2178 0 (i2l x.1)) (k1 : Int) (k2 : Int)) (P := fun y => y.1 = x.1 ∧ gI y.2 2000 0 = 0 ∧ Fr W_mX23_proves [] false (sL x.2 2178 0 (i2l x.1)) y.2 ∧ ∃ n : Nat, n ≤ 4097 ∧ gI x.2 192 5 = n ∧ gI y.2 2000 95 = n ∧ ∀ j, j < n → gI x.2 197 j = gI y.2 2072 j) ?_ (fun y hy => ?_)
          · generalize hS1 : sL x.2 2178 0 (i2l x.1) = S1
            have eB : ∀ a i, (a < 192 ∨ 269 < a) → gI S1 a i = gI S a i := fun a i z => by
              rw [← hS1]; exact fx.gi (okP_lab (by simp only [W25, List.forall_mem_cons, List.not_mem_nil, false_implies, implies_true, and_true]; omega))
            refine WP.mono (WP.pc (R := fun y => Fr W_mX23_proves [] false S1 y.2) (P := fun y => y.1 = x.1 ∧ gI y.2 2000 0 = 0 ∧ ∃ n : Nat, n ≤ 4097 ∧ gI x.2 192 5 = n ∧ gI y.2 2000 95 = n ∧ ∀ j, j < n → gI x.2 197 j = gI y.2 2072 j) ?_ fr_mX23_proves) (fun y hy => ⟨hy.1.1, hy.1.2.1, hy.2, hy.1.2.2⟩)
            unfold mX23_proves
            rw [m_isChip_w h (fun i => eB 434 i (by omega)) (fun i => eB 2105 i (by omega)) h1 hq1, bX_some, if_pos (by decide), m_isDesign_w h (fun i => eB 432 i (by omega)) (fun i => eB 2036 i (by omega)) h2 hq2, bX_some, if_neg (by decide), bX_some, if_neg (by decide), rdI_e (by omega), Int.toNat_natCast, eB 2106 _ (by omega), mi1, rdI_e (by omega), Int.toNat_natCast, eB 2037 _ (by omega), mi2, qi, if_pos rfl, rdI_e (by omega), Int.toNat_natCast, eB 2108 _ (by omega), mo1, rdI_e (by omega), Int.toNat_natCast, eB 2039 _ (by omega), mo2, qo, if_neg (fun g => g rfl), bX_some, if_neg (by decide), bX_some, wf_eq, gI_set, if_neg (by decide)]
            have m1' : RefK (sI S1 2000 0 0) k1 C := m1.cg (fun a i l1 l2 => (hI_sI_a (by omega)).trans (eB a i (by omega)))
            have m2' : RefG (sI S1 2000 0 0) k2 G2 := m2.cg w2 (fun a i l1 l2 _ _ => (hI_sI_a (by omega)).trans (eB a i (by omega)))
            have oA : ∀ a i, a ≠ 2121 → a ≠ 2073 → a ≠ 2074 → okP W_mX23_layChip a i := fun a i z0 z1 z2 => okP_cons (fun e => absurd e.symm z0) (okP_cons (fun e => absurd e.symm z1) (okP_1 z2))
            have oB : ∀ a i, a ≠ 2075 → a ≠ 2076 → okP W_mX23_layB a i := fun a i z1 z2 => okP_cons (fun e => absurd e.symm z1) (okP_1 z2)
            refine WP_callF (m_layChip m1' w1 hk1) fr_mX23_layChip (fun x9 h9 f9 => ?_)
            have m2'' : RefG x9 k2 G2 := m2'.cg w2 (fun a i l1 l2 _ _ => f9.gi (oA _ _ (by omega) (by omega) (by omega)))
            refine WP_callF (m_layB m2'' w2 hk2) fr_mX23_layB (fun x10 h10 f10 => ?_)
            have e10 : ∀ a i, a ≠ 2121 → a ≠ 2073 → a ≠ 2074 → a ≠ 2075 → a ≠ 2076 → a ≠ 2000 → gI x10 a i = gI S1 a i := fun a i z0 z1 z2 z3 z4 z5 => (f10.gi (oB a i z3 z4)).trans ((f9.gi (oA a i z0 z1 z2)).trans (hI_sI_a z5))
            have u1 : gI x10 2106 k1 = (kI C : Int) := by rw [e10 _ _ (by omega) (by omega) (by omega) (by omega) (by omega) (by omega), eB _ _ (by omega), mi1]
            have u2 : gI x10 2109 k1 = (a0 : Int) := by rw [e10 _ _ (by omega) (by omega) (by omega) (by omega) (by omega) (by omega), eB _ _ (by omega), ma1]
            have u3 : gI x10 2040 k2 = (b0 : Int) := by rw [e10 _ _ (by omega) (by omega) (by omega) (by omega) (by omega) (by omega), eB _ _ (by omega), ma2]
            rw [rdI_e (by omega), Int.toNat_natCast, u1, rdI_e (by omega), Int.toNat_natCast, u2, rdI_e (by omega), Int.toNat_natCast, u3]
            have TM : TabMO x10 (kI C) (2 ^ kR C) (2 ^ gSt G2) (2 ^ kI C) (fun a b i => decide (kTF C (2 ^ kI C) a i ≠ gF G2 9 (2 ^ kI C) b i)) (kMF C (2 ^ kI C)) (gF G2 10 (2 ^ kI C)) (fun a i => (kTF C (2 ^ kI C) a i : Int)) (fun b i => (gF G2 9 (2 ^ kI C) b i : Int)) := by
              refine ⟨fun a i ha hi => ?_, fun b i hb hi => ?_, fun a b i ha hb hi => ?_, rfl, pow_le6 n1.1, pow_le6 n2.1, ?_, ?_, by omega, Nat.one_le_two_pow, Nat.one_le_two_pow⟩
              · have t := h9 _ (kidx_lt ha hi)
                rw [f10.gi (oB _ _ (by omega) (by omega)), f10.gi (oB _ _ (by omega) (by omega))]
                exact ⟨t.1, t.2, kMoved_lt⟩
              · have hi2 : i < 2 ^ gIn G2 := by rw [← q1]; exact hi
                have g := gF_rng w2 hb hi2
                have t := h10 _ (idx_lt hb hi2)
                rw [← q1] at g t
                exact ⟨t.1.trans g.1, t.2.trans g.2.2.1, g.2.2.2⟩
              · have g1 := kTF_lt w1 (N := 2 ^ kI C) (a := a) (i := i)
                have hi2 : i < 2 ^ gIn G2 := by rw [← q1]; exact hi
                have g2 := (gF_rng w2 hb hi2).2.1
                rw [← q1] at g2
                dsimp only
                rw [w32_id (by omega), w32_id (by omega), decide_eq_false_iff_not]
                exact ⟨fun h g => g (by omega), fun h => by have := Decidable.byContradiction h; omega⟩
              · rw [← Nat.pow_add]; exact pow_le12 (by omega)
              · rw [← Nat.pow_add]; exact pow_le12 (by omega)
            have hAB : 2 ^ kR C * 2 ^ gSt G2 ≤ 4096 := Nat.mul_le_mul (pow_le6 n1.1) (pow_le6 n2.1)
            refine WP_callF (m_search TM h0 hAB) fr_mX23_search (fun y hy fy => ?_)
            obtain ⟨ev, n, hn, l1, l2, l3, hr⟩ := hx.same (fun a i p q => (T.1 a i p q).2.2.2) (fun b i p q => (T.2.1 b i p q).2.1) h0 hAB hy
            refine WP_some.2 ⟨ev.symm, ?_, n, hn, l1, l2, hr⟩
            rw [fy.gi (okP_of (by decide)), f10.gi (oB _ _ (by omega) (by omega)), f9.gi (oA _ _ (by omega) (by omega) (by omega)), hI_sI, if_pos ⟨rfl, rfl⟩]; rfl
          · obtain ⟨y1, y2, y3, y4⟩ := hy
            have := cmp_inv h fx y3 (by decide) (by decide) (by decide) (by decide) y4
            exact ⟨y1, y2, this.1, this.2⟩
        · have qo : ¬ (kO C : Int) = (gOu G2 : Int) := by omega
          have qi : (kI C : Int) = (gIn G2 : Int) := by rw [q1]
          refine L_modF (m1 := fun S1 => mX23_proves S1 _ _) 2 2 h hc ?_ rfl (by omega) (fun S1 eS => ?_)
          · unfold mX1_proves
            rw [hx1, bT_inl, gkc_chip hk1, hx2, bT_inl, gkc_dsg hk2, ri1, ri2, qi, if_pos rfl, ro1, ro2, w32_id (by omega), w32_id (by omega), if_neg qo, bX_some, if_neg (by decide), bX_some, need_0 rx]; rfl
          · unfold mX23_proves
            rw [m_isChip_t h eS h1 hq1, bX_some, if_pos (by decide), m_isDesign_t h eS h2 hq2, bX_some, if_neg (by decide), bX_some, if_neg (by decide), rdI_e (by omega), Int.toNat_natCast, eS, mi1, rdI_e (by omega), Int.toNat_natCast, eS, mi2, qi, if_pos rfl, rdI_e (by omega), Int.toNat_natCast, eS, mo1, rdI_e (by omega), Int.toNat_natCast, eS, mo2, w32_id (by omega), w32_id (by omega), if_pos qo, bX_some, if_pos rfl, bX_some, wf_eq, gI_set, if_pos (by decide)]
      · have qi : ¬ (kI C : Int) = (gIn G2 : Int) := by omega
        refine L_modF (m1 := fun S1 => mX23_proves S1 _ _) 2 2 h hc ?_ rfl (by omega) (fun S1 eS => ?_)
        · unfold mX1_proves
          rw [hx1, bT_inl, gkc_chip hk1, hx2, bT_inl, gkc_dsg hk2, ri1, ri2, w32_id (by omega), w32_id (by omega), if_neg qi, bX_some, if_neg (by decide), bX_some, need_0 rx]; rfl
        · unfold mX23_proves
          rw [m_isChip_t h eS h1 hq1, bX_some, if_pos (by decide), m_isDesign_t h eS h2 hq2, bX_some, if_neg (by decide), bX_some, if_neg (by decide), rdI_e (by omega), Int.toNat_natCast, eS, mi1, rdI_e (by omega), Int.toNat_natCast, eS, mi2, w32_id (by omega), w32_id (by omega), if_neg qi, bX_some, if_pos rfl, bX_some, wf_eq, gI_set, if_pos (by decide)]
    · refine L_modF (m1 := fun S1 => mX23_proves S1 _ _) 1 1 h hc ?_ rfl (by omega) (fun S1 eS => ?_)
      · rw [mX1_proves, hx1, bT_inl, gkc_chip hk1, designIn_f hq2 rx h2]; rfl
      · unfold mX23_proves; rw [m_isChip_t h eS h1 hq1, bX_some, m_isDesign_f h eS h2 hq2]; rfl
  · refine L_modF (m1 := fun S1 => mX23_proves S1 _ _) 1 1 h hc ?_ rfl (by omega) (fun S1 eS => ?_)
    · rw [mX1_proves, chipIn_f hq1 rx h1]; rfl
    · unfold mX23_proves; rw [m_isChip_f h eS h1 hq1]; rfl
end PROVES
