/-! add: the call -/
theorem m_okA' {τ : Type} {p2 p3 p4 p5 p6 : Int} {K : Bool → Option τ} (h2 : -2147483648 ≤ p2 ∧ p2 < 2147483648) (h3 : -2147483648 ≤ p3 ∧ p3 < 2147483648) (h4 : -2147483648 ≤ p4 ∧ p4 < 2147483648) (h5 : -2147483648 ≤ p5 ∧ p5 < 2147483648) (h6 : -2147483648 ≤ p6 ∧ p6 < 2147483648) [Decidable (okA p2 p3 p4 p5 p6)] :
    (bX (mX23_within p2 0 2) fun x2 => bX (if ¬ w32 x2 = 0 then bX (mX23_isSpan p3 p5) fun x3 => if ¬ w32 x3 = 0 then bX (mX23_isSpan p4 p6) fun x4 => if w32 x4 = 0 then some true else some false else some true else some true) K) = K (!decide (okA p2 p3 p4 p5 p6)) := by
  have h := m_okA h2 h3 h4 h5 h6
  rw [m_within h2 (by omega) (by omega), bX_some] at h ⊢
  rw [h, bX_some]
section ADD
variable {c : Nat} {S : Sto}
theorem L36 {p1 p2 p3 p4 p5 p6 : Int} (h : Inv c S) (hc : c < 64) (h1 : i32 p1) (h2 : i32 p2) (h3 : i32 p3) (h4 : i32 p4) (h5 : i32 p5) (h6 : i32 p6) : WP (mL_36 S p1 p2 p3 p4 p5 p6) (Inv (c + 1)) := by
  have rx := h.1.x hc
  unfold mL_36 mX0_add
  by_cases hq : isCh S p1
  · have hx := chipIn_t hq; obtain ⟨k, C, hk, rfl, w, r, m, wx, rX, mX⟩ := InvC.get h hq; rw [Int.toNat_natCast] at hx; have hn := w.nums; have eg := r.1.2.2.2.1; have em := m.1.2.2.2.1; rw [w.g] at eg em; have ei := r.1.1; have mi := m.1.1; rw [w.i] at ei mi; have er := r.1.2.1; have mr := m.1.2.1; rw [w.r] at er mr; have eo := r.1.2.2.1; have mo := m.1.2.2.1; rw [w.o] at eo mo; have el := r.1.2.2.2.2.1; have ml := m.1.2.2.2.2.1; rw [w.l] at el ml
    unfold i32 at h2 h3 h4 h5 h6
    have e23 := rX.2.2.1.1
    have f23 := mX.2.2.1.1
    have g23 := mX.2.2.1.2.1
    have wB := wx.2.2.1
    have wb := wB.1
    have hd : Decidable (okA p2 p3 p4 p5 p6) := by unfold okA; infer_instance
    have t1 : ¬ w32 1 = 0 := by decide
    by_cases g : okA p2 p3 p4 p5 p6
    · have dg : (!decide (okA p2 p3 p4 p5 p6)) = false := by rw [decide_eq_true g]; rfl
      by_cases q2 : C 23 0 = -1
      · rw [q2] at e23
        rw [if_pos q2] at f23
        refine L_modF (m1 := fun S1 => mX23_add S1 _ _ _ _ _ _) 3 3 h hc ?_ rfl (by omega) (fun S1 eS => ?_)
        · unfold mX1_add; rw [hx, bT_inl, gkc_chip hk, k_okA h2 h3 h4 h5 h6, bX_some, if_pos g, need_1, bT_inl, e23, if_neg (show ¬ ¬ w32 (-1) = -1 from fun z => z rfl), now_0 rx]; rfl
        · unfold mX23_add; rw [m_isChip_t h eS h1 hq, bX_some, if_neg t1, m_okA' h2 h3 h4 h5 h6, dg, if_neg (by decide), rdZ_e (by omega), Int.toNat_natCast, eS, f23, bz_0, if_pos w32_0, bX_some, wf_eq, gI_set, if_pos (by decide)]
      rw [if_neg q2] at f23
      have g23 := g23 q2
      have hkb : (kBx C : Int) = C 23 0 := by unfold kBx; omega
      have hb2 : kBx C ≤ 2000 := by omega
      rw [← hkb] at e23 g23
      have n1 : ¬ w32 ((kBx C : Nat) : Int) = -1 := by rw [w32_id (by omega)]; omega
      by_cases q3 : C 23 0 = 2000
      · have n2 : ¬ w32 ((kBx C : Nat) : Int) < 2000 := by rw [w32_id (by omega)]; omega
        have n3 : w32 ((kBx C : Nat) : Int) = 2000 := by rw [w32_id (by omega)]; omega
        refine L_modF (m1 := fun S1 => mX23_add S1 _ _ _ _ _ _) 4 4 h hc ?_ rfl (by omega) (fun S1 eS => ?_)
        · unfold mX1_add; rw [hx, bT_inl, gkc_chip hk, k_okA h2 h3 h4 h5 h6, bX_some, if_pos g, need_1, bT_inl, e23, if_pos n1, now_1, bT_inl, if_neg n2, roomX_0 rx]; rfl
        · unfold mX23_add; rw [m_isChip_t h eS h1 hq, bX_some, if_neg t1, m_okA' h2 h3 h4 h5 h6, dg, if_neg (by decide), rdZ_e (by omega), Int.toNat_natCast, eS, f23, bz_1, if_neg t1, rdI_e (by omega), Int.toNat_natCast, eS, g23, if_pos n3, bX_some, wf_eq, gI_set, if_pos (by decide)]
      · have n2 : w32 ((kBx C : Nat) : Int) < 2000 := by rw [w32_id (by omega)]; omega
        have n3 : ¬ w32 ((kBx C : Nat) : Int) = 2000 := by rw [w32_id (by omega)]; omega
        have g' := g
        unfold okA at g'
        obtain ⟨n, hn0⟩ : ∃ n, kBx C = n := ⟨_, rfl⟩
        rw [hn0] at e23 g23 n1 n2 n3 hkb hb2
        have x0 : (5 * (n : Int)).toNat = 5 * n := by omega
        have x1 : (5 * (n : Int) + 1).toNat = 5 * n + 1 := by omega
        have x2 : (5 * (n : Int) + 2).toNat = 5 * n + 2 := by omega
        have x3 : (5 * (n : Int) + 3).toNat = 5 * n + 3 := by omega
        have x4 : (5 * (n : Int) + 4).toNat = 5 * n + 4 := by omega
        have ca : mX1_add S (k : Int) p2 p3 p4 p5 p6 = some (.inl ((n : Int), sI (five S (344 + 22 * k + 15) (5 * n) p2 p3 p4 p5 p6) (344 + 22 * k) 20 ((n : Int) + 1))) := by
          have f20 : gI (five S (344 + 22 * k + 15) (5 * n) p2 p3 p4 p5 p6) (344 + 22 * k) 20 = (n : Int) := by rw [five_a (by omega)]; exact e23
          unfold mX1_add
          rw [hx, bT_inl, gkc_chip hk, k_okA h2 h3 h4 h5 h6, bX_some, if_pos g, need_1, bT_inl, e23, if_pos n1, now_1, bT_inl, if_pos n2, roomX_1, bT_inl, w16_id (by omega), w16_id (by omega), w16_id (by omega), w16_id (by omega), w16_id (by omega), wrI_e (by omega), wrI_e (by omega), wrI_e (by omega), wrI_e (by omega), wrI_e (by omega), x0, x1, x2, x3, x4, wf_eq]
          show some (Sum.inl (gI (five S (344 + 22 * k + 15) (5 * n) p2 p3 p4 p5 p6) (344 + 22 * k) 20, sI (five S (344 + 22 * k + 15) (5 * n) p2 p3 p4 p5 p6) (344 + 22 * k) 20 (gI (five S (344 + 22 * k + 15) (5 * n) p2 p3 p4 p5 p6) (344 + 22 * k) 20 + 1))) = _
          rw [f20]
        refine L_modS (m1 := fun S1 => mX23_add S1 _ _ _ _ _ _) ?_
        rw [ca, WP_some, WE_inl]
        obtain ⟨X, hX⟩ : ∃ X, sI (five S (344 + 22 * k + 15) (5 * n) p2 p3 p4 p5 p6) (344 + 22 * k) 20 ((n : Int) + 1) = X := ⟨_, rfl⟩
        rw [hX]
        have fin : ∀ u : Int64, WP (mX23_add (sL X 2178 0 u) (k : Int) p2 p3 p4 p5 p6) (fun y => y.1 = (n : Int) ∧ gI y.2 2000 0 = 0 ∧ gL y.2 2178 0 = u ∧ Inv (c + 1) y.2) := by
          intro u
          obtain ⟨S1, hS1⟩ : ∃ S1, sL X 2178 0 u = S1 := ⟨_, rfl⟩
          have e1z : ∀ a i, gI S1 a i = gI X a i := fun a i => by rw [← hS1]; rfl
          have eN : ∀ a i, a ≠ 344 + 22 * k + 15 → ¬ (a = 344 + 22 * k ∧ i = 20) → gI S1 a i = gI S a i := fun a i g1 g2 => by rw [e1z, ← hX, hI_sI, if_neg g2, five_a (by omega)]
          rw [hS1]
          have y0 : (5 * (2000 * (k : Int) + (n : Int))).toNat = 10000 * k + 5 * n := by omega
          have y1 : (5 * (2000 * (k : Int) + (n : Int)) + 1).toNat = 10000 * k + 5 * n + 1 := by omega
          have y2 : (5 * (2000 * (k : Int) + (n : Int)) + 2).toNat = 10000 * k + 5 * n + 2 := by omega
          have y3 : (5 * (2000 * (k : Int) + (n : Int)) + 3).toNat = 10000 * k + 5 * n + 3 := by omega
          have y4 : (5 * (2000 * (k : Int) + (n : Int)) + 4).toNat = 10000 * k + 5 * n + 4 := by omega
          have nn : ((n : Int) + 1 - 1) = (n : Int) := by omega
          have mb : mX23_add S1 (k : Int) p2 p3 p4 p5 p6 = some ((n : Int), sI (sI (five (sI (sI (sI (sI S1 2000 0 0) 2000 177 (k : Int)) 2000 189 0) 2000 188 (n : Int)) 2148 (10000 * k + 5 * n) p2 p3 p4 p5 p6) 2000 188 ((n : Int) + 1)) 2147 k ((n : Int) + 1)) := by
            unfold mX23_add
            rw [m_isChip_w h (fun i => eN 434 i (by omega) (by omega)) (fun i => eN 2105 i (by omega) (by omega)) h1 hq, bX_some, if_neg t1, m_okA' h2 h3 h4 h5 h6, dg, if_neg (by decide), rdZ_e (by omega), Int.toNat_natCast, eN _ _ (by omega) (by omega), f23, bz_1, if_neg t1, rdI_e (by omega), Int.toNat_natCast, eN _ _ (by omega) (by omega), g23, if_neg n3, bX_some, wf_eq, gI_set, if_neg (by decide)]
            rw [wf_eq, wf_eq, rdI_e (by omega), Int.toNat_natCast, hI_sI_a (by omega), hI_sI_a (by omega), hI_sI_a (by omega), eN _ _ (by omega) (by omega), g23, wf_eq, m_lay (k := k) (n := n) (by rw [hI_sI_i (by omega), gI_set]; rfl) (by rw [hI_sI_i (by omega), hI_sI_i (by omega), gI_set, w32_id (by omega)]) (by rw [gI_set, w32_id (by omega)]) hk (by omega), bX_some, gI_set, w32_id (by omega), wrI_e (by omega), Int.toNat_natCast, hI_sI_a (by omega), gI_set, w32_id (by omega), nn]
          rw [mb]
          refine WP_some.2 ⟨rfl, ?_, ?_, ?_⟩
          · show gI (sI (sI (five _ 2148 _ p2 p3 p4 p5 p6) 2000 188 _) 2147 k _) 2000 0 = 0
            rw [hI_sI_a (by omega), hI_sI_i (by omega), five_a (by omega), hI_sI_i (by omega), hI_sI_i (by omega), hI_sI_i (by omega), gI_set]; rfl
          · show gL S1 2178 0 = u
            rw [← hS1, gL_sL, if_pos ⟨rfl, rfl⟩]
          · obtain ⟨y, hY⟩ : ∃ y, sI (sI (five (sI (sI (sI (sI S1 2000 0 0) 2000 177 (k : Int)) 2000 189 0) 2000 188 (n : Int)) 2148 (10000 * k + 5 * n) p2 p3 p4 p5 p6) 2000 188 ((n : Int) + 1)) 2147 k ((n : Int) + 1) = y := ⟨_, rfl⟩
            show Inv (c + 1) (sI (sI (five (sI (sI (sI (sI S1 2000 0 0) 2000 177 (k : Int)) 2000 189 0) 2000 188 (n : Int)) 2148 (10000 * k + 5 * n) p2 p3 p4 p5 p6) 2000 188 ((n : Int) + 1)) 2147 k ((n : Int) + 1))
            rw [hY]
            have yo : ∀ a i, ¬ (a = 2000 ∧ (i = 0 ∨ i = 177 ∨ i = 188 ∨ i = 189)) → ¬ (a = 2147 ∧ i = k) → ¬ (a = 2148 ∧ 10000 * k + 5 * n ≤ i ∧ i < 10000 * k + 5 * n + 5) → gI y a i = gI S1 a i := fun a i g1 g2 g3 => by
              rw [← hY, hI_sI, if_neg g2, hI_sI, if_neg (by omega), five_a g3, hI_sI, if_neg (by omega), hI_sI, if_neg (by omega), hI_sI, if_neg (by omega), hI_sI, if_neg (by omega)]
            have kw : ∀ a i, kept a i = true → ¬ (a = 2000 ∧ (i = 0 ∨ i = 177 ∨ i = 188 ∨ i = 189)) := by
              intro a i q z
              obtain ⟨rfl, z⟩ := z
              rcases z with rfl | rfl | rfl | rfl <;> exact absurd q (by decide)
            have gk : ∀ a i, kept a i = true → ¬ (a = 2147 ∧ i = k) → ¬ (a = 2148 ∧ 10000 * k ≤ i ∧ i < 10000 * k + 10000) → a ≠ 344 + 22 * k + 15 → ¬ (a = 344 + 22 * k ∧ i = 20) → gI y a i = gI S a i := fun a i g1 g2 g3 g4 g5 => by
              rw [yo a i (kw a i g1) g2 (by omega)]; exact eN a i g4 g5
            have gLL : ∀ a i, a ≠ 2178 → gL y a i = gL S a i := fun a i q => by
              rw [← hY]; show gL S1 a i = _
              rw [← hS1, gL_sL, if_neg (fun g => q g.1), ← hX]; rfl
            refine h.putC hk (fun a i q g1 g2 g3 => gk a i q (fun g => g2 ?_) (fun g => g2 ?_) (by omega) (by omega)) (fun a i q g1 g2 => gLL a i (by omega)) ?_ ?_ ?_
            · obtain ⟨rfl, rfl⟩ := g; exact ownC_1 (by omega)
            · obtain ⟨rfl, g4, g5⟩ := g; exact ⟨by omega, show 10000 * k ≤ _ by omega, show _ < 10000 * k + 10000 by omega⟩
            · rw [← hY, ← hS1, ← hX]; exact Nat.le_add_right _ _
            · rw [← hY, ← hS1, ← hX]; exact Nat.le_add_right _ _
            · have hg := h.2.2.2.2.2.2 k hk
              have e434 : gI y 434 k = gI S 434 k := gk _ _ (kept_rng (by omega)) (by omega) (by omega) (by omega) (by omega)
              unfold InvC at hg ⊢
              refine ⟨by rw [e434]; exact hg.1, by rw [e434, gk 2105 k (kept_rng (by omega)) (by omega) (by omega) (by omega) (by omega)]; exact hg.2.1, fun _ => ⟨adC C (adV p2 p3 p4 p5 p6), ?_⟩⟩
              have l12 : ∀ f i, f ≤ 12 → adC C (adV p2 p3 p4 p5 p6) f i = C f i := fun f i q => adC_o (by omega) (by omega)
              have l14 : ∀ f i, f ≤ 14 → adC C (adV p2 p3 p4 p5 p6) f i = C f i := fun f i q => adC_o (by omega) (by omega)
              have lt' : ∀ f i, 28 ≤ f → f ≤ 30 → adC C (adV p2 p3 p4 p5 p6) f i = C f i := fun f i q q' => adC_o (by omega) (by omega)
              have lf' : ∀ f i, 25 ≤ f → f ≤ 27 → adC C (adV p2 p3 p4 p5 p6) f i = C f i := fun f i q q' => adC_o (by omega) (by omega)
              have cl : ∀ a i, 344 + 22 * k ≤ a → a ≤ 344 + 22 * k + 21 → a ≠ 344 + 22 * k + 15 → ¬ (a = 344 + 22 * k ∧ i = 20) → gI y a i = gI S a i := fun a i l1 l2 l3 l4 => gk a i (kept_rng (by omega)) (by omega) (by omega) l3 l4
              have r' : RepK y (344 + 22 * k) C := by
                obtain ⟨t1, t2, t3, t4, t5, t6⟩ := r
                refine ⟨?_, fun g hg => ?_, fun g hg => ?_, fun g hg => ?_, fun g hg => ?_, fun g hg => ?_⟩
                · simp (disch := omega) only [cl]; exact t1
                · rw [cl _ _ (by omega) (by omega) (by omega) (by omega)]; exact t2 g hg
                · rw [cl _ _ (by omega) (by omega) (by omega) (by omega)]; exact t3 g hg
                · rw [cl _ _ (by omega) (by omega) (by omega) (by omega)]; exact t4 g hg
                · rw [cl _ _ (by omega) (by omega) (by omega) (by omega)]; exact t5 g hg
                · simp (disch := omega) only [cl]; exact t6 g hg
              have m' : RefK y k C := m.cg' w (fun a i l q => gk a i (ownC_kept l) (by omega) (by omega) (by have := l.1; omega) (by have := l.1; omega))
              have gg : ∀ a i, 2105 ≤ a → a ≤ 2177 → a ≠ 2147 → a ≠ 2148 → ((2122 ≤ a ∧ a ≤ 2125) ∨ (2134 ≤ a ∧ a ≤ 2139) ∨ (2155 ≤ a ∧ a ≤ 2157) ∨ (2172 ≤ a ∧ a ≤ 2175) ∨ a = 2177 ∨ a = 2146) → gI y a i = gI S a i := fun a i l1 l2 l3 l4 l5 => gk a i (kept_rng (by omega)) (by omega) (by omega) (by omega) (by omega)
              obtain ⟨xP, xW, xB, xF, xT⟩ := wx
              obtain ⟨rP, rW, rB, rF, rT⟩ := rX
              obtain ⟨mP, mW, mB, mF, mT⟩ := mX
              have n23 : adC C (adV p2 p3 p4 p5 p6) 23 0 = C 23 0 + 1 := rfl
              have nk : kBx (adC C (adV p2 p3 p4 p5 p6)) = n + 1 := by rw [← hn0]; unfold kBx; rw [n23]; omega
              refine ⟨⟨w.fc l14, r'.fc l14, m'.fc l14⟩, ⟨xP, xW, WFB_adC xB q2 (by omega) g, xF, xT.fc l12 lt'⟩, ⟨?_, ?_, ?_, ?_, ?_⟩, ⟨?_, ?_, ?_, ?_, ?_⟩⟩
              · have : RepP y (344 + 22 * k) C := by unfold RepP at rP ⊢; simp (disch := omega) only [cl]; exact rP
                exact this
              · have : RepW y (344 + 22 * k) C := by unfold RepW at rW ⊢; simp (disch := omega) only [cl]; exact rW
                exact this
              · refine ⟨?_, fun i hi => ?_⟩
                · rw [n23, yo _ _ (by omega) (by omega) (by omega), e1z, ← hX, gI_set, w32_id (by omega)]; omega
                · rw [nk] at hi
                  rw [yo _ _ (by omega) (by omega) (by omega), e1z, ← hX, hI_sI_a (by omega), adC_24, hn0]
                  by_cases q : i < 5 * n
                  · rw [if_pos q, five_a (by omega)]; exact rB.2 i (by omega)
                  · rw [if_neg q]
                    have z : i = 5 * n + (i - 5 * n) := by omega
                    have := five_e (S := S) (T := 344 + 22 * k + 15) (b := 5 * n) (j := i - 5 * n) g (by omega)
                    rwa [← z] at this
              · have : RepF y (344 + 22 * k) C := by unfold RepF at rF ⊢; simp (disch := omega) only [cl]; exact rF
                exact this.fc lf'
              · have gl21 : ∀ i, gL y (344 + 22 * k + 21) i = gL S (344 + 22 * k + 21) i := fun i => gLL _ _ (by omega)
                have : RepT y (344 + 22 * k) C := by unfold RepT at rT ⊢; simp (disch := omega) only [cl, gl21]; exact rT
                exact this.fc l12 lt'
              · have : RefP y k C := by unfold RefP at mP ⊢; simp (disch := omega) only [gg]; exact mP
                exact this
              · have : RefW y k C := by unfold RefW at mW ⊢; simp (disch := omega) only [gg]; exact mW
                exact this
              · refine ⟨?_, fun _ => ?_, fun i hi => ?_⟩
                · rw [n23, if_neg (by omega), gg _ _ (by omega) (by omega) (by omega) (by omega) (by omega)]; exact f23
                · rw [n23, ← hY, gI_set, w32_id (by omega)]; omega
                · rw [nk] at hi
                  rw [adC_24, hn0]
                  by_cases q : i < 5 * n
                  · rw [if_pos q, yo _ _ (by omega) (by omega) (by omega), eN _ _ (by omega) (by omega)]; exact mB.2.2 i (by omega)
                  · rw [if_neg q, ← hY, hI_sI_a (by omega), hI_sI_a (by omega)]
                    have z : 10000 * k + i = 10000 * k + 5 * n + (i - 5 * n) := by omega
                    rw [z]
                    exact five_e g (by omega)
              · have : RefF y k C := by unfold RefF at mF ⊢; simp (disch := omega) only [gg]; exact mF
                exact this.fc lf'
              · have gl75 : ∀ i, gL y 2175 i = gL S 2175 i := fun i => gLL _ _ (by omega)
                have : RefT y k C := by unfold RefT at mT ⊢; simp (disch := omega) only [gg, gl75]; exact mT
                exact this.fc l12 lt'
        exact fin _
    · have dg : (!decide (okA p2 p3 p4 p5 p6)) = true := by rw [decide_eq_false g]; rfl
      refine L_modF (m1 := fun S1 => mX23_add S1 _ _ _ _ _ _) 2 2 h hc ?_ rfl (by omega) (fun S1 eS => ?_)
      · unfold mX1_add; rw [hx, bT_inl, gkc_chip hk, k_okA h2 h3 h4 h5 h6, bX_some, if_neg g, need_0 rx]; rfl
      · unfold mX23_add; rw [m_isChip_t h eS h1 hq, bX_some, if_neg t1, m_okA' h2 h3 h4 h5 h6, dg, if_pos rfl, bX_some, wf_eq, gI_set, if_pos (by decide)]
  · refine L_modF (m1 := fun S1 => mX23_add S1 _ _ _ _ _ _) 1 1 h hc ?_ rfl (by omega) (fun S1 eS => ?_)
    · rw [mX1_add, chipIn_f hq rx h1]; rfl
    · unfold mX23_add; rw [m_isChip_f h eS h1 hq]; rfl
end ADD
