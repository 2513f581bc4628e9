/-! route: the call -/
def rtCh (C R : Chp) : Chp := fun f i => if f = 19 then 1 else if f = 23 then -1 else if f = 20 ∨ f = 21 ∨ f = 22 ∨ f = 31 ∨ f = 32 then R f i else C f i
theorem rtCh_o {C R : Chp} {f i : Nat} (h : f ≠ 19 ∧ f ≠ 20 ∧ f ≠ 21 ∧ f ≠ 22 ∧ f ≠ 23 ∧ f ≠ 31 ∧ f ≠ 32) : rtCh C R f i = C f i := by
  unfold rtCh; rw [if_neg (by omega), if_neg (by omega), if_neg (by omega)]
section ROUTE
variable {c : Nat} {S : Sto}
theorem L31 {p1 p2 : Int} (h : Inv c S) (hc : c < 64) (h1 : i32 p1) (h2 : i32 p2) : WP (mL_31 S p1 p2) (Inv (c + 1)) := by
  have rx := h.1.x hc
  unfold mL_31 mX0_route
  by_cases hq : isCh S p1
  · have hx := chipIn_t hq; obtain ⟨k, C, hk, rfl, w, r, m, wx, rX, mX⟩ := InvC.get h hq; rw [Int.toNat_natCast] at hx; have hn := w.nums; have eg := r.1.2.2.2.1; have em := m.1.2.2.2.1; rw [w.g] at eg em; have ei := r.1.1; have mi := m.1.1; rw [w.i] at ei mi; have er := r.1.2.1; have mr := m.1.2.1; rw [w.r] at er mr; have eo := r.1.2.2.1; have mo := m.1.2.2.1; rw [w.o] at eo mo; have el := r.1.2.2.2.2.1; have ml := m.1.2.2.2.2.1; rw [w.l] at el ml
    unfold i32 at h2
    have hp := k_hasPlaces rX.1 wx.1
    have e16 := mX.1.1.1
    by_cases q1 : 0 ≤ p2 ∧ p2 ≤ 12
    · by_cases q2 : C 16 0 = 0
      · rw [if_pos q2] at hp
        rw [q2] at e16
        refine L_modF (m1 := fun S1 => mX23_route S1 _ _) 3 3 h hc ?_ rfl (by omega) (fun S1 eS => ?_)
        · unfold mX1_route
          rw [hx, bT_inl, gkc_chip hk, w32_id h2, if_pos q1.1, if_pos q1.2, bX_some, if_pos rfl, bX_some, need_1, bT_inl, hp, bX_some, now_0 rx]; rfl
        · unfold mX23_route
          rw [m_isChip_t h eS h1 hq, bX_some, if_neg (by decide), m_within_t h2 (by omega) (by omega) q1, bX_some, if_neg (by decide), rdI_e (by omega), Int.toNat_natCast, eS, e16, if_pos (by decide), bX_some, wf_eq, gI_set, if_pos (by decide)]
      · rw [if_neg q2] at hp
        obtain ⟨n, rfl⟩ : ∃ n : Nat, p2 = (n : Int) := ⟨p2.toNat, by omega⟩
        have g := GSz_of w wx.1 q2
        have g5 := g.2.2.2.2.1
        have g7 := g.2.2.2.2.2.2.1
        have cls := (k_route r rX.1 hk w wx.1 q2 (u := n) (by omega)).pc fr_mX15_route
        refine L_modS (m1 := fun S1 => mX23_route S1 _ _) ?_
        unfold mX1_route
        rw [hx, bT_inl, gkc_chip hk, w32_id h2, if_pos q1.1, if_pos q1.2, bX_some, if_pos rfl, bX_some, need_1, bT_inl, hp, bX_some, now_1, bT_inl]
        refine WP_call cls (fun x hx' => WP_some.2 ?_)
        obtain ⟨⟨x1, x2, x3, x4, x5, x6, x7⟩, xf, _⟩ := hx'
        show WP (mX23_route (sL x.2 2178 0 (i2l x.1)) (k : Int) (n : Int)) _
        obtain ⟨S1, hS1⟩ : ∃ S1, sL x.2 2178 0 (i2l x.1) = S1 := ⟨_, rfl⟩
        rw [hS1]
        have okx : ∀ a i, (a < 219 ∨ 239 < a) → a ≠ 344 + 22 * k + 12 → a ≠ 344 + 22 * k + 13 → a ≠ 344 + 22 * k + 14 → ¬ (a = 344 + 22 * k ∧ (i = 16 ∨ i = 20)) → okP (W_mX15_route (344 + 22 * k)) a i := fun a i q0 n1 n2 n3 n4 => by
          intro z hz e
          simp only [List.mem_cons, List.not_mem_nil, or_false] at hz
          rcases hz with rfl | rfl | rfl | rfl | rfl | rfl | rfl | rfl | rfl | rfl | rfl | rfl | rfl | rfl | rfl | rfl | rfl | rfl | rfl | rfl | rfl | rfl | rfl | rfl | rfl | rfl | rfl <;> dsimp only at e
          all_goals first
            | (exfalso; omega)
            | exact ⟨(fun g => nomatch g), fun g => by have := Option.some.inj g; omega⟩
        have eC : ∀ a i, (a < 219 ∨ 239 < a) → a ≠ 344 + 22 * k + 12 → a ≠ 344 + 22 * k + 13 → a ≠ 344 + 22 * k + 14 → ¬ (a = 344 + 22 * k ∧ (i = 16 ∨ i = 20)) → gI S1 a i = gI S a i := fun a i q0 n1 n2 n3 n4 => by
          rw [← hS1]; exact xf.gi (okx a i q0 n1 n2 n3 n4)
        have eCL : ∀ a i, (a < 219 ∨ 239 < a) → a ≠ 344 + 22 * k + 12 → a ≠ 344 + 22 * k + 13 → a ≠ 344 + 22 * k + 14 → a ≠ 344 + 22 * k → a ≠ 2178 → gL S1 a i = gL S a i := fun a i q0 n1 n2 n3 n4 n5 => by
          rw [← hS1, gL_sLn (.inl n5)]; exact xf.gl (okx a i q0 n1 n2 n3 (fun g => n4 g.1))
        have mXs : RefP S1 k C := mX.1.cg (fun a i l1 l2 => eC a i (by omega) (by omega) (by omega) (by omega) (by omega))
        have ms : RefK S1 k C := m.cg (fun a i l1 l2 => eC a i (by omega) (by omega) (by omega) (by omega) (by omega))
        refine WP.mono (WP.pc (m_route (m_isChip_w h (fun i => eC _ _ (by omega) (by omega) (by omega) (by omega) (by omega)) (fun i => eC _ _ (by omega) (by omega) (by omega) (by omega) (by omega)) h1 hq) ms mXs hk w wx q2 (u := n) (by omega) x4 x5) fr_mX23_route) (fun y hy => ?_)
        obtain ⟨⟨y1, y2, y3, y4, y5, y6⟩, yf⟩ := hy
        have okL : ∀ a i, a ≠ 2000 → ¬ (2126 ≤ a ∧ a ≤ 2146) → okP W_mX23_route a i := fun a i n1 n2 => by
          intro z hz e
          simp only [List.mem_cons, List.not_mem_nil, or_false] at hz
          rcases hz with rfl | rfl | rfl | rfl | rfl | rfl | rfl | rfl | rfl | rfl | rfl | rfl | rfl | rfl | rfl | rfl | rfl | rfl | rfl | rfl | rfl | rfl | rfl | rfl | rfl | rfl | rfl | rfl <;> dsimp only at e
          all_goals (exfalso; omega)
        have yL : ∀ a i, (a = 365 ∨ a = 387 ∨ a = 409 ∨ a = 431) ∨ a = 2175 → gL y.2 a i = gL S a i := fun a i q => (yf.gl (okL a i (by omega) (by omega))).trans (eCL a i (by omega) (by omega) (by omega) (by omega) (by omega) (by omega))
        -- the class's own chip behind the reference's call
        have yx : ∀ a i, 344 + 22 * k ≤ a → a ≤ 344 + 22 * k + 21 → gI y.2 a i = gI x.2 a i := fun a i l1 l2 => by rw [yf.gi (okL a i (by omega) (by omega)), ← hS1]; rfl
        refine ⟨by rw [y1, x1], y2, ?_, ?_⟩
        · rw [yf.gl (okL _ _ (by omega) (by omega)), ← hS1, gL_sLe ⟨rfl, rfl⟩]
        · have cl : ∀ a i, 344 + 22 * k ≤ a → a ≤ 344 + 22 * k + 21 → a ≠ 344 + 22 * k + 12 → a ≠ 344 + 22 * k + 13 → a ≠ 344 + 22 * k + 14 → ¬ (a = 344 + 22 * k ∧ (i = 16 ∨ i = 20)) → gI y.2 a i = gI S a i := fun a i l1 l2 l3 l4 l5 l6 => by
            rw [yx a i l1 l2]
            exact xf.gi (okx a i (by omega) l3 l4 l5 l6)
          have gg : ∀ a i, kept a i = true → ¬ ((a = 2134 ∨ a = 2146) ∧ i = k) → ¬ (2135 ≤ a ∧ a ≤ 2138 ∧ 4712 * k ≤ i ∧ i < 4712 * k + 4712) → ¬ (a = 2139 ∧ 256 * k ≤ i ∧ i < 256 * k + 256) → (a < 344 ∨ 431 < a) → gI y.2 a i = gI S a i := fun a i q g1 g2 g3 g4 => (y6 a i q g1 g2 g3).trans (eC a i (by have := kept_hi q; omega) (by omega) (by omega) (by omega) (by omega))
          have g2105 : ∀ a i, 2105 ≤ a → a ≤ 2177 → ¬ (2134 ≤ a ∧ a ≤ 2139) → a ≠ 2146 → ((2106 ≤ a ∧ a ≤ 2120) ∨ (2122 ≤ a ∧ a ≤ 2125) ∨ (2147 ≤ a ∧ a ≤ 2148) ∨ (2155 ≤ a ∧ a ≤ 2157) ∨ (2172 ≤ a ∧ a ≤ 2175) ∨ a = 2177) → gI y.2 a i = gI S a i := fun a i l1 l2 l3 l4 l5 => gg a i (kept_rng (by omega)) (by omega) (by omega) (by omega) (by omega)
          refine h.chipQ hk (fun a i => (a = 344 + 22 * k + 12 ∨ a = 344 + 22 * k + 13 ∨ a = 344 + 22 * k + 14 ∨ (a = 344 + 22 * k ∧ (i = 16 ∨ i = 20))) ∨ ((a = 2134 ∨ a = 2146) ∧ i = k) ∨ (2135 ≤ a ∧ a ≤ 2138 ∧ 4712 * k ≤ i ∧ i < 4712 * k + 4712) ∨ (a = 2139 ∧ 256 * k ≤ i ∧ i < 256 * k + 256)) (rtCh C (rtF C n)) (fun a i q g1 => ?_) (fun a i g1 => ?_) (fun a i q _ _ => yL a i q) ?_ ?_ ?_
          · by_cases l : 344 ≤ a ∧ a ≤ 431
            · rw [yf.gi (okL a i (by omega) (by omega)), ← hS1]
              exact xf.gi (okx a i (by omega) (by omega) (by omega) (by omega) (by omega))
            · exact gg a i q (by omega) (by omega) (by omega) (by omega)
          · rcases g1 with g1 | ⟨g1, rfl⟩ | ⟨g1, g2, g3, g4⟩ | ⟨rfl, g3, g4⟩
            · exact .inl (by omega)
            · exact .inr (ownC_1 (by omega))
            · refine .inr ⟨by omega, ?_⟩
              have e : strC a = 4712 := by
                have : a = 2135 ∨ a = 2136 ∨ a = 2137 ∨ a = 2138 := by omega
                rcases this with rfl | rfl | rfl | rfl <;> rfl
              rw [e]; omega
            · exact .inr ⟨by omega, show 256 * k ≤ _ from g3, show _ < 256 * k + 256 from g4⟩
          · rw [yf.heap.1, ← hS1]; show nC x.2 ≤ _; rw [xf.heap.1]; omega
          · rw [yf.heap.2, ← hS1]; show nS x.2 ≤ _; rw [xf.heap.2]; omega
          · obtain ⟨xP, xW, xB, xF, xT⟩ := wx
            obtain ⟨rP, rW, rB, rF, rT⟩ := rX
            obtain ⟨mP, mW, mB, mF, mT⟩ := mX
            have l12 : ∀ f i, f ≤ 12 → rtCh C (rtF C n) f i = C f i := fun f i q => rtCh_o (by omega)
            have l14 : ∀ f i, f ≤ 14 → rtCh C (rtF C n) f i = C f i := fun f i q => rtCh_o (by omega)
            have lt' : ∀ f i, 28 ≤ f → f ≤ 30 → rtCh C (rtF C n) f i = C f i := fun f i q q' => rtCh_o (by omega)
            have lf' : ∀ f i, 25 ≤ f → f ≤ 27 → rtCh C (rtF C n) f i = C f i := fun f i q q' => rtCh_o (by omega)
            have n19 : rtCh C (rtF C n) 19 0 = 1 := rfl
            have n23 : rtCh C (rtF C n) 23 0 = -1 := rfl
            have nr : ∀ f p, (f = 20 ∨ f = 21 ∨ f = 22 ∨ f = 31 ∨ f = 32) → rtCh C (rtF C n) f p = rtF C n f p := fun f p q => by
              unfold rtCh; rw [if_neg (by omega), if_neg (by omega), if_pos q]
            have nk : kBx (rtCh C (rtF C n)) = 0 := by unfold kBx; rw [n23]; rfl
            have r' : RepK y.2 (344 + 22 * k) C := by
              obtain ⟨t1, t2, t3, t4, t5, t6⟩ := r
              refine ⟨?_, fun g hg => ?_, fun g hg => ?_, fun g hg => ?_, fun g hg => ?_, fun g hg => ?_⟩
              · simp (disch := omega) only [cl]; exact t1
              · rw [cl _ _ (by omega) (by omega) (by omega) (by omega) (by omega) (by omega)]; exact t2 g hg
              · rw [cl _ _ (by omega) (by omega) (by omega) (by omega) (by omega) (by omega)]; exact t3 g hg
              · rw [cl _ _ (by omega) (by omega) (by omega) (by omega) (by omega) (by omega)]; exact t4 g hg
              · rw [cl _ _ (by omega) (by omega) (by omega) (by omega) (by omega) (by omega)]; exact t5 g hg
              · simp (disch := omega) only [cl]; exact t6 g hg
            have m' : RefK y.2 k C := m.cg (fun a i l1 l2 => g2105 a i (by omega) (by omega) (by omega) (by omega) (by omega))
            obtain ⟨⟨v1, v2, v3, v4, v5⟩, _, _⟩ := x3
            refine ⟨⟨w.fc l14, r'.fc l14, m'.fc l14⟩, ⟨xP, ⟨.inr rfl, fun _ => ⟨q2, fun p hp => v1.1 p hp, fun p hp => v3 p hp, fun p hp => v4 p hp, fun p hp => v5 p hp, fun y hy => v1.2 y hy⟩⟩, ⟨⟨by rw [n23]; omega, by rw [n23]; omega, fun g => absurd n23 g⟩, fun b hb => absurd hb (by rw [nk]; omega)⟩, xF, xT.fc l12 lt'⟩, ⟨?_, ?_, ?_, ?_, ?_⟩, ⟨?_, ?_, ?_, ?_, ?_⟩⟩
            · have : RepP y.2 (344 + 22 * k) C := by unfold RepP at rP ⊢; simp (disch := omega) only [cl]; exact rP
              exact this
            · refine ⟨by rw [n19, yx _ _ (by omega) (by omega)]; exact x6, fun _ => ⟨fun p hp => ?_, fun j hj => ?_⟩⟩
              · rw [nr _ _ (by omega), nr _ _ (by omega), nr _ _ (by omega), nr _ _ (by omega), yx _ _ (by omega) (by omega), yx _ _ (by omega) (by omega)]
                exact x2.1 p hp
              · rw [nr _ _ (by omega), yx _ _ (by omega) (by omega)]; exact x2.2 j hj
            · refine ⟨by rw [n23, yx _ _ (by omega) (by omega)]; exact x7, fun i hi => absurd hi (by rw [nk]; omega)⟩
            · have : RepF y.2 (344 + 22 * k) C := by unfold RepF at rF ⊢; simp (disch := omega) only [cl]; exact rF
              exact this.fc lf'
            · have gl21 : ∀ i, gL y.2 (344 + 22 * k + 21) i = gL S (344 + 22 * k + 21) i := fun i => yL _ _ (by omega)
              have : RepT y.2 (344 + 22 * k) C := by unfold RepT at rT ⊢; simp (disch := omega) only [cl, gl21]; exact rT
              exact this.fc l12 lt'
            · have : RefP y.2 k C := by unfold RefP at mP ⊢; simp (disch := omega) only [g2105]; exact mP
              exact this
            · refine ⟨by rw [n19]; exact y4, fun _ => ⟨fun p hp => ?_, fun j hj => ?_⟩⟩
              · rw [nr _ _ (by omega), nr _ _ (by omega), nr _ _ (by omega), nr _ _ (by omega)]
                exact y3.1 p hp
              · rw [nr _ _ (by omega)]; exact y3.2 j hj
            · refine ⟨by rw [n23, if_pos rfl]; exact y5, fun g => absurd n23 g, fun i hi => absurd hi (by rw [nk]; omega)⟩
            · have : RefF y.2 k C := by unfold RefF at mF ⊢; simp (disch := omega) only [g2105]; exact mF
              exact this.fc lf'
            · have gl75 : ∀ i, gL y.2 2175 i = gL S 2175 i := fun i => yL _ _ (by omega)
              have : RefT y.2 k C := by unfold RefT at mT ⊢; simp (disch := omega) only [g2105, gl75]; exact mT
              exact this.fc l12 lt'
    · refine L_modF (m1 := fun S1 => mX23_route S1 _ _) 2 2 h hc ?_ rfl (by omega) (fun S1 eS => ?_)
      · unfold mX1_route
        rw [hx, bT_inl, gkc_chip hk, w32_id h2]
        by_cases q2 : 0 ≤ p2
        · rw [if_pos q2, if_neg (by omega), bX_some, if_neg (by decide), bX_some, need_0 rx]; rfl
        · rw [if_neg q2, bX_some, if_neg (by decide), bX_some, need_0 rx]; rfl
      · unfold mX23_route
        rw [m_isChip_t h eS h1 hq, bX_some, if_neg (by decide), m_within_f h2 (by omega) (by omega) q1, bX_some, if_pos (by decide), bX_some, wf_eq, gI_set, if_pos (by decide)]
  · refine L_modF (m1 := fun S1 => mX23_route S1 _ _) 1 1 h hc ?_ rfl (by omega) (fun S1 eS => ?_)
    · unfold mX1_route; rw [chipIn_f hq rx h1]; rfl
    · unfold mX23_route; rw [m_isChip_f h eS h1 hq]; rfl
end ROUTE
