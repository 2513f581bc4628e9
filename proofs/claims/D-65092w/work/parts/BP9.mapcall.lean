/-! map: the call -/
section MAPCALL
variable {c : Nat} {S : Sto}
theorem L18 {p1 p2 : Int} (h : Inv c S) (hc : c < 64) (h1 : i32 p1) (h2 : i32 p2) : WP (mL_18 S p1 p2) (Inv (c + 1)) := by
  have rx := h.1.x hc
  have e434 : aN (kK 434) = 4 := rfl
  have e2105 : aN (kK 2105) = 4 := rfl
  have hC : ∀ k, k < 4 → gI S 2105 k = gI S 434 k := fun k hk => (h.2.2.2.2.2.2 k hk).2.1
  have hfr : WP (mX1_free S 434) (FrQ (fun i => gI S 434 i) 4) := k_freeQ e434 (by omega)
  obtain ⟨y, hy, fy⟩ := hfr
  have mfr : ∀ S1, (∀ k, k < 4 → gI S1 2105 k = gI S 2105 k) → mX23_free S1 2105 4 = some y := fun S1 e => m_free_as (N := 4) e2105 (by omega) (fun k hk => (e k hk).trans (hC k hk)) fy
  unfold mL_18 mX0_map
  by_cases hq : isDs S p1
  case neg =>
    refine L_modF (m1 := fun S1 => mX23_map S1 _ _) 1 1 h hc ?_ rfl (by omega) (fun S1 eS => ?_)
    · unfold mX1_map; rw [designIn_f hq rx h1]; rfl
    · unfold mX23_map
      rw [mfr S1 (fun k _ => eS _ _), bX_some, m_isDesign_f h eS h1 hq, bX_some, if_neg (by decide), bX_some, if_pos rfl, bX_some, wf_eq, gI_set, if_pos (by decide)]
  by_cases hb : isLb S p2
  case neg =>
    refine L_modF (m1 := fun S1 => mX23_map S1 _ _) 1 1 h hc ?_ rfl (by omega) (fun S1 eS => ?_)
    · obtain ⟨d, G, hd, rfl, w, rG, mG⟩ := InvG.get h hq
      have hx := designIn_t hq
      rw [Int.toNat_natCast] at hx
      unfold mX1_map; rw [hx, bT_inl, gkc_dsg hd, libraryIn_f hb rx h2]; rfl
    · unfold mX23_map
      rw [mfr S1 (fun k _ => eS _ _), bX_some, m_isDesign_t h eS h1 hq, bX_some, if_pos (by decide), m_isLibrary_f h eS h2 hb, bX_some, if_pos (by decide), bX_some, if_pos rfl, bX_some, wf_eq, gI_set, if_pos (by decide)]
  have hx := designIn_t hq
  have hz := libraryIn_t hb
  have hq' := hq
  have hb' := hb
  obtain ⟨d, G, hd, rfl, w, rG, mG⟩ := InvG.get h hq
  obtain ⟨l, B, hl, rfl, wl, rL, mL⟩ := InvL.get h hb
  rw [Int.toNat_natCast] at hx hz
  rcases fy with ⟨y1, y2⟩ | ⟨k, hk, y1, y2, y3⟩
  · subst y1
    refine L_modF (m1 := fun S1 => mX23_map S1 _ _) 2 4 h hc ?_ rfl (by omega) (fun S1 eS => ?_)
    · unfold mX1_map; rw [hx, bT_inl, gkc_dsg hd, hz, bT_inl, gkc_lib hl, hy, bX_some, if_neg (by decide), roomX_0 rx]; rfl
    · unfold mX23_map
      rw [mfr S1 (fun k _ => eS _ _), bX_some, m_isDesign_t h eS h1 hq, bX_some, if_pos (by decide), m_isLibrary_t h eS h2 hb, bX_some, if_neg (by decide), bX_some, if_neg (by decide), if_pos (by decide), bX_some, wf_eq, gI_set, if_pos (by decide)]
  · subst y1
    obtain ⟨m0, hm0⟩ : ∃ m0 : Int, m0 = 100000 * (c : Int) := ⟨_, rfl⟩
    have hm : m0 ≤ 800000000 := by omega
    have kst : KSt S m0 := by rw [hm0]; exact h.2.2.1.2.2.1
    have mst : MSt S m0 := by rw [hm0]; exact h.2.2.1.2.2.2
    have gf := h.2.2.2.2.2.2 k hk
    -- the reference's part, on what the class left
    have mid : ∀ S1, (∀ a i, ¬ PKm k a → ¬ (a = 434 ∧ i = k) → gI S1 a i = gI S a i) → WP (mX23_map S1 (d : Int) (l : Int)) (fun y => ChN (PMm k) S1 y.2 ∧ gI y.2 2000 0 = 0 ∧ MSt y.2 (m0 + 63 * (1000 : Int)) ∧ (NoM G B → y.1 = -1 ∧ gI y.2 2105 k = gI S1 2105 k) ∧ (¬ NoM G B → 150 < (rtS G B (nRt G)).1.length → y.1 = -2 ∧ gI y.2 2105 k = gI S1 2105 k) ∧
      (¬ NoM G B → (rtS G B (nRt G)).1.length ≤ 150 → y.1 = (k : Int) ∧ MCh y.2 G B k (rtS G B (nRt G)).1 ∧ (∀ i, i < gOu G → gI y.2 2114 (16 * k + i) = rtN G (rtS G B (i + 1)) (rtL G i)) ∧ ∀ i, i < gSt G → gI y.2 2115 (6 * k + i) = rtN G (rtS G B (gOu G + i + 1)) (rtL G (gOu G + i)))) := fun S1 e => by
      have e2 : ∀ a i, (a < 198 ∨ (218 < a ∧ a < 344) ∨ 434 < a) → gI S1 a i = gI S a i := fun a i q => e a i (by unfold PKm; omega) (by omega)
      have e0 : ∀ a i, (432 ≤ a ∧ a ≤ 433) → gI S1 a i = gI S a i := fun a i q => e a i (by unfold PKm; omega) (by omega)
      exact m_map w wl hd hl hk (RefG.cg w mG (fun a i l1 l2 _ _ => e2 _ _ (by omega))) (RefL.cg wl mL (e2 _ _ (by omega)) (fun a i l1 l2 _ _ => e2 _ _ (by omega))) (mfr S1 (fun i _ => e2 _ _ (by omega))) (m_isDesign_w h (fun i => e0 _ _ (by omega)) (fun i => e2 _ _ (by omega)) h1 hq') (m_isLibrary_w h (fun i => e0 _ _ (by omega)) (fun i => e2 _ _ (by omega)) h2 hb') hm (mst.mv (fun a i g => e2 _ _ (by omega)))
    have hfree := hy
    refine L_modS (m1 := fun S1 => mX23_map S1 _ _) ?_
    unfold mX1_map
    rw [hx, bT_inl, gkc_dsg hd, hz, bT_inl, gkc_lib hl, hfree, bX_some, w32_id (x := (k : Int)) (by omega), if_pos (by omega), roomX_1, bT_inl, rdA_n hk (by omega)]
    refine WP_call (k_map w wl hd hl hk rG rL hm kst) (fun x6 h6 => ?_)
    obtain ⟨c1, t1, r1, r2, r3⟩ := h6
    -- what is so whatever comes out
    have fin : ∀ {S1 : Sto} {y : Int × Sto}, (∀ a i, ¬ (a = 434 ∧ i = k) → gI S1 a i = gI x6.2 a i) → (∀ a i, a ≠ 2178 → gL S1 a i = gL x6.2 a i) → nC S1 = nC x6.2 → nS S1 = nS x6.2 → ChN (PMm k) S1 y.2 → MSt y.2 (m0 + 63 * (1000 : Int)) → InvC y.2 k → Inv (c + 1) y.2 := fun {S1 y} q1 q2 q3 q4 q5 q6 q7 => by
      have fr : ∀ a i, ¬ PMm k a i → ¬ (a = 434 ∧ i = k) → gI y.2 a i = gI x6.2 a i := fun a i g1 g2 => (q5.1 a i g1).trans (q1 a i g2)
      refine h.putM hk (fun a i g g1 g2 g3 g4 => ?_) (fun a i g => ?_) ?_ ?_ (m := m0 + 63 * (1000 : Int)) (by omega) (t1.mv (fun a i g => fr a i (fun q => ?_) (by omega))) q6 q7
      · have km := kept_mp g
        rw [fr a i (fun q => ?_) (by omega), c1.1 a i (by unfold PKm; omega)]
        rcases q with q | q | q | q
        · omega
        · omega
        · omega
        · exact g2 q
      · rw [q5.2.1 _ _ (by omega), q2 _ _ (by omega), c1.2.1 a i (by omega)]
      · rw [q5.2.2.1, q3, c1.2.2.1]; omega
      · rw [q5.2.2.2, q4, c1.2.2.2]; omega
      · rcases q with q | q | q | q
        · omega
        · omega
        · omega
        · have := q.1; omega
    have thf : gI S 434 k = 0 := y2
    have mtf : gI S 2105 k = 0 := (hC k hk).trans thf
    -- nothing comes out
    have bad : ∀ v : Int, (v = -1 ∨ v = -2) → x6.1 = v → (∀ S1, (∀ a i, ¬ PKm k a → ¬ (a = 434 ∧ i = k) → gI S1 a i = gI S a i) → WP (mX23_map S1 (d : Int) (l : Int)) (fun y => y.1 = v ∧ gI y.2 2105 k = gI S1 2105 k ∧ ChN (PMm k) S1 y.2 ∧ gI y.2 2000 0 = 0 ∧ MSt y.2 (m0 + 63 * (1000 : Int)))) → WP (if w32 x6.1 < 0 then some (Sum.inl (x6.1, x6.2)) else wrI 4 x6.2 434 (k : Int) 1 fun S7 => some (Sum.inl ((k : Int), S7)) : Option ((Int × Sto) ⊕ (Nat × Sto))) (WE (fun x => WP (mX23_map (sL x.2 2178 0 (i2l x.1)) (d : Int) (l : Int)) (fun y => y.1 = x.1 ∧ gI y.2 2000 0 = 0 ∧ gL y.2 2178 0 = i2l x.1 ∧ Inv (c + 1) y.2)) (fun _ => False)) := fun v hv e hM => by
      rw [e, w32_id (x := v) (by omega), if_pos (by omega)]
      refine WP_some.2 ?_
      show WP (mX23_map (sL x6.2 2178 0 (i2l v)) (d : Int) (l : Int)) _
      obtain ⟨S1, hS1⟩ : ∃ S1, sL x6.2 2178 0 (i2l v) = S1 := ⟨_, rfl⟩
      rw [hS1]
      have e1 : ∀ a i, gI S1 a i = gI x6.2 a i := fun a i => by rw [← hS1]; rfl
      refine (hM S1 (fun a i g _ => (e1 a i).trans (c1.1 a i g))).mono (fun y hy => ?_)
      obtain ⟨b1, b2, b3, b4, b5⟩ := hy
      have z434 : gI y.2 434 k = 0 := by
        have hb3 := b3.1 434 k (fun q => by
          rcases q with q | q | q | q
          · omega
          · omega
          · omega
          · have := q.1; omega)
        rw [hb3, e1, c1.1 _ _ (by unfold PKm; omega)]; exact thf
      have z2105 : gI y.2 2105 k = 0 := by rw [b2, e1, c1.1 _ _ (by unfold PKm; omega)]; exact mtf
      refine ⟨b1, b4, ?_, fin (S1 := S1) (y := y) (fun a i _ => e1 a i) (fun a i g => ?_) ?_ ?_ b3 b5 ⟨.inl z434, z2105.trans z434.symm, fun ht => ?_⟩⟩
      · rw [b3.2.1 _ _ (by omega), ← hS1, gL_sLe ⟨rfl, rfl⟩]
      · rw [← hS1, gL_sLn (.inl g)]
      · rw [← hS1]; rfl
      · rw [← hS1]; rfl
      · unfold thC at ht; rw [z434] at ht; exact absurd ht (by decide)
    by_cases nm : NoM G B
    · refine bad (-1) (.inl rfl) (r1 nm) (fun S1 e => (mid S1 e).mono (fun y hy => ?_))
      obtain ⟨a1, a2, a3, a4, a5, a6⟩ := hy
      exact ⟨(a4 nm).1, (a4 nm).2, a1, a2, a3⟩
    by_cases len : 150 < (rtS G B (nRt G)).1.length
    · refine bad (-2) (.inr rfl) (r2 nm len) (fun S1 e => (mid S1 e).mono (fun y hy => ?_))
      obtain ⟨a1, a2, a3, a4, a5, a6⟩ := hy
      exact ⟨(a5 nm len).1, (a5 nm len).2, a1, a2, a3⟩
    obtain ⟨x1, x2, x3⟩ := r3 nm (by omega)
    have w1 := mpC_w w wl nm (by omega)
    rw [x1, if_neg (by decide), wrI_e (by omega), Int.toNat_natCast]
    refine WP_some.2 ?_
    show WP (mX23_map (sL (sI x6.2 434 k 1) 2178 0 (i2l (k : Int))) (d : Int) (l : Int)) _
    obtain ⟨S1, hS1⟩ : ∃ S1, sL (sI x6.2 434 k 1) 2178 0 (i2l (k : Int)) = S1 := ⟨_, rfl⟩
    rw [hS1]
    have e1 : ∀ a i, ¬ (a = 434 ∧ i = k) → gI S1 a i = gI x6.2 a i := fun a i q => by
      rw [← hS1]
      show gI (sI x6.2 434 k 1) a i = _
      rw [hI_sI, if_neg q]
    have f434 : gI S1 434 k = 1 := by
      rw [← hS1]
      show gI (sI x6.2 434 k 1) 434 k = _
      rw [gI_set]; rfl
    refine (mid S1 (fun a i g g2 => (e1 a i g2).trans (c1.1 a i g))).mono (fun y hy => ?_)
    obtain ⟨a1, a2, a3, a4, a5, a6⟩ := hy
    obtain ⟨b1, b2, b3, b4⟩ := a6 nm (by omega)
    have np : ∀ a i, (344 ≤ a ∧ a ≤ 434) → ¬ PMm k a i := fun a i q g => by
      rcases g with g | g | g | g
      · omega
      · omega
      · omega
      · have := g.1; omega
    have z434 : gI y.2 434 k = 1 := (a1.1 _ _ (np _ _ (by omega))).trans f434
    have z2105 : gI y.2 2105 k = 1 := b2.1.1
    have cl : ∀ a i, 344 + 22 * k ≤ a → a ≤ 344 + 22 * k + 21 → gI y.2 a i = gI x6.2 a i := fun a i l1 l2 => (a1.1 _ _ (np _ _ (by omega))).trans (e1 _ _ (by omega))
    have clL : ∀ i, gL y.2 (344 + 22 * k + 21) i = gL x6.2 (344 + 22 * k + 21) i := fun i => by
      rw [a1.2.1 _ _ (by omega), ← hS1, gL_sLn (.inl (by omega))]; rfl
    refine ⟨b1, a2, ?_, fin (S1 := S1) (y := y) e1 (fun a i g => ?_) ?_ ?_ a1 a3 ⟨.inr z434, z2105.trans z434.symm, fun _ => ⟨mpC G B, ⟨w1, (mpC_rep x2 x3 wl).cg cl, mpC_ref b2 b3 b4⟩, mpC_wx, (mpC_repX x2).cg cl clL, mpC_refX w1 b2⟩⟩⟩
    · rw [a1.2.1 _ _ (by omega), ← hS1, gL_sLe ⟨rfl, rfl⟩]
    · rw [← hS1, gL_sLn (.inl g)]; rfl
    · rw [← hS1]; rfl
    · rw [← hS1]; rfl
end MAPCALL
