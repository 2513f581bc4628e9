/-! route: both sides -/
section KRTE
variable {S z : Sto} {k : Nat} {C : Chp}
theorem k_rt55 (h1 : gR S 229 1 = 344 + 22 * k) (h4 : gI S 229 4 = ((2 * kLy C : Nat) : Int)) (hk : k < 4) (g : GSz C) : WP (lpF mX15_route_L55 (0, S)) (fun z => (∀ p, p < 2 * kLy C → gI z (344 + 22 * k + 12) p = -1 ∧ gI z (344 + 22 * k + 13) p = 0 ∧ gI z 230 p = -1) ∧ (∀ a i, a ≠ 344 + 22 * k + 12 → a ≠ 344 + 22 * k + 13 → a ≠ 230 → gI z a i = gI S a i) ∧ ∀ a i, gR z a i = gR S a i) := by
  have g5 := g.2.2.2.2.1
  refine WP_cnt (2 * kLy C) (fun i s => s.1 = (i : Int) ∧ (∀ p, p < i → gI s.2 (344 + 22 * k + 12) p = -1 ∧ gI s.2 (344 + 22 * k + 13) p = 0 ∧ gI s.2 230 p = -1) ∧ (∀ a i, a ≠ 344 + 22 * k + 12 → a ≠ 344 + 22 * k + 13 → a ≠ 230 → gI s.2 a i = gI S a i) ∧ ∀ a i, gR s.2 a i = gR S a i) (by unfold cFU; omega) ⟨rfl, fun p hp => absurd hp (Nat.not_lt_zero _), fun _ _ _ _ _ => rfl, fun _ _ => rfl⟩ (fun i s hi hI => ?_) (fun s hI => ?_)
  · obtain ⟨z1, z2⟩ := s
    obtain ⟨b1, b2, b3, b4⟩ := hI
    dsimp only at b1 b2 b3 b4
    subst b1
    have r1 : ∀ z, (∀ a i, gR z a i = gR z2 a i) → gR z 229 1 = 344 + 22 * k := fun z e => (e _ _).trans ((b4 _ _).trans h1)
    unfold mX15_route_L55
    dsimp only
    rw [b3 _ _ (by omega) (by omega) (by omega), h4, w32_id (by omega), w32_id (by omega), if_pos (by omega), b4, h1, gk_chip hk, wrI_e (by omega), Int.toNat_natCast, gR_sI, b4, h1, gk_chip hk, wrI_e (by omega), wrI_e (by omega), Int.toNat_natCast]
    refine WP_some.2 ⟨by show (i : Int) + 1 = _; omega, fun p hp => ?_, fun a j q1 q2 q3 => ?_, fun a j => ?_⟩
    · dsimp only
      by_cases e : p = i
      · rw [e]
        refine ⟨?_, ?_, ?_⟩
        · rw [hI_sI_a (by omega), hI_sI_a (by omega), gI_set]; rfl
        · rw [hI_sI_a (by omega), gI_set]; rfl
        · rw [gI_set]; rfl
      · have b := b2 p (by omega)
        refine ⟨?_, ?_, ?_⟩
        · rw [hI_sI_a (by omega), hI_sI_a (by omega), hI_sI_i e]; exact b.1
        · rw [hI_sI_a (by omega), hI_sI_i e, hI_sI_a (by omega)]; exact b.2.1
        · rw [hI_sI_i e, hI_sI_a (by omega), hI_sI_a (by omega)]; exact b.2.2
    · dsimp only
      rw [hI_sI_a q3, hI_sI_a q2, hI_sI_a q1]; exact b3 a j q1 q2 q3
    · exact b4 a j
  · obtain ⟨z1, z2⟩ := s
    obtain ⟨b1, b2, b3, b4⟩ := hI
    dsimp only at b1 b2 b3 b4
    subst b1
    unfold mX15_route_L55
    dsimp only
    rw [b3 _ _ (by omega) (by omega) (by omega), h4, w32_id (by omega), if_neg (by omega)]
    exact WP_some.2 ⟨b2, b3, b4⟩
theorem k_rt98 (hp : KPp S k C) (hk : k < 4) (w : WFC C) (wp : WFP C) (h0 : C 16 0 ≠ 0) (g : GSz C) (hi : ∀ p, p < 2 * kLy C → gI S 230 p = -1) : WP (lpF mX15_route_L98 (0, S)) (fun z => Ch 230 230 S z ∧ ∀ p, p < 2 * kLy C → gI z 230 p = kp C p) := by
  have g5 := g.2.2.2.2.1
  have g7 := g.2.2.2.2.2.2.1
  have g8 := g.2.2.2.2.2.2.2
  refine WP_cnt (kPn C) (fun i s => s.1 = (i : Int) ∧ Ch 230 230 S s.2 ∧ ∀ p, p < 2 * kLy C → gI s.2 230 p = kpt C i p) (by unfold cFU; omega) ⟨rfl, Ch.refl, hi⟩ (fun i s hi hI => ?_) (fun s hI => ?_)
  · obtain ⟨z1, z2⟩ := s
    obtain ⟨b1, b2, b3⟩ := hI
    dsimp only at b1 b2 b3
    subst b1
    have pz : KPp z2 k C := hp.mv (fun a i q => b2.1 _ _ (by omega)) (b2.2.2.1 _ _)
    have e1 : gI z2 219 1 = (kPn C : Int) := pz.1.1
    have nt : gI z2 220 i = ((kPf C i).1 : Int) := (pz.1.2.1 i hi).1
    have ow := ((kPins_ok w).1 i (show i < kPn C from hi)).1
    have ow : (kPf C i).1 < kN C := ow
    have pl := (pp_lt w wp h0 hi).1
    unfold mX15_route_L98
    dsimp only
    rw [e1, w32_id (by omega), w32_id (by omega), if_pos (by omega), k_point pz hk w wp h0 hi, bX_some, rdI_e (by omega), Int.toNat_natCast, nt, wrI_e (by omega), Int.toNat_natCast, w16_id (by omega)]
    refine WP_some.2 ⟨by show (i : Int) + 1 = _; omega, b2.sI (by omega), fun p hp' => ?_⟩
    dsimp only
    show _ = (if p = pp C i then ((kPf C i).1 : Int) else kpt C i p)
    by_cases e : p = pp C i
    · rw [e, gI_set, if_pos rfl, w32_id (by omega)]
    · rw [hI_sI_i e, if_neg e]; exact b3 p hp'
  · obtain ⟨z1, z2⟩ := s
    obtain ⟨b1, b2, b3⟩ := hI
    dsimp only at b1 b2 b3
    subst b1
    have pz : KPp z2 k C := hp.mv (fun a i q => b2.1 _ _ (by omega)) (b2.2.2.1 _ _)
    have e1 : gI z2 219 1 = (kPn C : Int) := pz.1.1
    unfold mX15_route_L98
    dsimp only
    rw [e1, if_neg (by omega)]
    exact WP_some.2 ⟨b2, b3⟩
theorem k_route (r : RepK S (344 + 22 * k) C) (rP : RepP S (344 + 22 * k) C) (hk : k < 4) (w : WFC C) (wp : WFP C) (h0 : C 16 0 ≠ 0) {u : Nat} (hu : u ≤ 12) :
    WP (mX15_route S (344 + 22 * k) (u : Int)) (fun z => z.1 = (opN C (rtF C u) (rC C) : Int) ∧ KOw z.2 k C (rtF C u) ∧ RV C (rtF C u) ∧ P1all C (rC C) ∧ RV C (p1F C (rC C)) ∧ gI z.2 (344 + 22 * k) 16 = 1 ∧ gI z.2 (344 + 22 * k) 20 = -1) := by
  have g := GSz_of w wp h0
  obtain ⟨g1, g2, g3, g4, g5, g6, g7, g8⟩ := id g
  have p1 := wp.1
  have hH := kH_le w wp
  unfold mX15_route
  rw [wfR_eq, gR_sR, if_pos ⟨rfl, rfl⟩, gk_chip hk]
  have r1 : RepK (sR S 229 1 (344 + 22 * k)) (344 + 22 * k) C := r.cg (fun a i _ _ => rfl)
  refine WP_call (k_take r1 w hk rfl) (fun x3 h3 => ?_)
  obtain ⟨t1, t2, t3⟩ := h3
  have t4 : gR x3 229 1 = 344 + 22 * k := by rw [t3.2.2.1, gR_sR, if_neg (by omega), gR_sR, if_pos ⟨rfl, rfl⟩]
  have r3 : RepK x3 (344 + 22 * k) C := RepK.ch (S := sR (sR S 229 1 (344 + 22 * k)) 219 0 (344 + 22 * k)) (r.cg (fun a i _ _ => rfl)) t3 (by omega)
  have P3 : RepP x3 (344 + 22 * k) C := RepP.ch (S := sR (sR S 229 1 (344 + 22 * k)) 219 0 (344 + 22 * k)) (rP.cg (fun a i _ _ => rfl)) t3 (by omega)
  have e15 : gI x3 (344 + 22 * k) 11 = C 15 0 := P3.1.1
  have e13 : gI x3 (344 + 22 * k) 13 = kH C := P3.1.2.2
  have ew : (kW C : Int) = C 15 0 + 2 := by show ((kS C + 2 : Nat) : Int) = _; unfold kS; omega
  have eh : (kHn C : Int) = kH C := by show ((kH C).toNat : Int) = _; omega
  have eL : (kW C : Int) * (kHn C : Int) = (kLy C : Int) := by rw [kLy_eq C, Int.natCast_mul]
  unfold mX22_across
  rw [t4, gk_chip hk, e15, bX_some, wf_eq, gR_sI, t4, gk_chip hk, wf_eq, gI_set, hI_sI_a (by omega), e13, w32_id (by omega), ← ew, ← eh, eL, wf_eq, gI_set, w32_id (by omega), show (2 : Int) * (kLy C : Int) = ((2 * kLy C : Nat) : Int) by omega]
  obtain ⟨y, hy⟩ : ∃ y, y = sI (sI (sI x3 229 2 (kW C : Int)) 229 3 (kLy C : Int)) 229 4 ((2 * kLy C : Nat) : Int) := ⟨_, rfl⟩
  rw [← hy]
  have yN : ∀ a i, a ≠ 229 → gI y a i = gI x3 a i := fun a i q => by rw [hy, hI_sI_a q, hI_sI_a q, hI_sI_a q]
  have yR : ∀ a i, gR y a i = gR x3 a i := fun a i => by rw [hy]; rfl
  have y4 : gI y 229 4 = ((2 * kLy C : Nat) : Int) := by rw [hy, gI_set, w32_id (by omega)]
  have y3 : gI y 229 3 = (kLy C : Int) := by rw [hy, hI_sI_i (by omega), gI_set, w32_id (by omega)]
  have y2 : gI y 229 2 = (kW C : Int) := by rw [hy, hI_sI_i (by omega), hI_sI_i (by omega), gI_set, w32_id (by omega)]
  have py : KPp y k C := KPp.mv (S := x3) ⟨t1, t2, P3⟩ (fun a i q => yN a i (by omega)) (yR _ _)
  refine WP_call (k_rt55 (C := C) ((yR _ _).trans t4) y4 hk g) (fun y16 h16 => ?_)
  obtain ⟨a1, a2, a3⟩ := h16
  have p16 : KPp y16 k C := py.mv (fun a i q => a2 _ _ (by omega) (by omega) (by omega)) (a3 _ _)
  refine WP_call (k_rt98 p16 hk w wp h0 g (fun p hp => (a1 p hp).2.2)) (fun y21 h21 => ?_)
  obtain ⟨c1, c2⟩ := h21
  have p21 : KPp y21 k C := p16.mv (fun a i q => c1.1 _ _ (by omega)) (c1.2.2.1 _ _)
  have n21 : ∀ a i, a ≠ 344 + 22 * k + 12 → a ≠ 344 + 22 * k + 13 → a ≠ 230 → gI y21 a i = gI y a i := fun a i q1 q2 q3 => (c1.1 _ _ (by omega)).trans (a2 a i q1 q2 q3)
  have K21 : KRt y21 k C := ⟨⟨(c1.2.2.1 _ _).trans ((a3 _ _).trans ((yR _ _).trans t4)), (n21 _ _ (by omega) (by omega) (by omega)).trans y2, (n21 _ _ (by omega) (by omega) (by omega)).trans y3, (n21 _ _ (by omega) (by omega) (by omega)).trans y4, by rw [n21 _ _ (by omega) (by omega) (by omega), yN _ _ (by omega), e13, eh]⟩, c2⟩
  have r21 : RepK y21 (344 + 22 * k) C := by
    obtain ⟨t1, t2, t3, t4, t5, t6⟩ := r3
    have cl : ∀ a i, 344 + 22 * k ≤ a → a ≤ 344 + 22 * k + 9 → gI y21 a i = gI x3 a i := fun a i l1 l2 => (n21 a i (by omega) (by omega) (by omega)).trans (yN a i (by omega))
    refine ⟨?_, fun g' hg' => ?_, fun g' hg' => ?_, fun g' hg' => ?_, fun g' hg' => ?_, fun g' hg' => ?_⟩
    · simp (disch := omega) only [cl]; exact t1
    · rw [cl _ _ (by omega) (by omega)]; exact t2 g' hg'
    · rw [cl _ _ (by omega) (by omega)]; exact t3 g' hg'
    · rw [cl _ _ (by omega) (by omega)]; exact t4 g' hg'
    · rw [cl _ _ (by omega) (by omega)]; exact t5 g' hg'
    · simp (disch := omega) only [cl]; exact t6 g' hg'
  refine WP_call (k_arrange K21 p21 r21 hk w wp h0 g) (fun x22 h22 => ?_)
  obtain ⟨b1, b2, b3, b4⟩ := h22
  have o22 : KOw x22 k C R0 := ⟨fun p hp => by
    rw [(b4 p).1, (b4 p).2, c1.1 _ _ (by omega), c1.1 _ _ (by omega), (a1 p hp).1, (a1 p hp).2.1]
    exact ⟨rfl, rfl⟩, fun n hn => b2 n hn⟩
  have kw : KWr x22 k C R0 := ⟨K21.chC b3, p21.chC b3, b1, o22⟩
  refine WP_call (k_rt144 kw hk w wp h0 g) (fun y26 h26 => ?_)
  obtain ⟨d1, d2, d3, d4⟩ := h26
  refine WP_call (k_rt175 d1 hk w wp h0 g d2 (u := u) (by omega)) (fun y30 h30 => ?_)
  obtain ⟨e1, e2, e3⟩ := h30
  have e1 : KWr y30 k C (rtF C u) := e1
  have e2 : RV C (rtF C u) := e2
  unfold mX22_forgetWires mX22_forgetLayout
  rw [e1.1.1.1, gk_chip hk, wf_eq, wf_eq, bX_some, bX_some, gR_sI, gR_sI, e1.1.1.1, gk_chip hk, wf_eq]
  obtain ⟨v, hv⟩ : ∃ v, v = sI (sI (sI y30 (344 + 22 * k) 16 0) (344 + 22 * k) 20 (-1)) (344 + 22 * k) 16 1 := ⟨_, rfl⟩
  rw [← hv]
  have vN : ∀ a i, ¬ (a = 344 + 22 * k ∧ (i = 16 ∨ i = 20)) → gI v a i = gI y30 a i := fun a i q => by rw [hv, hI_sI, if_neg (by omega), hI_sI, if_neg (by omega), hI_sI, if_neg (by omega)]
  have vR : ∀ a i, gR v a i = gR y30 a i := fun a i => by rw [hv]; rfl
  have ov : KOw v k C (rtF C u) := ⟨fun p hp => by rw [vN _ _ (by omega), vN _ _ (by omega)]; exact e1.2.2.2.1 p hp, fun n hn => by rw [vN _ _ (by omega)]; exact e1.2.2.2.2 n hn⟩
  have Kv : KRt v k C := ⟨⟨(vR _ _).trans e1.1.1.1, (vN _ _ (by omega)).trans e1.1.1.2.1, (vN _ _ (by omega)).trans e1.1.1.2.2.1, (vN _ _ (by omega)).trans e1.1.1.2.2.2.1, (vN _ _ (by omega)).trans e1.1.1.2.2.2.2⟩, fun p hp => (vN _ _ (by omega)).trans (e1.1.2 p hp)⟩
  have Pv : KPp v k C := by
    obtain ⟨q1, q2, q3⟩ := e1.2.1
    refine ⟨?_, (vR _ _).trans q2, ?_⟩
    · have c : Ch (344 + 22 * k) (344 + 22 * k) y30 v := by rw [hv]; exact ((Ch.refl.sI (by omega)).sI (by omega)).sI (by omega)
      unfold KPins at q1 ⊢
      simp (disch := omega) only [c.1]; exact q1
    · unfold RepP at q3 ⊢
      simp (disch := omega) only [vN]; exact q3
  have Wv : KWr v k C (rtF C u) := ⟨Kv, Pv, ⟨(vN _ _ (by omega)).trans e1.2.2.1.1, fun i hi => (vN _ _ (by omega)).trans (e1.2.2.1.2 i hi)⟩, ov⟩
  refine WP_call (k_open Wv hk g e2.1.1) (fun x hx => WP_some.2 ?_)
  exact ⟨hx, ov, e2, d4, d2, by dsimp only; rw [hv, gI_set]; rfl, by dsimp only; rw [hv, hI_sI_i (by omega), gI_set]; rfl⟩
end KRTE
section MRTE
variable {S z : Sto} {k : Nat} {C : Chp}
theorem m_rt65 (h6 : gI S 2000 176 = ((2 * kLy C : Nat) : Int)) (hk : k < 4) (g : GSz C) : WP (lpF (mX23_route_L65 (k : Int)) (0, S)) (fun z => (∀ p, p < 2 * kLy C → gI z 2140 p = -1 ∧ gI z 2135 (4712 * k + p) = -1 ∧ gI z 2136 (4712 * k + p) = 0 ∧ gI z 2137 (4712 * k + p) = 0 ∧ gI z 2138 (4712 * k + p) = 0) ∧ (∀ a i, a ≠ 2140 → ¬ (2135 ≤ a ∧ a ≤ 2138 ∧ 4712 * k ≤ i ∧ i < 4712 * k + 4712) → gI z a i = gI S a i)) := by
  have g5 := g.2.2.2.2.1
  refine WP_cnt (2 * kLy C) (fun i s => s.1 = (i : Int) ∧ (∀ p, p < i → gI s.2 2140 p = -1 ∧ gI s.2 2135 (4712 * k + p) = -1 ∧ gI s.2 2136 (4712 * k + p) = 0 ∧ gI s.2 2137 (4712 * k + p) = 0 ∧ gI s.2 2138 (4712 * k + p) = 0) ∧ (∀ a i, a ≠ 2140 → ¬ (2135 ≤ a ∧ a ≤ 2138 ∧ 4712 * k ≤ i ∧ i < 4712 * k + 4712) → gI s.2 a i = gI S a i)) (by unfold cFU; omega) ⟨rfl, fun p hp => absurd hp (Nat.not_lt_zero _), fun _ _ _ _ => rfl⟩ (fun i s hi hI => ?_) (fun s hI => ?_)
  · obtain ⟨z1, z2⟩ := s
    obtain ⟨b1, b2, b3⟩ := hI
    dsimp only at b1 b2 b3
    subst b1
    have zt : (4712 * (k : Int) + (i : Int)).toNat = 4712 * k + i := by omega
    unfold mX23_route_L65
    dsimp only
    rw [b3 _ _ (by omega) (by omega), h6, w32_id (by omega), w32_id (by omega), if_pos (by omega), wrI_e (by omega), wrI_e (by omega), wrI_e (by omega), wrI_e (by omega), wrI_e (by omega), Int.toNat_natCast, zt]
    refine WP_some.2 ⟨by show (i : Int) + 1 = _; omega, fun p hp => ?_, fun a j q1 q2 => ?_⟩
    · dsimp only
      by_cases e : p = i
      · rw [e]
        refine ⟨?_, ?_, ?_, ?_, ?_⟩
        · rw [hI_sI_a (by omega), hI_sI_a (by omega), hI_sI_a (by omega), hI_sI_a (by omega), gI_set]; rfl
        · rw [hI_sI_a (by omega), hI_sI_a (by omega), hI_sI_a (by omega), gI_set]; rfl
        · rw [hI_sI_a (by omega), hI_sI_a (by omega), gI_set]; rfl
        · rw [hI_sI_a (by omega), gI_set]; rfl
        · rw [gI_set]; rfl
      · have b := b2 p (by omega)
        refine ⟨?_, ?_, ?_, ?_, ?_⟩
        · rw [hI_sI_a (by omega), hI_sI_a (by omega), hI_sI_a (by omega), hI_sI_a (by omega), hI_sI_i e]; exact b.1
        · rw [hI_sI_a (by omega), hI_sI_a (by omega), hI_sI_a (by omega), hI_sI_i (by omega), hI_sI_a (by omega)]; exact b.2.1
        · rw [hI_sI_a (by omega), hI_sI_a (by omega), hI_sI_i (by omega), hI_sI_a (by omega), hI_sI_a (by omega)]; exact b.2.2.1
        · rw [hI_sI_a (by omega), hI_sI_i (by omega), hI_sI_a (by omega), hI_sI_a (by omega), hI_sI_a (by omega)]; exact b.2.2.2.1
        · rw [hI_sI_i (by omega), hI_sI_a (by omega), hI_sI_a (by omega), hI_sI_a (by omega), hI_sI_a (by omega)]; exact b.2.2.2.2
    · dsimp only
      rw [hI_sI, if_neg (by omega), hI_sI, if_neg (by omega), hI_sI, if_neg (by omega), hI_sI, if_neg (by omega), hI_sI_a q1]; exact b3 a j q1 q2
  · obtain ⟨z1, z2⟩ := s
    obtain ⟨b1, b2, b3⟩ := hI
    dsimp only at b1 b2 b3
    subst b1
    unfold mX23_route_L65
    dsimp only
    rw [b3 _ _ (by omega) (by omega), h6, w32_id (by omega), if_neg (by omega)]
    exact WP_some.2 ⟨b2, b3⟩
theorem m_rt140 (hp : MPp S C) (hw : gI S 2000 174 = (kW C : Int)) (w : WFC C) (wp : WFP C) (h0 : C 16 0 ≠ 0) (g : GSz C) (hi : ∀ p, p < 2 * kLy C → gI S 2140 p = -1) : WP (lpF mX23_route_L140 (0, S)) (fun z => Ch 2140 2140 S z ∧ ∀ p, p < 2 * kLy C → gI z 2140 p = kp C p) := by
  have g5 := g.2.2.2.2.1
  have g7 := g.2.2.2.2.2.2.1
  have g8 := g.2.2.2.2.2.2.2
  refine WP_cnt (kPn C) (fun i s => s.1 = (i : Int) ∧ Ch 2140 2140 S s.2 ∧ ∀ p, p < 2 * kLy C → gI s.2 2140 p = kpt C i p) (by unfold cFU; omega) ⟨rfl, Ch.refl, hi⟩ (fun i s hi hI => ?_) (fun s hI => ?_)
  · obtain ⟨z1, z2⟩ := s
    obtain ⟨b1, b2, b3⟩ := hI
    dsimp only at b1 b2 b3
    subst b1
    have pz : MPp z2 C := MPins.mv hp (b2.1 _ _ (by omega)) (fun a i _ _ => b2.1 _ _ (by omega))
    have e1 : gI z2 2000 159 = (kPn C : Int) := pz.1
    obtain ⟨m1, m2, m3⟩ := mp_at pz h0 hi
    have ow := ((kPins_ok w).1 i (show i < kPn C from hi)).1
    have ow : (kPf C i).1 < kN C := ow
    have pl := (pp_lt w wp h0 hi).1
    have mp : mX23_pointOf z2 (pvX C i) (pvY C i) = some (pp C i : Int) := by
      unfold mX23_pointOf
      rw [b2.1 _ _ (by omega), hw, (pp_lt w wp h0 hi).2.1]
    unfold mX23_route_L140
    dsimp only
    rw [e1, w32_id (by omega), w32_id (by omega), if_pos (by omega), rdI_e (by omega), rdI_e (by omega), Int.toNat_natCast, m2, m3, mp, bX_some, rdI_e (by omega), Int.toNat_natCast, m1, wrI_e (by omega), Int.toNat_natCast]
    refine WP_some.2 ⟨by show (i : Int) + 1 = _; omega, b2.sI (by omega), fun p hp' => ?_⟩
    dsimp only
    show _ = (if p = pp C i then ((kPf C i).1 : Int) else kpt C i p)
    by_cases e : p = pp C i
    · rw [e, gI_set, if_pos rfl, w32_id (by omega)]
    · rw [hI_sI_i e, if_neg e]; exact b3 p hp'
  · obtain ⟨z1, z2⟩ := s
    obtain ⟨b1, b2, b3⟩ := hI
    dsimp only at b1 b2 b3
    subst b1
    have pz : MPp z2 C := MPins.mv hp (b2.1 _ _ (by omega)) (fun a i _ _ => b2.1 _ _ (by omega))
    have e1 : gI z2 2000 159 = (kPn C : Int) := pz.1
    unfold mX23_route_L140
    dsimp only
    rw [e1, if_neg (by omega)]
    exact WP_some.2 ⟨b2, b3⟩
theorem m_rt183 (r : RefK S k C) (hb : MBox S C (kPn C)) (hk : k < 4) (w : WFC C) (g : GSz C) : WP (lpF (mX23_route_L183 (k : Int)) (0, S)) (fun z => (∀ n, n < kN C → gI z 2139 (256 * k + n) = RS0 C 22 n) ∧ ∀ a i, ¬ (a = 2139 ∧ 256 * k ≤ i ∧ i < 256 * k + 256) → gI z a i = gI S a i) := by
  have g7 := g.2.2.2.2.2.2.1
  have g8 := g.2.2.2.2.2.2.2
  refine WP_cnt (kN C) (fun i s => s.1 = (i : Int) ∧ (∀ n, n < i → gI s.2 2139 (256 * k + n) = RS0 C 22 n) ∧ ∀ a i, ¬ (a = 2139 ∧ 256 * k ≤ i ∧ i < 256 * k + 256) → gI s.2 a i = gI S a i) (by unfold cFU; omega) ⟨rfl, fun p hp => absurd hp (Nat.not_lt_zero _), fun _ _ _ => rfl⟩ (fun i s hi hI => ?_) (fun s hI => ?_)
  · obtain ⟨z1, z2⟩ := s
    obtain ⟨b1, b2, b3⟩ := hI
    dsimp only at b1 b2 b3
    subst b1
    have zt : (256 * (k : Int) + (i : Int)).toNat = 256 * k + i := by omega
    have rz : RefK z2 k C := r.cg (fun a i _ _ => b3 a i (by omega))
    have ml := pMany_le (f := kPf C) (n := i) (m := kPn C)
    have mr : kMany C i ≤ 640 := by unfold kMany; omega
    have mn : gI z2 2129 i = (kMany C i : Int) := (b3 _ _ (by omega)).trans (hb i hi).1
    unfold mX23_route_L183
    dsimp only
    rw [m_netCount rz w hk, bX_some, w32_id (by omega), w32_id (by omega), if_pos (by omega), rdI_e (by omega), Int.toNat_natCast, mn, w32_id (by omega), wrI_e (by omega), zt]
    refine WP_some.2 ⟨by show (i : Int) + 1 = _; omega, fun n hn => ?_, fun a j q => ?_⟩
    · dsimp only
      by_cases e : n = i
      · rw [e, gI_set, rs_22]
        by_cases q : kMany C i < 2
        · rw [if_neg (by omega), if_pos q]; rfl
        · rw [if_pos (by omega), if_neg q]; rfl
      · rw [hI_sI_i (by omega)]; exact b2 n (by omega)
    · dsimp only
      rw [hI_sI, if_neg (by omega)]; exact b3 a j q
  · obtain ⟨z1, z2⟩ := s
    obtain ⟨b1, b2, b3⟩ := hI
    dsimp only at b1 b2 b3
    subst b1
    have rz : RefK z2 k C := r.cg (fun a i _ _ => b3 a i (by omega))
    unfold mX23_route_L183
    dsimp only
    rw [m_netCount rz w hk, bX_some, w32_id (by omega), if_neg (by omega)]
    exact WP_some.2 ⟨b2, b3⟩
theorem m_rt303 {R : Chp} (r : RefK S k C) (o : MOw S k C R) (rr : RRg C R) (hk : k < 4) (w : WFC C) (g : GSz C) : WP (lpF (mX23_route_L303 S (k : Int)) (0, 0)) (fun z => z = ((smN (fun m => if R 22 m = 0 then 0 else 1) (kN C) : Nat) : Int)) := by
  have g7 := g.2.2.2.2.2.2.1
  have ol : ∀ i, smN (fun m => if R 22 m = 0 then 0 else 1) i ≤ i := fun i => by
    have := smN_le (f := fun m => if R 22 m = 0 then 0 else 1) (n := i) (b := 1) (fun x _ => by split <;> omega)
    omega
  refine WP_cnt (kN C) (fun i s => s.2 = (i : Int) ∧ s.1 = ((smN (fun m => if R 22 m = 0 then 0 else 1) i : Nat) : Int)) (by unfold cFU; omega) ⟨rfl, rfl⟩ (fun i s hi hI => ?_) (fun s hI => ?_)
  · obtain ⟨z1, z2⟩ := s
    obtain ⟨b1, b2⟩ := hI
    dsimp only at b1 b2
    subst b1 b2
    have zt : (256 * (k : Int) + (i : Int)).toNat = 256 * k + i := by omega
    unfold mX23_route_L303
    dsimp only
    rw [m_netCount r w hk, bX_some, w32_id (by omega), w32_id (by omega), if_pos (by omega), rdZ_e (by omega), zt, o.2 i hi]
    refine WP_some.2 ⟨by show (i : Int) + 1 = _; omega, ?_⟩
    show ((smN (fun m => if R 22 m = 0 then 0 else 1) i : Nat) : Int) + (if ¬ w32 (bz (R 22 i)) = 0 then 1 else 0) = ((smN (fun m => if R 22 m = 0 then 0 else 1) i + (if R 22 i = 0 then 0 else 1) : Nat) : Int)
    by_cases q : R 22 i = 0
    · rw [q, if_neg (by decide), if_pos rfl]; omega
    · have : R 22 i = 1 := (rr.2 i hi).resolve_left q
      rw [this, if_pos (by decide), if_neg (by decide)]; omega
  · obtain ⟨z1, z2⟩ := s
    obtain ⟨b1, b2⟩ := hI
    dsimp only at b1 b2
    subst b1 b2
    unfold mX23_route_L303
    dsimp only
    rw [m_netCount r w hk, bX_some, w32_id (by omega), if_neg (by omega)]
    exact WP_some.2 rfl
/-- what is kept of the reference but the chip's own wires -/
def CMr (k : Nat) (S z : Sto) : Prop := ∀ a i, kept a i = true → ¬ ((a = 2134 ∨ a = 2146) ∧ i = k) → ¬ (2135 ≤ a ∧ a ≤ 2138 ∧ 4712 * k ≤ i ∧ i < 4712 * k + 4712) → ¬ (a = 2139 ∧ 256 * k ≤ i ∧ i < 256 * k + 256) → gI z a i = gI S a i
theorem m_route (hch : mX23_isChip S (k : Int) = some 1) (r : RefK S k C) (rP : RefP S k C) (hk : k < 4) (w : WFC C) (wx : WFX C) (h0 : C 16 0 ≠ 0) {u : Nat} (hu : u ≤ 12) (h1 : P1all C (rC C)) (v1 : RV C (p1F C (rC C))) :
    WP (mX23_route S (k : Int) (u : Int)) (fun z => z.1 = (opN C (rtF C u) (rC C) : Int) ∧ gI z.2 2000 0 = 0 ∧ MOw z.2 k C (rtF C u) ∧ gI z.2 2134 k = 1 ∧ gI z.2 2146 k = 0 ∧ CMr k S z.2) := by
  have wp := wx.1
  have g := GSz_of w wp h0
  obtain ⟨g1, g2, g3, g4, g5, g6, g7, g8⟩ := id g
  have hH := kH_le w wp
  have p1 := wp.1
  have eh : (kHn C : Int) = kH C := by show ((kH C).toNat : Int) = _; omega
  have e16 := rP.1.1
  unfold mX23_route
  rw [hch, bX_some, if_neg (by decide), m_within_t (by omega) (by omega) (by omega) (by omega), bX_some, if_neg (by decide), rdI_e (by omega), Int.toNat_natCast, e16, w32_id (by omega), if_neg h0, bX_some, wf_eq, gI_set, if_neg (by decide)]
  have k1 : KeM S (sI S 2000 0 0) := KeM.refl.sI (by omega)
  have km : ∀ a i, kept a i = true → gI (sI S 2000 0 0) a i = gI S a i := fun a i q => by rw [hI_sI, if_neg (kept_2000 q)]
  refine WP_callF (m_layGrid (k1.K r) (k1.P rP) w wx h0 hk) fr_mX23_layGrid (fun x6 h6 f6 => ?_)
  have k6 : KeM S x6 := k1.tr (KeM.fr f6 rfl)
  refine WP_callF (m_layRow (k6.K r) (k6.P rP) hk w wp h0 g) fr_mX23_layRow (fun x7 h7 f7 => ?_)
  obtain ⟨a1, a2, a3, a4⟩ := h7
  have s7 : Sc (sI S 2000 0 0) x7 := (Sc.fr f6 rfl rfl).tr (Sc.fr f7 rfl rfl)
  have G7 : MGrid x7 k C := h6.fr f7 rfl
  have z7 : gI x7 2000 0 = 0 := (f7.ei rfl).trans ((f6.ei rfl).trans (by rw [gI_set]; rfl))
  have k7 : KeM S x7 := k6.tr a4
  refine WP_call (m_rt65 (C := C) G7.2.2.2 hk g) (fun y14 h14 => ?_)
  obtain ⟨b1, b2⟩ := h14
  have p14 : MPp y14 C := MPins.mv a1 (b2 _ _ (by omega) (by omega)) (fun a i _ _ => b2 _ _ (by omega) (by omega))
  refine WP_call (m_rt140 p14 ((b2 _ _ (by omega) (by omega)).trans G7.2.1) w wp h0 g (fun p hp => (b1 p hp).1)) (fun y21 h21 => ?_)
  obtain ⟨c1, c2⟩ := h21
  have n21 : ∀ a i, a ≠ 2140 → ¬ (2135 ≤ a ∧ a ≤ 2138 ∧ 4712 * k ≤ i ∧ i < 4712 * k + 4712) → gI y21 a i = gI x7 a i := fun a i q1 q2 => (c1.1 a i (by omega)).trans (b2 a i q1 q2)
  have k21 : KeM S y21 := fun a i q => (n21 a i (by omega) (by omega)).trans (k7 a i q)
  have B21 : MBox y21 C (kPn C) := fun n hn => by
    have b := a2 n hn
    rw [n21 _ _ (by omega) (by omega), n21 _ _ (by omega) (by omega), n21 _ _ (by omega) (by omega), n21 _ _ (by omega) (by omega), n21 _ _ (by omega) (by omega)]; exact b
  refine WP_call (m_rt183 (k21.K r) B21 hk w g) (fun y26 h26 => ?_)
  obtain ⟨d1, d2⟩ := h26
  have n26 : ∀ a i, a ≠ 2140 → ¬ (2135 ≤ a ∧ a ≤ 2138 ∧ 4712 * k ≤ i ∧ i < 4712 * k + 4712) → ¬ (a = 2139 ∧ 256 * k ≤ i ∧ i < 256 * k + 256) → gI y26 a i = gI x7 a i := fun a i q1 q2 q3 => (d2 a i q3).trans (n21 a i q1 q2)
  have R26 : MRt y26 k C := ⟨⟨(n26 _ _ (by omega) (by omega) (by omega)).trans G7.1, (n26 _ _ (by omega) (by omega) (by omega)).trans G7.2.1, (n26 _ _ (by omega) (by omega) (by omega)).trans (G7.2.2.1.trans eh.symm), (n26 _ _ (by omega) (by omega) (by omega)).trans G7.2.2.2⟩, fun p hp => (d2 _ _ (by omega)).trans (c2 p hp)⟩
  have O26 : MOw y26 k C (RS0 C) := ⟨fun p hp => by
    have b := b1 p hp
    rw [d2 _ _ (by omega), d2 _ _ (by omega), d2 _ _ (by omega), d2 _ _ (by omega), c1.1 _ _ (by omega), c1.1 _ _ (by omega), c1.1 _ _ (by omega), c1.1 _ _ (by omega), b.2.1, b.2.2.1, b.2.2.2.1, b.2.2.2.2]
    exact ⟨rfl, rfl, rfl, rfl⟩, d1⟩
  have M26 : MW y26 k C (RS0 C) := ⟨R26, MPins.mv a1 (n26 _ _ (by omega) (by omega) (by omega)) (fun a i _ _ => n26 _ _ (by omega) (by omega) (by omega)), ⟨(n26 _ _ (by omega) (by omega) (by omega)).trans a3.1, fun i hi => (n26 _ _ (by omega) (by omega) (by omega)).trans (a3.2 i hi)⟩, O26⟩
  refine WP_call (m_connectOpen M26 hk w wp h0 g (RS0_rv C) (b := -1) (by omega) (fun n hn => by omega)) (fun x27 h27 => ?_)
  obtain ⟨e1, e2, e3, e4⟩ := h27
  have M27 : MW x27 k C (p1F C (rC C)) := ⟨e1.1, e1.2.1, e1.2.2.1, e1.2.2.2.eq (first_eq w h1 e4 v1 e2)⟩
  refine WP_call (m_rt235 M27 hk w wp h0 g v1 (u := u) (by omega)) (fun y34 h34 => ?_)
  obtain ⟨f1, f2, f3⟩ := h34
  have f1 : MW y34 k C (rtF C u) := f1
  have f2 : RV C (rtF C u) := f2
  have cm := e3.tr f3
  rw [wrI_e (by omega), wrI_e (by omega), Int.toNat_natCast]
  have n36 : ∀ a i, ¬ ((a = 2134 ∨ a = 2146) ∧ i = k) → gI (sI (sI y34 2134 k 1) 2146 k 0) a i = gI y34 a i := fun a i q => by rw [hI_sI, if_neg (by omega), hI_sI, if_neg (by omega)]
  have O36 : MOw (sI (sI y34 2134 k 1) 2146 k 0) k C (rtF C u) := ⟨fun p hp => by rw [n36 _ _ (by omega), n36 _ _ (by omega), n36 _ _ (by omega), n36 _ _ (by omega)]; exact f1.2.2.2.1 p hp, fun n hn => by rw [n36 _ _ (by omega)]; exact f1.2.2.2.2 n hn⟩
  have k36 : RefK (sI (sI y34 2134 k 1) 2146 k 0) k C := r.cg (fun a i l1 l2 => by rw [n36 _ _ (by omega), cm.1 _ _ (by omega) (by omega) (by omega), n26 _ _ (by omega) (by omega) (by omega)]; exact k7 a i (by omega))
  refine WP_call (m_rt303 k36 O36 f2.1.1 hk w g) (fun v hv => WP_some.2 ?_)
  refine ⟨by dsimp only; rw [hv, opN_all f2], ?_, O36, ?_, ?_, fun a i q q1 q2 q3 => ?_⟩
  · dsimp only
    rw [n36 _ _ (by omega), cm.1 _ _ (by omega) (by omega) (by omega), n26 _ _ (by omega) (by omega) (by omega)]; exact z7
  · dsimp only
    rw [hI_sI_a (by omega), gI_set]; rfl
  · dsimp only
    rw [gI_set]; rfl
  · have qn : a ≠ 2140 ∧ ¬ (2141 ≤ a ∧ a ≤ 2144) := by
      unfold kept keptO keptN rowL at q
      simp only [Bool.or_eq_true, Bool.and_eq_true, Nat.beq_eq, Nat.ble_eq] at q
      omega
    dsimp only
    rw [n36 a i q1, cm.1 a i qn.2 q2 q3, n26 a i qn.1 q2 q3, s7.1 a i q, km a i q]
end MRTE
