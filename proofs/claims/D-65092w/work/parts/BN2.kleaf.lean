/-! the class makes gates: a leaf, the whole recursion, a root -/
section KLEAF
variable {S z : Sto} {G : Dsg} {B : Lib} {d n i k c m o tu x t b f F : Nat} {s s1 : MkS}
theorem k_putL (w : WFG G) (wl : WFL B) (hd : d < 6) (hk : k < 4) (hn : n < gNo G) (hM : KMg S G B d k) (hO : KOu S G k (b + 1) s1 z) (hl : s1.1.length + (b + 1) ≤ 150) {p1 p2 p3 p4 : Int} (r1 : -2147483648 ≤ p1 ∧ p1 < 2147483648) (r2 : -2147483648 ≤ p2 ∧ p2 < 2147483648) (r3 : -2147483648 ≤ p3 ∧ p3 < 2147483648) (r4 : -2147483648 ≤ p4 ∧ p4 < 2147483648) {Q : Sto ⊕ (Int × Sto) → Prop} (hQ : ∀ z, KOu S G k b (mkA G s1 n 2 (p1, p2, p3, p4)) z → Q (.inl z)) :
    WP (bX (mX12_addGate z p1 p2 p3 p4) fun x8 => wrI 1013 x8.2 216 (n : Int) x8.1 fun S9 => some (Sum.inl S9)) Q := by
  have hno := no_le w
  have ng := w.nums
  have e13 : gFi G = 1 + gIn G + gSt G := rfl
  obtain ⟨h1, h2, h3⟩ := hO
  obtain ⟨a1, a2, a3⟩ := h2 hl
  refine WP_call (k_addGate hk (hM.cw w wl hd hk h1) a1 a2 (by omega) r1 r2 r3 r4) (fun y hy => ?_)
  obtain ⟨y1, y2, y3, y4, y5⟩ := hy
  rw [wrI_e (by omega), Int.toNat_natCast]
  refine WP_some.2 (hQ _ ⟨(h1.tr y5 (fun _ _ g => g)).sI (.inr (.inr (.inl rfl))), fun _ => ⟨KSg_put2 hk y2 y1 (by omega) (by omega), ?_, ?_⟩, fun q => ?_⟩)
  · rw [hI_sI_a (by omega)]; exact y3
  · rw [hI_sI_a (by omega), y4]; exact a3
  · rw [mkA_len] at q; omega
theorem k_leafS {rg rl : Sto → Int → Int → Option (Int × Sto)} (w : WFG G) (wl : WFL B) (hr : rOK G B) (hd : d < 6) (hk : k < 4) (hg : GateQ G B d k rg F) (hlf : LeafQ G B d k rl F) : LeafQ G B d k (bX12_leaf rg rl) (F + 1) := by
  intro f x t b s S hx hni ht hgd hrk hI hlb hF
  have hno := no_le w
  have ng := w.nums
  have e13 : gFi G = 1 + gIn G + gSt G := rfl
  have xl := Wt_lt w hx.1
  have hv := hI.2.2.2.2
  unfold bX12_leaf
  rcases (show t = 0 ∨ t = 1 by omega) with rfl | rfl
  · have ik : inK G x 0 = 0 := by unfold inK; rw [cG_f hni, if_pos rfl]
    rw [ik] at hgd hrk
    rw [if_pos (by decide), hI.1.1.1, gk_dsg hd, k_isAnd hI.1.1.2 w (by omega), bX_some]
    by_cases g : gFi G ≤ x
    · have hk' : hasK G x 0 := .inl g
      have e : lfR G B f x 0 s = mkR G B f x 0 s := by unfold lfR; rw [cG_t hk', ik]
      have ea : (if ¬ (x : Int) < gFi G then (if (x : Int) < gNo G then (1 : Int) else 0) else 0) = 1 := by rw [if_pos (by omega), if_pos (by omega)]
      rw [ea, if_pos (by decide), e, inN_it (by omega) hk', ik]
      refine WP_call (R := KOut S G k b (mkR G B f x 0 s) ((mkR G B f x 0 s).2 x 0)) (WP_call (hg f x 0 b s S (hgd hk') (by omega) hrk hI hlb (by omega)) (fun y hy => WP_some.2 hy)) (fun y hy => WP_some.2 hy)
    · have hk' : ¬ hasK G x 0 := fun h => by rcases h with h | h; exact g h; exact h rfl
      have e : lfR G B f x 0 s = s := by unfold lfR; rw [cG_f hk']
      have ea : (if ¬ (x : Int) < gFi G then (if (x : Int) < gNo G then (1 : Int) else 0) else 0) = 0 := by rw [if_neg (by omega)]
      rw [ea, if_neg (by decide), bX_some, e, (inN_src hx hk').1]
      exact WP_some.2 ⟨⟨ChW.refl, fun _ => ⟨hI.2.1, hI.2.2.1, hI.2.2.2.1⟩, fun g => by omega⟩, fun _ => rfl⟩
  · have hk' : hasK G x 1 := .inr (by omega)
    have ik : inK G x 1 = 2 := by unfold inK; rw [cG_f hni, if_neg (by omega)]
    rw [ik] at hgd hrk
    have hgd := hgd hk'
    obtain ⟨f, rfl⟩ : ∃ f', f = f' + 1 := ⟨f - 1, by omega⟩
    have e : lfR G B (f + 1) x 1 s = mkR G B (f + 1) x 2 s := by unfold lfR; rw [cG_t hk', ik]
    have rk2 : rkK G B x 2 = 4 * x + 2 := rfl
    rw [e, inN_it (by omega) hk', ik]
    obtain ⟨s', hs'⟩ : ∃ s', s' = mkR G B (f + 1) x 2 s := ⟨_, rfl⟩
    have es : s' = mkF G B (mkR G B f) x 2 s := hs'
    rw [← hs']
    have r216 : s.2 x 2 = -1 ∨ (0 ≤ s.2 x 2 ∧ s.2 x 2 < 5000) := by have := hv x 2; omega
    have nt : ∀ {z : Sto} {s : MkS}, KSg z G k s → gI z 216 x = s.2 x 2 := fun {z s} h => (h.2.2 x xl).2.2
    have lst : ∀ z, KOu S G k b s' z → WP (rdI 1013 z 216 (x : Int) fun v11 => some (v11, z)) (KOut S G k b s' (s'.2 x 2)) := fun z hz => by
      rw [rdI_e (by omega), Int.toNat_natCast]
      exact WP_some.2 ⟨hz, fun g => nt (hz.2.1 g).1⟩
    rw [if_neg (by decide), rdI_e (by omega), Int.toNat_natCast, nt hI.2.1]
    by_cases q : s.2 x 2 = -1
    case neg =>
      have e' : s' = s := by rw [es, mkF_stay q]
      rw [w32_id (by omega), if_neg q, bE_inl]
      exact lst _ (by rw [e']; exact ⟨ChW.refl, fun _ => ⟨hI.2.1, hI.2.2.1, hI.2.2.2.1⟩, fun g => by omega⟩)
    case pos =>
      have gl := gate_len w wl hr hgd hrk hv q
      rw [← hs'] at gl
      rw [q, w32_id (by decide), if_pos rfl]
      refine WP_bE.2 (WP_call (k_begins hk hI.1.2.2.2.2.1 hI.2.1.1 hI.2.2.1 hI.2.2.2.1 (by omega)) (fun y hy => ?_))
      obtain ⟨c1, c2, c3, c4⟩ := hy
      have c1' : ChW (PGk k) S y.2 := ChW.refl.tr c1 (fun _ _ g => .inl g)
      by_cases nf : s.1.length + b + 1 ≤ 150
      case neg =>
        obtain ⟨d1, d2⟩ := c4 (by omega)
        rw [d1, if_neg (by decide)]
        exact WP_some.2 (lst _ ⟨c1', fun g => by omega, fun _ => d2⟩)
      case pos =>
        obtain ⟨d1, d2⟩ := c3 nf
        have In : KIn y.2 G B d k s (b + 1) := hI.mv w wl hd hk c1' ⟨hI.2.1.mv hk (fun a i g => c1.1 _ _ (fun k => by omega)), c2, d2⟩ hv
        have ik0 : inK G x 0 = 0 := by unfold inK; rw [cG_f hni, if_pos rfl]
        have gd0 : hasK G x 0 → GdK G B x (inK G x 0) := fun h => by
          have gx : gFi G ≤ x := h.resolve_right (fun k => k rfl)
          have xa : AndG G x := ⟨gx, xl, hx.1⟩
          have xr : Rt G x := Classical.byContradiction (fun r => hni ⟨gx, xl, hx.1, r⟩)
          rw [ik0]
          exact .inl ⟨by omega, xa, .inr (.inl rfl), hr x xa xr⟩
        have rk0 : rkK G B x (inK G x 0) < f := by rw [ik0]; have := rk0_le (G := G) (B := B) (n := x); omega
        rw [d1, if_pos (by decide)]
        have call := hlf f x 0 (b + 1) s y.2 hx hni (by omega) gd0 rk0 In (by omega) (by omega)
        have el : lfR G B f x 0 s = if gFi G ≤ x then mkR G B f x 0 s else s := by
          unfold lfR
          rw [ik0]
          by_cases g : gFi G ≤ x
          · rw [if_pos g, cG_t (.inl g)]
          · rw [if_neg g, cG_f (fun h => by rcases h with h | h; exact g h; exact h rfl)]
        have vl : MkV G (lfR G B f x 0 s) := by
          rw [el]
          by_cases g : gFi G ≤ x
          · rw [if_pos g]
            have := gd0 (.inl g)
            rw [ik0] at this rk0
            exact (mkR_ok w wl hr f x 0 s this rk0 hv).1
          · rw [if_neg g]; exact hv
        have ei : inN G (lfR G B f x 0 s) x 0 = if gFi G ≤ x then (mkR G B f x 0 s).2 x 0 else (x : Int) - 1 := by
          unfold inN
          rw [cG_f hni, if_pos rfl, el]
          by_cases g : gFi G ≤ x
          · rw [if_pos g, if_pos g, if_pos g]
          · rw [if_neg g, if_neg g]
        rw [mkF_2 q, ← el, ← ei] at es
        generalize lfR G B f x 0 s = s1 at *
        have sl : s'.1.length = s1.1.length + 1 := by rw [es, mkA_len]
        refine WP_call call (fun x7 hx7 => ?_)
        obtain ⟨hx1, hx2⟩ := hx7
        have o2 : KOu S G k (b + 1) s1 x7.2 := ⟨c1'.tr hx1.1 (fun _ _ g => g), hx1.2⟩
        by_cases full : s1.1.length + (b + 1) ≤ 150
        · obtain ⟨a1, a2, a3⟩ := o2.2.1 full
          have e3 : gI x7.2 198 3 = lInv B := (hI.1.cw w wl hd hk o2.1).2.1.2.2
          have r' : -1 ≤ lInv B ∧ lInv B < (liN B : Int) := lInvN_rng (B := B) (n := liN B)
          have ln := wl.nums
          have nr := inN_rng (t := 0) w vl hx (by omega)
          rw [a3, show w32 (bz 0) = 0 from rfl, if_neg (by decide), e3, hx2 full]
          refine k_putL w wl hd hk xl hI.1 o2 full (by omega) (by omega) (by decide) (by decide) (fun z hz => lst z ?_)
          rw [es]; exact hz
        · have a3 := o2.2.2 (by omega)
          rw [a3, show w32 (bz 1) = 1 from rfl, if_pos (by decide)]
          exact WP_some.2 ⟨⟨o2.1, fun g => by omega, fun _ => a3⟩, fun g => by omega⟩
theorem k_gl (w : WFG G) (wl : WFL B) (hr : rOK G B) (hd : d < 6) (hk : k < 4) : ∀ F, GateQ G B d k (mX12_gl F).1 F ∧ LeafQ G B d k (mX12_gl F).2 F := by
  intro F
  induction F with
  | zero =>
    exact ⟨fun f n t b s S _ _ _ _ h1 h2 => by omega, fun f x t b s S _ _ _ _ _ _ h1 h2 => by omega⟩
  | succ F ih => exact ⟨k_gateS w wl hr hd hk ih.1 ih.2, k_leafS w wl hr hd hk ih.1 ih.2⟩
/-- a root's gates and net -/
noncomputable def rtR (G : Dsg) (B : Lib) (p : Nat) (s : MkS) : MkS := if p < 2 then s else lfR G B 5000 (p / 2) (p % 2) s
noncomputable def rtN (G : Dsg) (s : MkS) (p : Nat) : Int := if p < 2 then -1 - (p : Int) else inN G s (p / 2) (p % 2)
theorem isRt_Wt (h : isRt G n) : Wt G n := by
  have key : ∀ j, wtN G j n := by
    intro j
    induction j with
    | zero => exact h
    | succ j ih => exact .inl ih
  exact key _
theorem isRt_nI (h : isRt G n) : ¬ InG G n := fun g => g.2.2.2 (.inl h)
theorem rt_gd (w : WFG G) (hr : rOK G B) (h : isRt G x) (hx : 0 < x) (g : hasK G x t) : GdK G B x (inK G x t) := by
  have wt := isRt_Wt h
  unfold inK
  rw [cG_f (isRt_nI h)]
  by_cases z : t = 0
  · rw [if_pos z]
    have gx : gFi G ≤ x := g.resolve_right (fun k => k z)
    have xa : AndG G x := ⟨gx, Wt_lt w wt, wt⟩
    exact .inl ⟨by omega, xa, .inr (.inl rfl), hr x xa (.inl h)⟩
  · rw [if_neg z]
    exact .inr ⟨rfl, ⟨wt, hx⟩, isRt_nI h⟩
theorem rk_5 (w : WFG G) (hx : x < gNo G) : rkK G B x c < 5000 := by
  have hno := no_le w
  unfold rkK
  by_cases q : c = 2
  · rw [if_pos q]; omega
  · rw [if_neg q]; have := bo_le (p := trn G B x c); omega
theorem k_netOf (w : WFG G) (wl : WFL B) (hr : rOK G B) (hd : d < 6) (hk : k < 4) {p : Nat} (hp : isRt G (p / 2)) (hI : KIn S G B d k s 0) (hl : s.1.length ≤ 150) : WP (mX12_netOf S (p : Int)) (KOut S G k 0 (rtR G B p s) (rtN G (rtR G B p s) p)) := by
  have hno := no_le w
  have xl := Wt_lt w (isRt_Wt hp)
  unfold mX12_netOf rtR rtN
  by_cases g : p < 2
  · rw [w32_id (by omega), if_pos (by omega), if_pos g, if_pos g]
    exact WP_some.2 ⟨⟨ChW.refl, fun _ => ⟨hI.2.1, hI.2.2.1, hI.2.2.2.1⟩, fun g => by omega⟩, fun _ => rfl⟩
  · have e1 : aShr (p : Int) 1 = ((p / 2 : Nat) : Int) := aShr1_n (by omega)
    have e2 : aAnd (p : Int) 1 = ((p % 2 : Nat) : Int) := aAnd1_n
    rw [w32_id (by omega), if_neg (by omega), if_neg g, if_neg g, e1, e2]
    refine WP_call ((k_gl w wl hr hd hk 320).2 5000 (p / 2) (p % 2) 0 s S ⟨isRt_Wt hp, by omega⟩ (isRt_nI hp) (by omega) (fun g => rt_gd w hr hp (by omega) g) (rk_5 w xl) hI (by omega) (by omega)) (fun y hy => WP_some.2 hy)
end KLEAF
