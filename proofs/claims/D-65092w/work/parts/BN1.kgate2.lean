/-! the class makes gates: a gate, a leaf -/
section KGATE2
variable {S z : Sto} {G : Dsg} {B : Lib} {d n i k c m o tu x t b f F : Nat} {s s1 : MkS}
theorem KSg.mv (hk : k < 4) (h : KSg S G k s) (e : ∀ a i, a ≠ 198 → gI z a i = gI S a i) : KSg z G k s := by
  obtain ⟨h1, h2, h3⟩ := h
  refine ⟨(e _ _ (by omega)).trans h1, fun i hi => ?_, fun n hn => ?_⟩
  · obtain ⟨a, b, c, d⟩ := h2 i hi
    exact ⟨(e _ _ (by omega)).trans a, (e _ _ (by omega)).trans b, (e _ _ (by omega)).trans c, (e _ _ (by omega)).trans d⟩
  · obtain ⟨a, b, c⟩ := h3 n hn
    exact ⟨(e _ _ (by omega)).trans a, (e _ _ (by omega)).trans b, (e _ _ (by omega)).trans c⟩
theorem KSg.net (h : KSg S G k s) (hn : n < gNo G) (ht : t < 2) : gI S 215 (2 * n + t) = s.2 n t := by
  obtain ⟨a, b, c⟩ := h.2.2 n hn
  rcases (show t = 0 ∨ t = 1 by omega) with rfl | rfl
  · exact a
  · exact b
theorem gate_len (w : WFG G) (wl : WFL B) (hr : rOK G B) (hg : GdK G B n t) (hrk : rkK G B n t < f + 1) (hv : MkV G s) (q : s.2 n t = -1) : s.1.length + 1 ≤ (mkR G B (f + 1) n t s).1.length := by
  have ro := mkR_ok w wl hr f
  show _ ≤ (mkF G B (mkR G B f) n t s).1.length
  by_cases k2 : t = 2
  · subst k2
    rw [mkF_2 q, mkA_len]
    obtain ⟨_, h1, h2⟩ := hg.resolve_left (fun g => by omega)
    by_cases z : gFi G ≤ n
    · rw [if_pos z]
      have xa : AndG G n := ⟨z, Wt_lt w h1.1, h1.1⟩
      have xr : Rt G n := Classical.byContradiction (fun r => h2 ⟨z, Wt_lt w h1.1, h1.1, r⟩)
      have e2 : rkK G B n 2 = 4 * n + 2 := rfl
      have rk := rk0_le (G := G) (B := B) (n := n)
      have := (ro n 0 s (.inl ⟨by omega, xa, .inr (.inl rfl), hr n xa xr⟩) (by omega) hv).2.1.len
      omega
    · rw [if_neg z]; omega
  · obtain ⟨h0, h1, h2, h3⟩ := hg.resolve_right (fun g => k2 g.1)
    by_cases z : trn G B n t
    · rw [mkF_trn q k2 z, mkA_len]
      have e2 := rk_trn (G := G) (B := B) k2 z
      have e1 := rk_way (G := G) (B := B) (n := n) (k := 1 - t) (by omega) (trn_not h0 z)
      have := (ro n (1 - t) s (hg.turn h0 z) (by omega) hv).2.1.len
      omega
    · obtain ⟨y, hy⟩ := ndR_way h3 z
      rw [mkF_way q k2 z hy, mkA_len]
      have e2 := rk_way (G := G) (B := B) k2 z
      obtain ⟨a1, a2, a3, a4, a5, a6⟩ := way_inp w wl hr h1 hy
      have := (mkI_ok ro (n := n) (by omega) a6 hv _ (Nat.le_refl _)).2.1.len
      omega
/-- a gate is put behind -/
theorem k_putG (w : WFG G) (wl : WFL B) (hd : d < 6) (hk : k < 4) (hn : n < gNo G) (ht : t < 2) (hM : KMg S G B d k) (hO : KOu S G k (b + 1) s1 z) (hl : s1.1.length + (b + 1) ≤ 150) {p1 p2 p3 p4 : Int} (r1 : -2147483648 ≤ p1 ∧ p1 < 2147483648) (r2 : -2147483648 ≤ p2 ∧ p2 < 2147483648) (r3 : -2147483648 ≤ p3 ∧ p3 < 2147483648) (r4 : -2147483648 ≤ p4 ∧ p4 < 2147483648) :
    WP (bX (mX12_addGate z p1 p2 p3 p4) fun x13 => wrI 2026 x13.2 215 (2 * (n : Int) + (t : Int)) x13.1 fun S14 => some S14) (KOu S G k b (mkA G s1 n t (p1, p2, p3, p4))) := by
  have hno := no_le w
  have ng := w.nums
  have e13 : gFi G = 1 + gIn G + gSt G := rfl
  obtain ⟨h1, h2, h3⟩ := hO
  obtain ⟨a1, a2, a3⟩ := h2 hl
  have z2 : (2 * (n : Int) + (t : Int)).toNat = 2 * n + t := by omega
  refine WP_call (k_addGate hk (hM.cw w wl hd hk h1) a1 a2 (by omega) r1 r2 r3 r4) (fun y hy => ?_)
  obtain ⟨y1, y2, y3, y4, y5⟩ := hy
  rw [wrI_e (by omega), z2]
  refine WP_some.2 ⟨(h1.tr y5 (fun _ _ g => g)).sI (.inr (.inl rfl)), fun _ => ⟨KSg_put hk y2 ht hn y1 (by omega) (by omega), ?_, ?_⟩, fun q => ?_⟩
  · rw [hI_sI_a (by omega)]; exact y3
  · rw [hI_sI_a (by omega), y4]; exact a3
  · rw [mkA_len] at q; omega
theorem k_tcond (w : WFG G) (wl : WFL B) (hd : d < 6) (hk : k < 4) (hn : AndG G n) (ht : t < 2) (hM : KMg z G B d k) (hc : InG G n ∨ t = 0 ∨ trn G B n 0) :
    (if w32 (bz (gI z 203 n)) = 0 then bX (mX12_needOf z (n : Int) (t : Int)) fun x4 => rdI 2026 z 204 ((2 * (n : Int)) + (t : Int)) fun v5 => if w32 v5 ≤ w32 x4 then rdZ 1013 z 203 (n : Int) fun v6 => if ¬ w32 v6 = 0 then bX (mX12_needOfRoot z (n : Int)) fun x7 => rdI 2026 z 204 ((2 * (n : Int)) + (t : Int)) fun v8 => if w32 x7 < w32 v8 then some true else some false else some false else some true else rdZ 1013 z 203 (n : Int) fun v9 => if ¬ w32 v9 = 0 then bX (mX12_needOfRoot z (n : Int)) fun x10 => rdI 2026 z 204 ((2 * (n : Int)) + (t : Int)) fun v11 => if w32 x10 < w32 v11 then some true else some false else some false) = some (cG (trn G B n t) true false) := by
  have hno := no_le w
  have nn := hn.2.1
  have z2 : (2 * (n : Int) + (t : Int)).toNat = 2 * n + t := by omega
  have e3 := hM.2.2.1 n hn.1 nn
  have e4 := (hM.2.2.2.1 n hn nn t ht).1
  have tl := trn_lt (t := t) w wl hn
  obtain ⟨rg1, rg2⟩ := ecn_rng (t := t) w wl hn
  by_cases q : InG G n
  · have nr : ¬ Rt G n := q.2.2.2
    have wd : WdG G n := ⟨hn.2.2, by have := hn.1; unfold gFi at this; omega⟩
    have nd := k_needOf (x := n) (t := t) (n := gNo G) w wl hM.1 hd hM.2.1 hk hM.2.2.1 hM.2.2.2.1 wd nn ht
    have en : ndO G B (WW G B) n t = ndR G B n t := by unfold ndO; rw [cG_t q]; rfl
    rw [en] at nd
    rw [e3, bo_f nr, if_pos (by decide), nd, bX_some, rdI_e (by omega), z2, e4, w32_id rg1, w32_id rg2]
    by_cases g : trn G B n t
    · rw [if_neg (by have := tl.2 g; omega), cG_t g]
    · rw [if_pos (by have : ¬ _ := fun k => g (tl.1 k); omega), rdZ_e (by omega), Int.toNat_natCast, e3, bo_f nr, if_neg (by decide), cG_f g]
  · have hR : Rt G n := Classical.byContradiction (fun r => q ⟨hn.1, nn, hn.2.2, r⟩)
    obtain ⟨rg3, _⟩ := ecn_rng (t := 0) w wl hn
    rw [e3, bo_t hR, if_neg (by decide), rdZ_e (by omega), Int.toNat_natCast, e3, bo_t hR, if_pos (by decide), k_needOfRoot w wl hk hM.2.1 hM.2.2.2.1 hn, bX_some, rdI_e (by omega), z2, e4, w32_id rg3, w32_id rg2]
    rcases (show t = 0 ∨ t = 1 by omega) with rfl | rfl
    · by_cases g : trn G B n 0
      · rw [if_pos (tl.2 g), cG_t g]
      · rw [if_neg (fun k => g (tl.1 k)), cG_f g]
    · have h0 : trn G B n 0 := by rcases hc with h | h | h; exact (q h).elim; omega; exact h
      have h1 : ¬ trn G B n 1 := trn_not (k := 0) (by omega) h0
      rw [cG_f h1, if_neg ?_]
      obtain ⟨v, v1, _, u, v2, v3⟩ := trn_some h0
      have v1' : wCo (WW G B n 1) = some v := v1
      have e : ndR G B n 0 = some (v + u) := by
        unfold ndR
        show omin (wCo (WW G B n 0)) (oadd (wCo (WW G B n 1)) (invO B)) = _
        rw [v1', v2]
        cases a : wCo (WW G B n 0) with
        | none => rfl
        | some c =>
          have := v3 c a
          show some (min c (v + u)) = _
          rw [Nat.min_eq_right (by omega)]
      rw [e, v1']
      show ¬ ((v + u : Nat) : Int) < (v : Int)
      omega
theorem k_gateS {rg rl : Sto → Int → Int → Option (Int × Sto)} (w : WFG G) (wl : WFL B) (hr : rOK G B) (hd : d < 6) (hk : k < 4) (hg : GateQ G B d k rg F) (hlf : LeafQ G B d k rl F) : GateQ G B d k (bX12_gate rg rl) (F + 1) := by
  intro f n t b s S hgd ht hrk hI hlb hF
  have hno := no_le w
  have ng := w.nums
  have e13 : gFi G = 1 + gIn G + gSt G := rfl
  obtain ⟨h0, h1, h2, h3⟩ := hgd.resolve_right (fun g => by omega)
  have nn := h1.2.1
  have z2 : (2 * (n : Int) + (t : Int)).toNat = 2 * n + t := by omega
  obtain ⟨f, rfl⟩ : ∃ f', f = f' + 1 := ⟨f - 1, by omega⟩
  have hv := hI.2.2.2.2
  have ro := mkR_ok w wl hr f
  have r215 : s.2 n t = -1 ∨ (0 ≤ s.2 n t ∧ s.2 n t < 5000) := by have := hv n t; omega
  obtain ⟨s', hs'⟩ : ∃ s', s' = mkR G B (f + 1) n t s := ⟨_, rfl⟩
  have es : s' = mkF G B (mkR G B f) n t s := hs'
  rw [← hs']
  unfold bX12_gate
  rw [rdI_e (by omega), z2, hI.2.1.net nn ht]
  by_cases q : s.2 n t = -1
  case neg =>
    have e : s' = s := by rw [es, mkF_stay q]
    rw [w32_id (by omega), if_neg q, bX_some, if_neg (by decide), bE_inl, rdI_e (by omega), z2, hI.2.1.net nn ht, e]
    exact WP_some.2 ⟨⟨ChW.refl, fun _ => ⟨hI.2.1, hI.2.2.1, hI.2.2.2.1⟩, fun g => by omega⟩, fun _ => rfl⟩
  case pos =>
    have gl := gate_len w wl hr hgd hrk hv q
    rw [← hs'] at gl
    rw [q, w32_id (by decide), if_pos rfl, hI.2.2.2.1, show w32 (bz 0) = 0 from rfl, if_pos rfl, bX_some, if_pos rfl]
    refine WP_bE.2 (WP_call (k_begins hk hI.1.2.2.2.2.1 hI.2.1.1 hI.2.2.1 hI.2.2.2.1 (by omega)) (fun y hy => ?_))
    obtain ⟨c1, c2, c3, c4⟩ := hy
    have c1' : ChW (PGk k) S y.2 := ChW.refl.tr c1 (fun _ _ g => .inl g)
    -- the last reads
    have lst : ∀ z, KOu S G k b s' z → WP (rdI 2026 z 215 (2 * (n : Int) + (t : Int)) fun v34 => some (v34, z)) (KOut S G k b s' (s'.2 n t)) := fun z hz => by
      rw [rdI_e (by omega), z2]
      exact WP_some.2 ⟨hz, fun g => (hz.2.1 g).1.net nn ht⟩
    have lst2 : ∀ z, KOu S G k b s' z → WP (rdI 2026 z 215 (2 * (n : Int) + (t : Int)) fun v34 => some (Sum.inr (v34, z) : Sto ⊕ (Int × Sto))) (WE (fun s => WP (rdI 2026 s 215 (2 * (n : Int) + (t : Int)) fun v34 => some (v34, s)) (KOut S G k b s' (s'.2 n t))) (KOut S G k b s' (s'.2 n t))) := fun z hz => by
      rw [rdI_e (by omega), z2]
      exact WP_some.2 ⟨hz, fun g => (hz.2.1 g).1.net nn ht⟩
    by_cases nf : s.1.length + b + 1 ≤ 150
    case neg =>
      obtain ⟨d1, d2⟩ := c4 (by omega)
      rw [d1, if_pos (by decide)]
      exact WP_some.2 (lst _ ⟨c1', fun g => by omega, fun _ => d2⟩)
    case pos =>
      obtain ⟨d1, d2⟩ := c3 nf
      have In : KIn y.2 G B d k s (b + 1) := hI.mv w wl hd hk c1' ⟨hI.2.1.mv hk (fun a i g => c1.1 _ _ (fun k => by omega)), c2, d2⟩ hv
      rw [d1, if_neg (by decide), rdZ_e (by omega), Int.toNat_natCast, k_tcond w wl hd hk h1 ht In.1 h2, bX_some]
      by_cases g : trn G B n t
      · rw [cG_t g, if_pos rfl]
        have zt : (1 : Int) - (t : Int) = ((1 - t : Nat) : Int) := by omega
        have r2 := rk_trn (G := G) (B := B) (show t ≠ 2 by omega) g
        have r1 := rk_way (G := G) (B := B) (n := n) (k := 1 - t) (by omega) (trn_not h0 g)
        have gd := hgd.turn h0 g
        rw [mkF_trn q (by omega) g] at es
        obtain ⟨v1, v2, v3, v4⟩ := ro n (1 - t) s gd (by omega) hv
        rw [zt]
        refine WP_call (hg f n (1 - t) (b + 1) s y.2 gd (by omega) (by omega) In (by omega) (by omega)) (fun x12 hx => ?_)
        obtain ⟨hx1, hx2⟩ := hx
        generalize mkR G B f n (1 - t) s = s1 at *
        have o2 : KOu S G k (b + 1) s1 x12.2 := ⟨c1'.tr hx1.1 (fun _ _ g => g), hx1.2⟩
        have sl : s'.1.length = s1.1.length + 1 := by rw [es, mkA_len]
        refine WP_call (R := KOu S G k b s') ?_ (fun z hz => lst2 z hz)
        by_cases full : s1.1.length + (b + 1) ≤ 150
        · obtain ⟨a1, a2, a3⟩ := o2.2.1 full
          have e3 : gI x12.2 198 3 = lInv B := (hI.1.cw w wl hd hk o2.1).2.1.2.2
          have r' : -1 ≤ lInv B ∧ lInv B < (liN B : Int) := lInvN_rng (B := B) (n := liN B)
          have ln := wl.nums
          have nr := v1 n (1 - t)
          rw [a3, show w32 (bz 0) = 0 from rfl, if_pos rfl, e3, hx2 full, es]
          exact k_putG w wl hd hk nn ht hI.1 o2 full (by omega) (by omega) (by decide) (by decide)
        · have a3 := o2.2.2 (by omega)
          rw [a3, show w32 (bz 1) = 1 from rfl, if_neg (by decide)]
          exact WP_some.2 ⟨o2.1, fun g => by omega, fun _ => a3⟩
      · rw [cG_f g, if_neg (by decide)]
        obtain ⟨y', hy'⟩ := ndR_way h3 g
        have r2 := rk_way (G := G) (B := B) (show t ≠ 2 by omega) g
        rw [mkF_way q (by omega) g hy'] at es
        obtain ⟨p1, p2, p3, p4, p5, p6⟩ := way_inp w wl hr h1 hy'
        obtain ⟨v1, v2, v3, v4⟩ := mkI_ok ro (n := n) (by omega) p6 hv _ (Nat.le_refl _)
        have W := (In.1.2.2.2.1 n h1 nn t ht).2 y' hy'
        have ln := wl.nums
        have e1 := (In.1.2.1.2.1.2 y'.2.1 p1).1
        rw [(bI_rng wl p1).2.2.1, ← p3] at e1
        rw [In.1.2.1.1, gk_own hk, rdI_e (by omega), z2, W.1, rdI_e (by omega), Int.toNat_natCast, e1]
        refine WP_call (k_gt154 (f := f) (s := s) (b := b) w wl hr hd hk hg hlf h1 ht hy' (by omega) In (by omega) (by omega)) (fun y27 hx => ?_)
        obtain ⟨hx1, hx2⟩ := hx
        generalize mkI G (mkR G B f) y'.2.2.2 y'.2.2.1 s y'.2.2.2.length = s1 at *
        have o2 : KOu S G k (b + 1) s1 y27.2.2.2 := ⟨c1'.tr hx1.1 (fun _ _ g => g), hx1.2⟩
        have sl : s'.1.length = s1.1.length + 1 := by rw [es, mkA_len]
        refine WP_call (R := KOu S G k b s') ?_ (fun z hz => lst2 z hz)
        by_cases full : s1.1.length + (b + 1) ≤ 150
        · obtain ⟨a1, a2, a3⟩ := o2.2.1 full
          obtain ⟨i0, i1, i2⟩ := hx2 full
          have w5 : gI y27.2.2.2 205 (2 * n + t) = (y'.2.1 : Int) := ((hI.1.cw w wl hd hk o2.1).2.2.2.1 n h1 nn t ht).2 y' hy' |>.1
          have ir : ∀ j, -1 ≤ inX G s1 y'.2.2.2 y'.2.2.1 j ∧ inX G s1 y'.2.2.2 y'.2.2.1 j < 5000 := fun j => by
            unfold inX
            by_cases g : j < y'.2.2.2.length
            · rw [if_pos g]; exact inN_rng w v1 (p6 j g).1 (by omega)
            · rw [if_neg g]; omega
          have q0 := ir 0
          have q1 := ir 1
          have q2 := ir 2
          rw [a3, show w32 (bz 0) = 0 from rfl, if_pos rfl, rdI_e (by omega), z2, w5, i0, i1, i2, es]
          exact k_putG w wl hd hk nn ht hI.1 o2 full (by omega) (by omega) (by omega) (by omega)
        · have a3 := o2.2.2 (by omega)
          rw [a3, show w32 (bz 1) = 1 from rfl, if_neg (by decide)]
          exact WP_some.2 ⟨o2.1, fun g => by omega, fun _ => a3⟩
end KGATE2
