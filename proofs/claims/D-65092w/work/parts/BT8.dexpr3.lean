/-! the class reads expressions of a design: whole ones -/
section KD8
variable {S S0 z y : Sto} {u : Nat → Int} {n N o b : Nat} {ms : List Mdl} {cur m : Mdl} {q : Qq} {j : Nat} {k : List Row3} {rc : Sto → Option (Int × Sto)}
theorem primary_eq : mX2_primary rc S = bX (mX3_is S 4 40) fun x1 => if ¬ w32 x1 = 0 then bX (mX3_opens S 4) fun x2 => bX (mX3_next x2 4) fun x3 => bX (rc x3) fun x4 => bX (mX3_take x4.2 4 41) fun x5 => wf x5 4 10 ((gI x5 4 10) - 1) fun S6 => some (x4.1, S6) else kMid S := rfl
/-- the counter of openings is another one -/
theorem x10 {v : Int} (h : ChXd S y) : ChXd S (sI y 4 10 v) := h.tr (ChXd.w (P := PDx) (ChW.refl.sI ⟨rfl, by omega, by omega⟩) (fun _ _ q => q))
theorem r10 {v : Int} {l : List Int} (h : RwK y 170 l) : RwK (sI y 4 10 v) 170 l := h.x (hI_sI_a (by decide)) (hI_sI_a (by decide)) (fun i => hI_sI_a (by decide))
theorem s10 {v : Int} (h : ScQ u n y 4 q) : ScQ u n (sI y 4 10 v) 4 q := h.cg (fun i _ _ => hI_sI_i (by omega))
theorem primD_ok (ho : o ≤ 60) (hN : N ≤ 1500) (hf : FltD u n rc) (h : o < 60 → OkD u n N ms cur S0 b (o + 1) (gE 0) rc) : OkD u n N ms cur S0 (b + 2) o gP (mX2_primary rc) := by
  intro S j k ws hC hS hj h10 hk hl
  have hu := hC.t.u
  have hn := hC.t.b
  rw [primary_eq, k_is hS hu (by decide), bX_some, bIf]
  show WP (if isS u n 40 j = true then _ else _) _
  by_cases g : isS u n 40 j = true
  · rw [if_pos g]
    have hlt := hC.l.le (i := j) (by rw [isS_K g]; decide) hj
    refine WP_call (k_opensD hS hn h10 ho) (fun x2 hx => ?_)
    obtain ⟨a1, a2, a3⟩ := hx
    have cx2 : ChXd S x2 := ChXd.w a3 P8_x
    have rx2 : RwK x2 170 (flat3 k) := hk.w a3 (fun a i q => q.1)
    refine WP_call (k_next3 (hC.ch cx2).t a1) (fun x3 hx => ?_)
    obtain ⟨b1, b2⟩ := hx
    have cx3 := cx2.p b2
    have rx3 := rx2.p b2
    have o3 : gI x3 4 10 = ((o + 1 : Nat) : Int) := by rw [opnP b2, a2]; omega
    have bad : ∀ f, ScQ u n x3 4 (.inr f) → oGr (XD u n ms cur) gP j o (k, ws) (.inr f) → WP (bX (rc x3) fun x4 => bX (mX3_take x4.2 4 41) fun x5 => wf x5 4 10 ((gI x5 4 10) - 1) fun S6 => some (x4.1, S6)) (fun y => ∃ res, oGr (XD u n ms cur) gP j o (k, ws) res ∧ RsX u n N (b + 2) ws o res y ∧ ChXd S y.2) := fun f e1 e2 => by
      refine WP_call (hf x3 f hu e1) (fun x4 hx4 => ?_)
      rw [hx4]
      refine WP_call (k_take3 (hC.ch cx3).t e1 (c := 41) (by decide)) (fun x5 hx5 => ?_)
      rw [wf_eq]
      exact WP_some.2 ⟨.inr f, e2, ⟨s10 hx5.1, k, by omega, r10 (rx3.p hx5.2)⟩, x10 (cx3.p hx5.2)⟩
    by_cases e60 : o = 60
    · rw [if_pos e60] at b1
      exact bad _ b1 (.po g e60)
    · rw [if_neg e60] at b1
      have b1 : ScQ u n x3 4 (nxT u n j) := b1
      cases eN : nxT u n j with
      | inr f => rw [eN] at b1; exact bad f b1 (.pf g e60 eN)
      | inl j1 =>
        rw [eN] at b1
        have n1 := nxT_inl eN
        refine WP_call (h (by omega) x3 j1 k ws (hC.ch cx3) b1 (by omega) o3 rx3 (by omega)) (fun x4 hx4 => ?_)
        obtain ⟨res, z1, z2, z3⟩ := hx4
        have c4 : ChXd S x4.2 := cx3.tr z3
        cases res with
        | inr f =>
          obtain ⟨z4, e', z5, z6⟩ := z2
          refine WP_call (k_take3 (hC.ch c4).t z4 (c := 41) (by decide)) (fun x5 hx5 => ?_)
          rw [wf_eq]
          exact WP_some.2 ⟨.inr f, .pg g e60 eN z1, ⟨s10 hx5.1, e', by omega, r10 (z6.p hx5.2)⟩, x10 (c4.p hx5.2)⟩
        | inl jw =>
          obtain ⟨j3, k3, w3⟩ := jw
          obtain ⟨z4, z5, z6, z7, z8⟩ := z2
          have z5 : w3 = x4.1 :: ws := z5
          have z6 : RwK x4.2 170 (flat3 k3) := z6
          have z4 : ScQ u n x4.2 4 (.inl j3) := z4
          subst z5
          have le2 := z1.leD hC.l trivial _ _ rfl (by omega)
          have hk3 : k3.length + j1 ≤ j3 + k.length + 0 := le2.2.2.2.1
          have hj3 : j3 ≤ N := le2.2.2.1
          refine WP_call (k_take3 (hC.ch c4).t z4 (c := 41) (by decide)) (fun x5 hx5 => ?_)
          obtain ⟨t1, t2⟩ := hx5
          have t10 : gI x5 4 10 = ((o + 1 : Nat) : Int) := (opnP t2).trans z7
          rw [wf_eq, t10]
          cases eT : tkT u n 41 (.inl j3) with
          | inr f =>
            rw [eT] at t1
            exact WP_some.2 ⟨.inr f, .pb g e60 eN z1 eT, ⟨s10 t1, k3, by omega, r10 (z6.p t2)⟩, x10 (c4.p t2)⟩
          | inl j4 =>
            rw [eT] at t1
            refine WP_some.2 ⟨.inl (j4, (k3, x4.1 :: ws)), .pc g e60 eN z1 eT, ⟨s10 t1, rfl, r10 (z6.p t2), ?_, z8⟩, x10 (c4.p t2)⟩
            rw [gI_sI_eq, w32_id (by omega)]; omega
  · rw [if_neg g]
    refine (k_mid hC hS hk (by omega)).mono (fun y hy => ?_)
    obtain ⟨y1, y2, y3⟩ := hy
    have ho2 : oGr (XD u n ms cur) gP j o (k, ws) ((XD u n ms cur).op j (k, ws)) := .pn (bool_f g)
    have eo : (XD u n ms cur).op j (k, ws) = oB (opD u n ms cur j) (fun t => .inl (t.1, (k ++ t.2.1, t.2.2 :: ws))) := rfl
    rw [eo] at ho2
    cases hx : opD u n ms cur j with
    | inr f =>
      rw [hx] at y1 ho2
      obtain ⟨q1, e, q2, q3⟩ := y1
      exact ⟨.inr f, ho2, ⟨q1, k ++ e, by rw [List.length_append]; omega, q3⟩, y2⟩
    | inl t =>
      rw [hx] at y1 ho2
      obtain ⟨q1, q2, q3⟩ := y1
      have hw := opD_w hC.m.2 (fun i hi => (hC.o i hi).2) hx
      exact ⟨.inl (t.1, (k ++ t.2.1, t.2.2 :: ws)), ho2, ⟨q1, by rw [q2], q3, y3.trans h10, by rw [q2]; exact hw.1, by rw [q2]; exact hw.2⟩, y2⟩
theorem notD_f : FltD u n (mX2_not rc) := by
  intro S f hu hS
  unfold mX2_not
  refine WP_call (R := fun y => y = (0, S)) ?_ (fun y hy => ?_)
  · refine WP_lpF (fun s => s = (0, S)) (fun _ => 0) rfl (by decide) (fun s hs => ?_)
    subst hs
    unfold mX2_not_L2
    rw [k_is hS hu (by decide), bX_some]
    exact WP_some.2 rfl
  · subst hy
    rw [k_ok hS, bX_some]
    exact WP_some.2 rfl
theorem notD_ok (hb : b ≤ 600) (hN : N ≤ 1500) (h : OkD u n N ms cur S0 b o gP (mX2_primary rc)) : OkD u n N ms cur S0 (b + 1) o (gN false) (mX2_not rc) := by
  intro S j k ws hC hS hj h10 hk hl
  have hu := hC.t.u
  have hn := hC.t.b
  unfold mX2_not
  refine WP_call (R := fun y => ChXd S y.2 ∧ RwK y.2 170 (flat3 k) ∧ ((∃ j' par, y.1 = b2i par ∧ ScQ u n y.2 4 (.inl j') ∧ gI y.2 4 10 = (o : Int) ∧ j ≤ j' ∧ j' ≤ N ∧ isS u n 33 j' = false ∧ ∀ res, oGr (XD u n ms cur) (gN par) j' o (k, ws) res → oGr (XD u n ms cur) (gN false) j o (k, ws) res) ∨ ∃ f, ScQ u n y.2 4 (.inr f) ∧ oGr (XD u n ms cur) (gN false) j o (k, ws) (.inr f))) ?_ (fun y hy => ?_)
  · refine WP_lpF (fun y => ChXd S y.2 ∧ RwK y.2 170 (flat3 k) ∧ ((∃ j' par, y.1 = b2i par ∧ ScQ u n y.2 4 (.inl j') ∧ gI y.2 4 10 = (o : Int) ∧ j ≤ j' ∧ j' ≤ N ∧ ∀ res, oGr (XD u n ms cur) (gN par) j' o (k, ws) res → oGr (XD u n ms cur) (gN false) j o (k, ws) res) ∨ ∃ f, ScQ u n y.2 4 (.inr f) ∧ oGr (XD u n ms cur) (gN false) j o (k, ws) (.inr f))) (fun s => if gI s.2 4 8 = 0 then 1 + (n - (gI s.2 4 4).toNat) else 0) ⟨ChXd.refl, hk, Or.inl ⟨j, false, rfl, hS, h10, Nat.le_refl _, hj, fun _ q => q⟩⟩ ?_ (fun s hs => ?_)
    · exact ite_lt (show 1 + (n - _) < 1000000000000 by omega) (show 0 < 1000000000000 by omega)
    obtain ⟨sv, s⟩ := s
    obtain ⟨s1, sr, s2⟩ := hs
    dsimp only at s1 sr s2 ⊢
    have Cs := hC.ch s1
    unfold mX2_not_L2
    dsimp only
    rcases s2 with ⟨j', par, a2, a1, a3, a6, a4, a5⟩ | ⟨f, a1, a2⟩
    · subst a2
      rw [k_is a1 hu (by decide), bX_some]
      show WP (if ¬ w32 (b2i (isS u n 33 j')) = 0 then _ else _) _
      rw [bIf]
      cases e : isS u n 33 j' with
      | false =>
        rw [if_neg (by decide)]
        exact WP_some.2 ⟨s1, sr, Or.inl ⟨j', par, rfl, a1, a3, a6, a4, e, a5⟩⟩
      | true =>
        rw [if_pos rfl]
        have hlt := hC.l.le (i := j') (by rw [isS_K e]; decide) a4
        have hBl := hC.l.lt hlt
        have m8 : gI s 4 8 = 0 := a1.1
        have m4 : gI s 4 4 = (tkB u n j' : Nat) := a1.2.2.1
        have ep : (if w32 (b2i par) = 0 then (1 : Int) else 0) = b2i (!par) := by cases par <;> rfl
        refine WP_call (k_next3 Cs.t a1) (fun y hy => WP_some.2 ?_)
        obtain ⟨y1, y2⟩ := hy
        have cy : ChXd S y := s1.p y2
        have y1 : ScQ u n y 4 (nxT u n j') := y1
        cases eN : nxT u n j' with
        | inr f =>
          rw [eN] at y1
          refine ⟨⟨cy, sr.p y2, Or.inr ⟨f, y1, a5 _ (.nf e eN)⟩⟩, ?_⟩
          dsimp only; rw [m8, m4, if_pos rfl, if_neg (by rw [y1.1]; exact y1.2.1)]; omega
        | inl j2 =>
          rw [eN] at y1
          have e2 := nxT_inl eN
          refine ⟨⟨cy, sr.p y2, Or.inl ⟨j2, !par, ep, y1, (opnP y2).trans a3, by omega, by omega, fun res q => a5 _ (.nc e eN q)⟩⟩, ?_⟩
          have z4' : gI y 4 4 = (tkB u n j2 : Nat) := y1.2.2.1
          have z48 : gI y 4 8 = 0 := y1.1
          have := tkB_slt (j := j2) hBl (by omega)
          have := tkB_le (u := u) (n := n) j2
          dsimp only; rw [m8, m4, z48, z4', if_pos rfl, if_pos rfl, Int.toNat_natCast, Int.toNat_natCast]; omega
    · rw [k_is a1 hu (by decide), bX_some]
      exact WP_some.2 ⟨s1, sr, Or.inr ⟨f, a1, a2⟩⟩
  · obtain ⟨yv, y⟩ := y
    obtain ⟨s1, sr, s2⟩ := hy
    dsimp only at s1 sr s2 ⊢
    have w4 : w3ok (4, 0, 0) := w3k (by omega) (by omega) (by omega)
    -- the last row
    have lst : ∀ {x : Sto} {f : Int × Int} {e : List Row3} (v : Int), ChXd S x → ScQ u n x 4 (.inr f) → RwK x 170 (flat3 e) → e.length ≤ N + b → oGr (XD u n ms cur) (gN false) j o (k, ws) (.inr f) → WP (bX (if ¬ w32 yv = 0 then bX (mX5_put x 4 0 0) fun x8 => some x8 else some x) fun y9 => some (v, y9)) (fun y => ∃ res, oGr (XD u n ms cur) (gN false) j o (k, ws) res ∧ RsX u n N (b + 1) ws o res y ∧ ChXd S y.2) := fun {x f e} v e1 e2 e3 e4 e5 => by
      by_cases g : w32 yv = 0
      · rw [if_neg (fun q => q g), bX_some]
        exact WP_some.2 ⟨.inr f, e5, ⟨e2, e, by omega, e3⟩, e1⟩
      · rw [if_pos g]
        refine WP_bX.2 (WP_call (k_putD (hC.ch e1) e3 (by omega) w4) (fun x8 hx => WP_some.2 (WP_some.2 ⟨.inr f, e5, ⟨hx.2.sc e2, _, by rw [len1]; omega, hx.1⟩, e1.tr (ChXd.g hx.2)⟩)))
    rcases s2 with ⟨j', par, a2, a1, a3, a6, a4, e, a5⟩ | ⟨f, a1, a2⟩
    · subst a2
      rw [k_ok a1, bX_some]
      show WP (bX (if ¬ w32 (b2i true) = 0 then _ else _) _) _
      rw [if_pos (by decide)]
      refine WP_bX.2 (WP_call (h y j' k ws (hC.ch s1) a1 a4 a3 sr (by omega)) (fun x hx => WP_some.2 ?_))
      obtain ⟨res, x1, x2, x3⟩ := hx
      have cx : ChXd S x.2 := s1.tr x3
      cases res with
      | inr f =>
        obtain ⟨q1, e', q2, q3⟩ := x2
        exact lst _ cx q1 q3 q2 (a5 _ (.ng e x1))
      | inl jv =>
        obtain ⟨j1, k1, w1⟩ := jv
        obtain ⟨z4, z5, z6, z7, z8⟩ := x2
        have z5 : w1 = x.1 :: ws := z5
        have z6 : RwK x.2 170 (flat3 k1) := z6
        have z4 : ScQ u n x.2 4 (.inl j1) := z4
        subst z5
        have le2 := x1.leD hC.l trivial _ _ rfl (by omega)
        have hk1 : k1.length + j' ≤ j1 + k.length + 0 := le2.2.2.2.1
        have hj1 : j1 ≤ N := le2.2.2.1
        have np := a5 _ (.np (b := par) e x1)
        cases par with
        | false =>
          rw [if_neg (by decide), bX_some]
          exact WP_some.2 ⟨.inl (j1, (k1, x.1 :: ws)), np, ⟨z4, rfl, z6, z7, z8⟩, cx⟩
        | true =>
          rw [if_pos (by decide)]
          refine WP_bX.2 (WP_call (k_putE (k := k1) hC cx z6 (by omega) w4 z4 (z7.trans h10.symm)) (fun x8 hx => WP_some.2 (WP_some.2 ?_)))
          exact ⟨.inl (j1, (k1 ++ [(4, 0, 0)], x.1 :: ws)), np, ⟨hx.2.2.1, rfl, hx.1, hx.2.2.2.trans h10, z8⟩, hx.2.1⟩
    · rw [k_ok a1, bX_some, bIf, if_neg (fun z => by cases z), bX_some]
      exact lst _ s1 a1 sr (by omega) a2
end KD8
