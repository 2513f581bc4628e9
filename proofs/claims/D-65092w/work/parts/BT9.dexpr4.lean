/-! the class reads expressions of a design: choices, and the descent as a whole -/
section KD9
variable {S S0 z y : Sto} {u : Nat → Int} {n N o b : Nat} {ms : List Mdl} {cur m : Mdl} {q : Qq} {j : Nat} {k : List Row3} {rc : Sto → Option (Int × Sto)}
def PsX (u : Nat → Int) (n N : Nat) (ms : List Mdl) (cur : Mdl) (b o : Nat) (ws : List Int) (lx : Gx) (j : Nat) (k : List Row3) (S : Sto) (y : Int × Sto) : Prop := ∃ res, oGr (XD u n ms cur) lx j o (k, ws) res ∧ RsX u n N b ws o res y ∧ ChXd S y.2
theorem or_eqD : mX2_or rc = gEpD 124 6 (gEpD 94 7 (gEpD 38 5 (mX2_same rc))) := rfl
theorem sum_eqD : mX2_sum rc = gEpD 43 9 (mX2_not rc) := rfl
theorem expr_eqD : bX2_expression rc S = bX (mX2_or rc S) fun x1 => bX (mX3_is x1.2 4 63) fun x2 => if w32 x2 = 0 then some (x1.1, x1.2) else bX (mX3_opens x1.2 4) fun x3 => bX (mX3_ok x3 4) fun x4 => bX (bX (if ¬ w32 x4 = 0 then if ¬ w32 x1.1 = 1 then some true else some false else some false) fun b => if b = true then bX (mX3_fail x3 4 13 (gI x1.2 4 4)) fun x5 => some x5 else some x3) fun y6 => bX (mX3_next y6 4) fun x7 => bX (rc x7) fun x8 => bX (mX3_take x8.2 4 58) fun x9 => bX (rc x9) fun x10 => wf x10.2 4 10 ((gI x10.2 4 10) - 1) fun S11 => bX (mX2_pair S11 x8.1 x10.1 (gI x1.2 4 4) 10) fun x12 => some (x8.1, x12) := rfl
/-- behind a fault: the last part, the last two, the last three -/
theorem tl3 {f : Int × Int} {e : List Row3} {ws : List Int} {v w P : Int} {lx : Gx} (hC : CtD u n N ms cur S0 S) (cy : ChXd S y) (hq : ScQ u n y 4 (.inr f)) (hk : RwK y 170 (flat3 e)) (he : e.length ≤ N + b) (hN : N ≤ 1500) (hb : b ≤ 700) (hr : oGr (XD u n ms cur) lx j o (k, ws) (.inr f)) : WP (wf y 4 10 ((gI y 4 10) - 1) fun S11 => bX (mX2_pair S11 v w P 10) fun x12 => some (v, x12)) (PsX u n N ms cur (b + 1) o ws lx j k S) := by
  rw [wf_eq]
  refine WP_call (k_pair_f hC (x10 cy) (s10 hq) (r10 hk) (by omega) (by omega)) (fun z hz => WP_some.2 ⟨.inr f, hr, ⟨hz.2.2, _, by rw [len1]; omega, hz.1⟩, hz.2.1⟩)
theorem tl2 {f : Int × Int} {e : List Row3} {ws : List Int} {v P : Int} {lx : Gx} (hC : CtD u n N ms cur S0 S) (hf : FltD u n rc) (cy : ChXd S y) (hq : ScQ u n y 4 (.inr f)) (hk : RwK y 170 (flat3 e)) (he : e.length ≤ N + b) (hN : N ≤ 1500) (hb : b ≤ 700) (hr : oGr (XD u n ms cur) lx j o (k, ws) (.inr f)) : WP (bX (mX3_take y 4 58) fun x9 => bX (rc x9) fun x10 => wf x10.2 4 10 ((gI x10.2 4 10) - 1) fun S11 => bX (mX2_pair S11 v x10.1 P 10) fun x12 => some (v, x12)) (PsX u n N ms cur (b + 1) o ws lx j k S) := by
  refine WP_call (k_take3 (hC.ch cy).t hq (c := 58) (by decide)) (fun x9 hx => ?_)
  have h9 : ScQ u n x9 4 (.inr f) := hx.1
  refine WP_call (hf x9 f hC.t.u h9) (fun x10 hx10 => ?_)
  rw [hx10]
  exact tl3 hC (cy.p hx.2) h9 (hk.p hx.2) he hN hb hr
theorem tl1 {f : Int × Int} {e : List Row3} {ws : List Int} {P : Int} {lx : Gx} (hC : CtD u n N ms cur S0 S) (hf : FltD u n rc) (cy : ChXd S y) (hq : ScQ u n y 4 (.inr f)) (hk : RwK y 170 (flat3 e)) (he : e.length ≤ N + b) (hN : N ≤ 1500) (hb : b ≤ 700) (hr : oGr (XD u n ms cur) lx j o (k, ws) (.inr f)) : WP (bX (mX3_next y 4) fun x7 => bX (rc x7) fun x8 => bX (mX3_take x8.2 4 58) fun x9 => bX (rc x9) fun x10 => wf x10.2 4 10 ((gI x10.2 4 10) - 1) fun S11 => bX (mX2_pair S11 x8.1 x10.1 P 10) fun x12 => some (x8.1, x12)) (PsX u n N ms cur (b + 1) o ws lx j k S) := by
  refine WP_call (k_next3 (hC.ch cy).t hq) (fun x7 hx => ?_)
  have h7 : ScQ u n x7 4 (.inr f) := hx.1
  refine WP_call (hf x7 f hC.t.u h7) (fun x8 hx8 => ?_)
  rw [hx8]
  exact tl2 hC hf (cy.p hx.2) h7 (hk.p hx.2) he hN hb hr
theorem chcD_f (hf : FltD u n (mX2_or rc)) : FltD u n (bX2_expression rc) := by
  intro S f hu hS
  rw [expr_eqD]
  refine WP_call (hf S f hu hS) (fun x hx => ?_)
  rw [hx, k_is hS hu (by decide), bX_some]
  exact WP_some.2 rfl
theorem chcD_ok (ho : o ≤ 60) (hb : b ≤ 600) (hN : N ≤ 1500) (hf : FltD u n rc) (hor : OkD u n N ms cur S0 (b + 8) o (gE 1) (mX2_or rc)) (h : o < 60 → OkD u n N ms cur S0 b (o + 1) (gE 0) rc) : OkD u n N ms cur S0 (b + 9) o (gE 0) (bX2_expression rc) := by
  intro S j k ws hC hS hj h10 hk hl
  have hu := hC.t.u
  have hn := hC.t.b
  show WP _ (PsX u n N ms cur (b + 8 + 1) o ws (gE 0) j k S)
  rw [expr_eqD]
  refine WP_call (hor S j k ws hC hS hj h10 hk hl) (fun x1 hx => ?_)
  obtain ⟨res, h1, h2, h3⟩ := hx
  cases res with
  | inr f =>
    obtain ⟨g1, e, g2, g3⟩ := h2
    rw [k_is g1 hu (by decide), bX_some]
    exact WP_some.2 ⟨.inr f, .qf h1, ⟨g1, e, by omega, g3⟩, h3⟩
  | inl jv =>
    obtain ⟨j1, k1, w1⟩ := jv
    obtain ⟨g1, g2, g3, g4, g5⟩ := h2
    have g2 : w1 = x1.1 :: ws := g2
    have g1 : ScQ u n x1.2 4 (.inl j1) := g1
    have g3 : RwK x1.2 170 (flat3 k1) := g3
    subst g2
    have le1 := h1.leD hC.l trivial _ _ rfl hj
    have hk1 : k1.length + j ≤ j1 + k.length + 0 := le1.2.2.2.1
    have hj1 : j1 ≤ N := le1.2.2.1
    have hB := tkB_le (u := u) (n := n) j1
    have m4 : gI x1.2 4 4 = (tkB u n j1 : Nat) := g1.2.2.1
    rw [k_is g1 hu (by decide), bX_some, bIf2]
    show WP (if isS u n 63 j1 = true then _ else _) _
    have hq0 : (XD u n ms cur).q j1 = isS u n 63 j1 := rfl
    by_cases g : isS u n 63 j1 = true
    · have hq : (XD u n ms cur).q j1 = true := g
      have hlt := hC.l.le (i := j1) (by rw [isS_K g]; decide) hj1
      rw [if_pos g, m4]
      refine WP_call (k_opensD g1 hn g4 ho) (fun x3 hx => ?_)
      obtain ⟨a1, a2, a3⟩ := hx
      have cx3 : ChXd S x3 := h3.tr (ChXd.w a3 P8_x)
      have rx3 : RwK x3 170 (flat3 k1) := g3.w a3 (fun a i q => q.1)
      have bad : ∀ {f : Int × Int}, ScQ u n x3 4 (.inr f) → oGr (XD u n ms cur) (gE 0) j o (k, ws) (.inr f) → WP (bX (mX3_ok x3 4) fun x4 => bX (bX (if ¬ w32 x4 = 0 then if ¬ w32 x1.1 = 1 then some true else some false else some false) fun b => if b = true then bX (mX3_fail x3 4 13 ((tkB u n j1 : Nat) : Int)) fun x5 => some x5 else some x3) fun y6 => bX (mX3_next y6 4) fun x7 => bX (rc x7) fun x8 => bX (mX3_take x8.2 4 58) fun x9 => bX (rc x9) fun x10 => wf x10.2 4 10 ((gI x10.2 4 10) - 1) fun S11 => bX (mX2_pair S11 x8.1 x10.1 ((tkB u n j1 : Nat) : Int) 10) fun x12 => some (x8.1, x12)) (PsX u n N ms cur (b + 8 + 1) o ws (gE 0) j k S) := fun {f} e1 e2 => by
        rw [k_ok e1, bX_some, bIf, if_neg (fun z => by cases z), bX_some, if_neg (by decide), bX_some]
        exact tl1 hC hf cx3 e1 rx3 (by omega) hN (by omega) e2
      by_cases e60 : o = 60
      · rw [if_pos e60] at a1
        exact bad a1 (.qt h1 hq e60)
      · rw [if_neg e60] at a1
        have hts : (XD u n ms cur).ts (k1, x1.1 :: ws) = decide (x1.1 = 1) := rfl
        rw [k_ok a1, bX_some, bIf, show okQ (.inl j1) = true from rfl, if_pos rfl, w32_id (show -2147483648 ≤ x1.1 ∧ x1.1 < 2147483648 by omega)]
        by_cases ew : x1.1 = 1
        · have ht : (XD u n ms cur).ts (k1, x1.1 :: ws) = true := by rw [hts]; exact decide_eq_true ew
          rw [if_neg (fun q => q ew), bX_some, if_neg (by decide), bX_some]
          cases eN : nxT u n j1 with
          | inr f =>
            refine WP_call (k_next3 (hC.ch cx3).t a1) (fun x7 hx => ?_)
            have h7 : ScQ u n x7 4 (nxT u n j1) := hx.1
            rw [eN] at h7
            refine WP_call (hf x7 f hu h7) (fun x8 hx8 => ?_)
            rw [hx8]
            exact tl2 hC hf (cx3.p hx.2) h7 (rx3.p hx.2) (by omega) hN (by omega) (.qn h1 hq e60 ht eN)
          | inl j2 =>
            have n1 := nxT_inl eN
            refine WP_call (k_next3 (hC.ch cx3).t a1) (fun x7 hx => ?_)
            obtain ⟨h7, c7⟩ := hx
            have h7 : ScQ u n x7 4 (nxT u n j1) := h7
            rw [eN] at h7
            have cx7 := cx3.p c7
            have o7 : gI x7 4 10 = ((o + 1 : Nat) : Int) := by rw [opnP c7, a2]; omega
            refine WP_call (h (by omega) x7 j2 k1 (x1.1 :: ws) (hC.ch cx7) h7 (by omega) o7 (rx3.p c7) (by omega)) (fun x8 hx8 => ?_)
            obtain ⟨res, z1, z2, z3⟩ := hx8
            have c8 : ChXd S x8.2 := cx7.tr z3
            cases res with
            | inr f =>
              obtain ⟨q1, e', q2, q3⟩ := z2
              exact tl2 hC hf c8 q1 q3 (by omega) hN (by omega) (.qa h1 hq e60 ht eN z1)
            | inl jw =>
              obtain ⟨j3, k2, w2⟩ := jw
              obtain ⟨z4, z5, z6, z7, z8⟩ := z2
              have z5 : w2 = x8.1 :: x1.1 :: ws := z5
              have z6 : RwK x8.2 170 (flat3 k2) := z6
              have z4 : ScQ u n x8.2 4 (.inl j3) := z4
              subst z5
              have le2 := z1.leD hC.l trivial _ _ rfl (by omega)
              have hk2 : k2.length + j2 ≤ j3 + k1.length + 0 := le2.2.2.2.1
              have hj3 : j3 ≤ N := le2.2.2.1
              refine WP_call (k_take3 (hC.ch c8).t z4 (c := 58) (by decide)) (fun x9 hx => ?_)
              obtain ⟨t1, t2⟩ := hx
              have c9 := c8.p t2
              have r9 := z6.p t2
              have o9 : gI x9 4 10 = ((o + 1 : Nat) : Int) := (opnP t2).trans z7
              cases eT : tkT u n 58 (.inl j3) with
              | inr f =>
                rw [eT] at t1
                refine WP_call (hf x9 f hu t1) (fun x10 hx10 => ?_)
                rw [hx10]
                exact tl3 (e := k2) hC c9 t1 r9 (by omega) hN (by omega) (.qb h1 hq e60 ht eN z1 eT)
              | inl j4 =>
                rw [eT] at t1
                have t4 := tkT_ok eT
                have := lt3 hC.l t4.2.2 hj3
                refine WP_call (h (by omega) x9 j4 k2 (x8.1 :: x1.1 :: ws) (hC.ch c9) t1 (by omega) o9 r9 (by omega)) (fun x10' hx10 => ?_)
                obtain ⟨res, y1, y2, y3⟩ := hx10
                have c10 : ChXd S x10'.2 := c9.tr y3
                cases res with
                | inr f =>
                  obtain ⟨q1, e', q2, q3⟩ := y2
                  exact tl3 hC c10 q1 q3 (by omega) hN (by omega) (.qc h1 hq e60 ht eN z1 eT y1)
                | inl jx =>
                  obtain ⟨j5, k3, w3⟩ := jx
                  obtain ⟨y4, y5, y6, y7, y8⟩ := y2
                  have y5 : w3 = x10'.1 :: x8.1 :: x1.1 :: ws := y5
                  have y6 : RwK x10'.2 170 (flat3 k3) := y6
                  have y4 : ScQ u n x10'.2 4 (.inl j5) := y4
                  subst y5
                  have le3 := y1.leD hC.l trivial _ _ rfl (by omega)
                  have hk3 : k3.length + j4 ≤ j5 + k2.length + 0 := le3.2.2.2.1
                  have hj5 : j5 ≤ N := le3.2.2.1
                  rw [y7, wf_eq]
                  have o11 : gI (sI x10'.2 4 10 (((o + 1 : Nat) : Int) - 1)) 4 10 = gI S 4 10 := by rw [gI_sI_eq, w32_id (by omega), h10]; omega
                  refine WP_call (k_pair (k := k3) hC (x10 c10) (s10 y4) (r10 y6) (by omega) z8 y8 (by omega) (by omega) o11) (fun z hz => WP_some.2 ?_)
                  obtain ⟨p1, p2, p3, p4⟩ := hz
                  by_cases ge : x8.1 = x10'.1
                  · rw [if_pos ge] at p3
                    have hch : (XD u n ms cur).ch j1 (k3, x10'.1 :: x8.1 :: x1.1 :: ws) = .inl (k3 ++ [(10, 0, 0)], x8.1 :: ws) := by
                      show (if x8.1 = x10'.1 then _ else _) = _
                      rw [if_pos ge]
                    exact ⟨.inl (j5, (k3 ++ [(10, 0, 0)], x8.1 :: ws)), .qe h1 hq e60 ht eN z1 eT y1 hch, ⟨p3, rfl, p1, p4.trans h10, z8⟩, p2⟩
                  · rw [if_neg ge] at p3
                    have hch : (XD u n ms cur).ch j1 (k3, x10'.1 :: x8.1 :: x1.1 :: ws) = .inr (13, (tkB u n j1 : Int)) := by
                      show (if x8.1 = x10'.1 then _ else _) = _
                      rw [if_neg ge]
                    exact ⟨.inr (13, (tkB u n j1 : Int)), .qd h1 hq e60 ht eN z1 eT y1 hch, ⟨p3, _, by rw [len1]; omega, p1⟩, p2⟩
        · have ht : (XD u n ms cur).ts (k1, x1.1 :: ws) = false := by rw [hts]; exact decide_eq_false ew
          rw [if_pos ew, bX_some, if_pos rfl]
          refine WP_bX.2 (WP_call (k_failP a1 (c := 13) (by omega) (p := ((tkB u n j1 : Nat) : Int)) (by omega)) (fun y6 hy => WP_some.2 ?_))
          have y1 : ScQ u n y6 4 (.inr (13, (tkB u n j1 : Int))) := hy.1
          exact tl1 hC hf (cx3.f hy.2) y1 (rx3.f hy.2) (by omega) hN (by omega) (.qw h1 hq e60 ht)
    · rw [if_neg g]
      exact WP_some.2 ⟨.inl (j1, (k1, x1.1 :: ws)), .qs h1 (bool_f g), ⟨g1, rfl, g3, g4, g5⟩, h3⟩
theorem orD_f : FltD u n (mX2_or rc) := by
  rw [or_eqD]
  exact gD_f (by omega) (gD_f (by omega) (gD_f (by omega) (same_f (by rw [sum_eqD]; exact gD_f (by omega) notD_f))))
theorem exprD_f (m : Nat) : FltD u n (mX2_expression (m + 1)) := chcD_f orD_f
theorem orD_ok (ho : o ≤ 60) (hb : b ≤ 590) (hN : N ≤ 1500) (hf : FltD u n rc) (h : o < 60 → OkD u n N ms cur S0 b (o + 1) (gE 0) rc) : OkD u n N ms cur S0 (b + 8) o (gE 1) (mX2_or rc) := by
  have h0 : OkD u n N ms cur S0 (b + 2) o gP (mX2_primary rc) := primD_ok ho hN hf h
  have h1 : OkD u n N ms cur S0 (b + 3) o (gS 5) (mX2_not rc) := notD_ok (by omega) hN h0
  have h2 : OkD u n N ms cur S0 (b + 4) o (gE 5) (mX2_sum rc) := gD_ok (Or.inr (Or.inr (Or.inr ⟨rfl, rfl, rfl⟩))) (by omega) hN notD_f h1
  have f2 : FltD u n (mX2_sum rc) := by rw [sum_eqD]; exact gD_f (by omega) notD_f
  have h3 : OkD u n N ms cur S0 (b + 5) o (gS 3) (mX2_same rc) := same_ok (by omega) hN f2 h2
  have f3 := same_f f2
  have h4 : OkD u n N ms cur S0 (b + 6) o (gS 2) (gEpD 38 5 (mX2_same rc)) := gD_ok (Or.inr (Or.inr (Or.inl ⟨rfl, rfl, rfl⟩))) (by omega) hN f3 h3
  have f4 : FltD u n (gEpD 38 5 (mX2_same rc)) := gD_f (by omega) f3
  have h5 : OkD u n N ms cur S0 (b + 7) o (gS 1) (gEpD 94 7 (gEpD 38 5 (mX2_same rc))) := gD_ok (Or.inr (Or.inl ⟨rfl, rfl, rfl⟩)) (by omega) hN f4 h4
  exact gD_ok (Or.inl ⟨rfl, rfl, rfl⟩) (by omega) hN (gD_f (by omega) f4) h5
theorem exprD_ok (hN : N ≤ 1500) : ∀ (m o : Nat), m ≤ 64 → 62 ≤ m + o → o ≤ 60 → OkD u n N ms cur S0 (9 * m) o (gE 0) (mX2_expression m)
  | 0, o, _, h1, h2 => absurd h1 (by omega)
  | m + 1, o, h0, h1, h2 => by
    have hm : ∃ m', m = m' + 1 := ⟨m - 1, by omega⟩
    have hf : FltD u n (mX2_expression m) := by obtain ⟨m', rfl⟩ := hm; exact exprD_f m'
    have ih : o < 60 → OkD u n N ms cur S0 (9 * m) (o + 1) (gE 0) (mX2_expression m) := fun q => exprD_ok hN m (o + 1) (by omega) (by omega) (by omega)
    have r := chcD_ok (b := 9 * m) h2 (by omega) hN hf (orD_ok (b := 9 * m) h2 (by omega) hN hf ih) ih
    exact r
end KD9
