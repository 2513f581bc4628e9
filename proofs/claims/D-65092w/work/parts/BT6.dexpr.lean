/-! the class reads expressions of a design: pairs and levels -/
def RsX (u : Nat → Int) (n N b : Nat) (ws : List Int) (o : Nat) (res : Rv VD) (y : Int × Sto) : Prop := match res with
  | .inl t => ScQ u n y.2 4 (.inl t.1) ∧ t.2.2 = y.1 :: ws ∧ RwK y.2 170 (flat3 t.2.1) ∧ gI y.2 4 10 = (o : Int) ∧ 1 ≤ y.1 ∧ y.1 ≤ 8
  | .inr f => ScQ u n y.2 4 (.inr f) ∧ ∃ e : List Row3, e.length ≤ N + b ∧ RwK y.2 170 (flat3 e)
def OkD (u : Nat → Int) (n N : Nat) (ms : List Mdl) (cur : Mdl) (S0 : Sto) (b o : Nat) (lx : Gx) (sub : Sto → Option (Int × Sto)) : Prop := ∀ S j k ws, CtD u n N ms cur S0 S → ScQ u n S 4 (.inl j) → j ≤ N → gI S 4 10 = (o : Int) → RwK S 170 (flat3 k) → k.length ≤ j → WP (sub S) (fun y => ∃ res, oGr (XD u n ms cur) lx j o (k, ws) res ∧ RsX u n N b ws o res y ∧ ChXd S y.2)
def FltD (u : Nat → Int) (n : Nat) (sub : Sto → Option (Int × Sto)) : Prop := ∀ S f, (∀ i, i < n → 0 ≤ u i ∧ u i < 256) → ScQ u n S 4 (.inr f) → WP (sub S) (fun y => y.2 = S)
def gLpD (c p4 : Int) (sub : Sto → Option (Int × Sto)) (x1 : Int × Sto) (s2 : Sto) : Option ((Sto) ⊕ (Sto)) := bX (mX3_is s2 4 c) fun x3 => if ¬ w32 x3 = 0 then bX (mX3_next s2 4) fun x4 => bX (sub x4) fun x5 => bX (mX2_pair x5.2 x1.1 x5.1 (gI s2 4 4) p4) fun x6 => some (Sum.inl x6) else some (Sum.inr s2)
def gEpD (c p4 : Int) (sub : Sto → Option (Int × Sto)) (S : Sto) : Option (Int × Sto) := bX (sub S) fun x1 => bX (lpF (gLpD c p4 sub x1) x1.2) fun y7 => some (x1.1, y7)
section KDE
variable {S S0 z y : Sto} {u : Nat → Int} {n N o b : Nat} {ms : List Mdl} {cur m : Mdl} {q : Qq} {j : Nat} {k : List Row3} {sub : Sto → Option (Int × Sto)}
theorem XD_r {j : Nat} {r : Nat} {c : Int} (h : (r = 1 ∧ c = 124) ∨ (r = 2 ∧ c = 94) ∨ (r = 3 ∧ c = 38) ∨ (r = 4 ∧ c = 257) ∨ (r = 5 ∧ c = 43)) : (XD u n ms cur).r j = r ↔ isS u n c j = true := by
  have key : isS u n c j = true ↔ tkK u n j = 3 ∧ tkV u n j = c := by unfold isS; rw [decide_eq_true_eq]
  rw [key]
  unfold OM.r
  show (if tkK u n j = 3 then (if false = true ∧ 4 ≤ oR (tkV u n j) then 0 else oR (tkV u n j)) else 0) = r ↔ _
  rw [if_neg (show ¬ (false = true ∧ 4 ≤ oR (tkV u n j)) from fun q => by cases q.1)]
  have hi := oR_iff (c := tkV u n j)
  have hc : oR (tkV u n j) = r ↔ tkV u n j = c := by
    rcases h with ⟨rfl, rfl⟩ | ⟨rfl, rfl⟩ | ⟨rfl, rfl⟩ | ⟨rfl, rfl⟩ | ⟨rfl, rfl⟩
    · exact hi.1
    · exact hi.2.1
    · exact hi.2.2.1
    · exact hi.2.2.2.1
    · exact hi.2.2.2.2
  by_cases g : tkK u n j = 3
  · rw [if_pos g, hc]; exact ⟨fun q => ⟨g, q⟩, fun q => q.2⟩
  · rw [if_neg g]
    constructor
    · intro q; omega
    · intro q; exact absurd q.1 g
theorem k_pair_f {f : Int × Int} {e : List Row3} (c : CtD u n N ms cur S0 S) (cy : ChXd S y) (hq : ScQ u n y 4 (.inr f)) (hk : RwK y 170 (flat3 e)) (hl : e.length ≤ 2700) {p1 p2 p3 p4 : Int} (h4 : 0 ≤ p4 ∧ p4 ≤ 100) : WP (mX2_pair y p1 p2 p3 p4) (fun z => RwK z 170 (flat3 (e ++ [(p4, 0, 0)])) ∧ ChXd S z ∧ ScQ u n z 4 (.inr f)) := by
  unfold mX2_pair
  rw [k_ok hq, bX_some, bIf, if_neg (fun z => by cases z), bX_some, if_neg (by decide), bX_some]
  exact WP_call (k_putD (c.ch cy) hk hl (w3k (by omega) (by omega) (by omega))) (fun z hz => WP_some.2 ⟨hz.1, cy.tr (ChXd.g hz.2), hz.2.sc hq⟩)
theorem k_pair (c : CtD u n N ms cur S0 S) (cy : ChXd S y) (hq : ScQ u n y 4 (.inl j)) (hk : RwK y 170 (flat3 k)) (hl : k.length ≤ 2700) {p1 p2 p3 p4 : Int} (h1 : 1 ≤ p1 ∧ p1 ≤ 8) (h2 : 1 ≤ p2 ∧ p2 ≤ 8) (h3 : 0 ≤ p3 ∧ p3 ≤ 100000) (h4 : 0 ≤ p4 ∧ p4 ≤ 100) (ho : gI y 4 10 = gI S 4 10) : WP (mX2_pair y p1 p2 p3 p4) (fun z => RwK z 170 (flat3 (k ++ [(p4, 0, 0)])) ∧ ChXd S z ∧ ScQ u n z 4 (if p1 = p2 then .inl j else .inr (13, p3)) ∧ gI z 4 10 = gI S 4 10) := by
  have w4 : w3ok (p4, 0, 0) := (w3k (by omega) (by omega) (by omega))
  unfold mX2_pair
  rw [k_ok hq, bX_some, bIf, show okQ (.inl j) = true from rfl, if_pos rfl, w32_id (by omega), w32_id (by omega)]
  by_cases g : p1 = p2
  · rw [if_neg (fun q => q g), bX_some, if_neg (by decide), bX_some, if_pos g]
    exact WP_call (k_putE c cy hk hl w4 hq ho) (fun z hz => WP_some.2 hz)
  · rw [if_pos g, bX_some, if_pos rfl, if_neg g]
    refine WP_bX.2 (WP_call (k_failP hq (c := 13) (by omega) (p := p3) (by omega)) (fun x hx => WP_some.2 ?_))
    exact WP_call (k_putE c (cy.f hx.2) (hk.f hx.2) hl w4 hx.1 ((opnF hx.2).trans ho)) (fun z hz => WP_some.2 hz)
theorem gD_f {c p4 : Int} (hc : 0 ≤ c ∧ c < 256) (h : FltD u n sub) : FltD u n (gEpD c p4 sub) := by
  intro S f hu hS
  unfold gEpD
  refine WP_call (h S f hu hS) (fun x hx => ?_)
  refine WP_call (R := fun y => y = S) ?_ (fun y hy => WP_some.2 hy)
  refine WP_lpF (fun s => s = S) (fun _ => 0) hx (by decide) (fun s hs => ?_)
  unfold gLpD
  rw [hs, k_is hS hu hc, bX_some]
  exact WP_some.2 rfl
theorem gD_ok {r : Nat} {c p4 : Int} (hr : (r = 1 ∧ c = 124 ∧ p4 = 6) ∨ (r = 2 ∧ c = 94 ∧ p4 = 7) ∨ (r = 3 ∧ c = 38 ∧ p4 = 5) ∨ (r = 5 ∧ c = 43 ∧ p4 = 9)) (hb : b ≤ 600) (hN : N ≤ 1500) (hf : FltD u n sub) (h : OkD u n N ms cur S0 b o (gS r) sub) : OkD u n N ms cur S0 (b + 1) o (gE r) (gEpD c p4 sub) := by
  have hrr : (r = 1 ∧ c = 124) ∨ (r = 2 ∧ c = 94) ∨ (r = 3 ∧ c = 38) ∨ (r = 4 ∧ c = 257) ∨ (r = 5 ∧ c = 43) := by omega
  have hc0 : 0 ≤ c ∧ c < 256 := by omega
  have hp4 : 0 ≤ p4 ∧ p4 ≤ 100 := by omega
  have hcd : cdD c = p4 ∧ c ≠ 257 := by rcases hr with ⟨_, rfl, rfl⟩ | ⟨_, rfl, rfl⟩ | ⟨_, rfl, rfl⟩ | ⟨_, rfl, rfl⟩ <;> exact ⟨rfl, by decide⟩
  have hr1 : 1 ≤ r ∧ r ≤ 5 ∧ r ≠ 4 := by omega
  intro S j k ws hC hS hj ho hk hl
  have hu := hC.t.u
  have hn := hC.t.b
  unfold gEpD
  refine WP_call (h S j k ws hC hS hj ho hk hl) (fun x hx => ?_)
  obtain ⟨res, h1, h2, h3⟩ := hx
  refine WP_call (R := fun y => ∃ res, oGr (XD u n ms cur) (gE r) j o (k, ws) res ∧ RsX u n N (b + 1) ws o res (x.1, y) ∧ ChXd S y) ?_ (fun y hy => WP_some.2 hy)
  cases res with
  | inr f =>
    obtain ⟨g1, e, g2, g3⟩ := h2
    refine WP_lpF (fun s => s = x.2) (fun _ => 0) rfl (by decide) (fun s hs => ?_)
    unfold gLpD
    rw [hs, k_is g1 hu hc0, bX_some]
    exact WP_some.2 ⟨.inr f, .ef (by omega) (by omega) h1, ⟨g1, e, by omega, g3⟩, h3⟩
  | inl jv =>
    obtain ⟨j1, k1, w1⟩ := jv
    obtain ⟨g1, g2, g3, g4, g5⟩ := h2
    have g2 : w1 = x.1 :: ws := g2
    subst g2
    have le1 := h1.leD hC.l (isLx_gS r).2.2 _ _ rfl hj
    have hk1 : k1.length ≤ j1 := by have := le1.2.2.2.1; rw [(isLx_gS r).2.1] at this; have : k1.length + j ≤ j1 + k.length + 0 := this; omega
    refine WP_lpF (fun s => ChXd S s ∧ ((∃ j' k', ScQ u n s 4 (.inl j') ∧ gI s 4 10 = (o : Int) ∧ j' ≤ N ∧ RwK s 170 (flat3 k') ∧ k'.length ≤ j' ∧ ∀ res, oGr (XD u n ms cur) (gLo r) j' o (k', x.1 :: ws) res → oGr (XD u n ms cur) (gLo r) j1 o (k1, x.1 :: ws) res) ∨ ∃ f e, ScQ u n s 4 (.inr f) ∧ e.length ≤ N + b + 1 ∧ RwK s 170 (flat3 e) ∧ oGr (XD u n ms cur) (gLo r) j1 o (k1, x.1 :: ws) (.inr f))) (fun s => if gI s 4 8 = 0 then 1 + (n - (gI s 4 4).toNat) else 0) ⟨h3, Or.inl ⟨j1, k1, g1, g4, le1.2.2.1, g3, hk1, fun _ q => q⟩⟩ ?_ (fun s hs => ?_)
    · have := hC.t.b
      exact ite_lt (show 1 + (n - _) < 1000000000000 by omega) (show 0 < 1000000000000 by omega)
    obtain ⟨s1, s2⟩ := hs
    have Cs := hC.ch s1
    unfold gLpD
    rcases s2 with ⟨j', k', a1, a3, a4, a6, a7, a5⟩ | ⟨f, e, a1, a2, a3, a4⟩
    · rw [k_is a1 hu hc0, bX_some]
      show WP (if ¬ w32 (b2i (isS u n c j')) = 0 then _ else _) _
      rw [bIf]
      cases e : isS u n c j' with
      | false =>
        rw [if_neg (by decide)]
        exact WP_some.2 ⟨.inl (j', (k', x.1 :: ws)), .el (by omega) (by omega) h1 (a5 _ (.ls (fun q => by rw [XD_r (ms := ms) (cur := cur) hrr, e] at q; cases q))), ⟨a1, rfl, a6, a3, g5⟩, s1⟩
      | true =>
        rw [if_pos rfl]
        have hR := (XD_r (ms := ms) (cur := cur) hrr).2 e
        have hV : tkV u n j' = c := (of_decide_eq_true e).2
        have hlt := hC.l.le (i := j') (by rw [isS_K e]; decide) a4
        have hBl := hC.l.lt hlt
        have hB := tkB_le (u := u) (n := n) j'
        have m8 : gI s 4 8 = 0 := a1.1
        have m4 : gI s 4 4 = (tkB u n j' : Nat) := a1.2.2.1
        have dec : ∀ {z : Sto} {f : Int × Int}, ScQ u n z 4 (.inr f) → (if gI z 4 8 = 0 then 1 + (n - (gI z 4 4).toNat) else 0) < (if gI s 4 8 = 0 then 1 + (n - (gI s 4 4).toNat) else 0) := fun {z f} hz => by
          rw [m8, m4, if_pos rfl, if_neg (by rw [hz.1]; exact hz.2.1)]; omega
        refine WP_call (k_next3 Cs.t a1) (fun y hy => ?_)
        obtain ⟨y1, y2⟩ := hy
        have cy : ChXd S y := s1.p y2
        have oy : gI y 4 10 = (o : Int) := (opnP y2).trans a3
        have y1 : ScQ u n y 4 (nxT u n j') := y1
        cases eN : nxT u n j' with
        | inr f =>
          rw [eN] at y1
          refine WP_call (hf y f hu y1) (fun x5 hx5 => ?_)
          rw [hx5]
          refine WP_call (k_pair_f hC cy y1 (a6.p y2) (by omega) hp4) (fun z hz => WP_some.2 ⟨⟨hz.2.1, Or.inr ⟨f, _, hz.2.2, ?_, hz.1, a5 _ (.lf hR eN)⟩⟩, dec hz.2.2⟩)
          rw [len1]; omega
        | inl j2 =>
          rw [eN] at y1
          have e2 := nxT_inl eN
          refine WP_call (h y j2 k' (x.1 :: ws) (hC.ch cy) y1 (by omega) oy (a6.p y2) (by omega)) (fun x5 hx5 => ?_)
          obtain ⟨res, z1, z2, z3⟩ := hx5
          have c5 : ChXd S x5.2 := cy.tr z3
          cases res with
          | inr f =>
            obtain ⟨z4, e', z5, z6⟩ := z2
            refine WP_call (k_pair_f hC c5 z4 z6 (by omega) hp4) (fun z hz => WP_some.2 ⟨⟨hz.2.1, Or.inr ⟨f, _, hz.2.2, ?_, hz.1, a5 _ (.lg hR eN z1)⟩⟩, dec hz.2.2⟩)
            rw [len1]; omega
          | inl jw =>
            obtain ⟨j3, k3, w3⟩ := jw
            obtain ⟨z4, z5, z6, z7, z8⟩ := z2
            have z5 : w3 = x5.1 :: x.1 :: ws := z5
            have z6 : RwK x5.2 170 (flat3 k3) := z6
            have z4 : ScQ u n x5.2 4 (.inl j3) := z4
            subst z5
            have le2 := z1.leD hC.l (isLx_gS r).2.2 _ _ rfl (by omega)
            have hk3 : k3.length + j2 ≤ j3 + k'.length := by have := le2.2.2.2.1; rw [(isLx_gS r).2.1] at this; exact this
            refine WP_call (k_pair (k := k3) hC c5 z4 z6 (by have := le2.2.2.1; omega) g5 z8 (by omega) hp4 (z7.trans ho.symm)) (fun z hz => WP_some.2 ?_)
            obtain ⟨t1, t2, t3, t4⟩ := hz
            rw [m4] at t3
            by_cases g : x.1 = x5.1
            · rw [if_pos g] at t3
              have hap : (XD u n ms cur).ap (tkV (XD u n ms cur).u (XD u n ms cur).n j') j' (k3, x5.1 :: x.1 :: ws) = .inl (k3 ++ [(p4, 0, 0)], x.1 :: ws) := by
                show apD u n (tkV u n j') j' (k3, x5.1 :: x.1 :: ws) = _
                rw [hV]
                show (if x.1 = x5.1 then _ else _) = _
                rw [if_pos g, hcd.1, if_neg hcd.2]
              refine ⟨⟨t2, Or.inl ⟨j3, k3 ++ [(p4, 0, 0)], t3, t4.trans ho, le2.2.2.1, t1, by rw [len1]; omega, fun res q => a5 _ (.lc hr1.2.2 hR eN z1 hap q)⟩⟩, ?_⟩
              have z4' : gI z 4 4 = (tkB u n j3 : Nat) := t3.2.2.1
              have z48 : gI z 4 8 = 0 := t3.1
              have := tkB_slt (j := j3) hBl (by have := le2.1; omega)
              have := tkB_le (u := u) (n := n) j3
              rw [m8, m4, z48, z4', if_pos rfl, if_pos rfl, Int.toNat_natCast, Int.toNat_natCast]; omega
            · rw [if_neg g] at t3
              have hap : (XD u n ms cur).ap (tkV (XD u n ms cur).u (XD u n ms cur).n j') j' (k3, x5.1 :: x.1 :: ws) = .inr (13, (tkB u n j' : Int)) := by
                show apD u n (tkV u n j') j' (k3, x5.1 :: x.1 :: ws) = _
                show (if x.1 = x5.1 then _ else _) = _
                rw [if_neg g]
              exact ⟨⟨t2, Or.inr ⟨_, _, t3, by rw [len1]; have := le2.2.2.1; omega, t1, a5 _ (.lx hR eN z1 hap)⟩⟩, dec t3⟩
    · rw [k_is a1 hu hc0, bX_some]
      exact WP_some.2 ⟨.inr f, .el (by omega) (by omega) h1 a4, ⟨a1, e, by omega, a3⟩, s1⟩
end KDE
