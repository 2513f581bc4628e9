/-! the class reads items: new names, widths, expressions of a width -/
/-- the place of a module of the class -/
def PNn (M a i : Nat) : Prop := PSc 4 a i ∨ a = M + 2 ∨ a = M + 3
section KIT
variable {S S0 z y : Sto} {u : Nat → Int} {n N : Nat} {ms : List Mdl} {cur m : Mdl} {q : Qq} {j o : Nat} {k : List Row3}
theorem ChW.gz {P : Nat → Nat → Prop} (g : ChW P S z) (e : ¬ P 170 2) : Gz S z := ⟨by rw [g.2.2.2.1]; exact Nat.le_refl _, by rw [g.2.2.2.1, Nat.sub_self, g.1 _ _ e]; show _ = _ * 1; omega, by rw [g.2.2.2.2, g.1 _ _ e]; omega⟩
/-- a name is held behind the others -/
theorem CtD.hold (h : CtD u n N ms cur S0 S) (g : ChW (PNn (9 + 10 * ms.length)) S y) (e : ∀ i, i < cur.length → NmE u n y (9 + 10 * ms.length + 1) i ((mTk cur).getD i 0)) : CtD u n N ms cur S0 y := by
  obtain ⟨h1, h2, h3, h4, h5, h6, h7⟩ := h
  have hm := h3.2
  have nP : ∀ a i, PNn (9 + 10 * ms.length) a i → (a = 4 ∧ 2 ≤ i ∧ i ≤ 9) ∨ a = 9 + 10 * ms.length + 2 ∨ a = 9 + 10 * ms.length + 3 := fun a i w => w
  refine ⟨h1.ch g (fun w => by have := nP _ _ w; omega) (fun i w => by have := nP _ _ w; omega), h2, ⟨(g.2.2.1 _ _).trans h3.1, h3.2⟩, ⟨⟨⟨?_, fun i hi => ?_, h4.1.1.k⟩, fun i hi => ?_, h4.1.2.2⟩, h4.2⟩, fun i hi => ⟨(h5 i hi).1.cg (fun a x q1 q2 => g.1 _ _ (fun w => by have := nP _ _ w; omega)), (h5 i hi).2⟩, h6, h7.tr (g.gz (fun w => by have := nP _ _ w; omega))⟩
  · rw [g.1 _ _ (fun w => by have := nP _ _ w; omega)]; exact h4.1.1.c
  · rw [mTk_len] at hi; exact e i hi
  · rw [g.1 _ _ (fun w => by have := nP _ _ w; omega), g.1 _ _ (fun w => by have := nP _ _ w; omega), g.1 _ _ (fun w => by have := nP _ _ w; omega)]; exact h4.1.2.1 i hi
theorem PS_PNn {M : Nat} : ∀ a i, PSc 4 a i → PNn M a i := fun a i q => Or.inl q
theorem PF_PNn {M : Nat} : ∀ a i, PF89 4 a i → PNn M a i := fun a i q => Or.inl (by unfold PF89 at q; unfold PSc; omega)
/-- a new name -/
theorem k_newD (c : CtD u n N ms cur S0 S) (h : ScQ u n S 4 q) : WP (mX2_newName S) (fun y => ScQ u n y 4 (newT u n 40 (mTk cur) q) ∧ ChW (PNn (9 + 10 * ms.length)) S y ∧ CtD u n N ms cur S0 y ∧ ∀ j j', q = .inl j → newT u n 40 (mTk cur) q = .inl j' → NmE u n y (9 + 10 * ms.length + 1) cur.length j) := by
  have t := c.t
  have hn := t.b
  have hm := c.r.2
  have hr := c.r.1
  have hMd := c.m.1
  have hMo := c.m.2
  have hsz := sz_M hm
  have hlen : (mTk cur).length = cur.length := mTk_len
  refine k_chkN (ps := mTk cur) (lim := 40) (fnd := fun x2 => gk (gR x2 3 5) 7 fun g4 => bX (mX4_find x2 (g4 + 1) 4) fun x5 => if ¬ w32 x5 = (-1) then some true else some false) (cnt := fun y7 => gk (gR y7 3 5) 7 fun g9 => if w32 (gI y7 (g9 + 1) 2) = 40 then some true else some false) (k := fun y11 => bX (mX3_ok y11 4) fun x12 => bX (if ¬ w32 x12 = 0 then gk (gR y11 3 5) 7 fun g13 => bX (mX4_hold y11 (g13 + 1) 4) fun x14 => some x14 else some y11) fun y15 => bX (mX3_next y15 4) fun x16 => some x16) hn h (fun y j e1 e2 e3 e4 => ?_) (fun y e4 => ?_) (fun y e3 e4 => ?_)
  · have cy := c.ch (ChXd.refl.f e4)
    rw [cy.r.1, gk_M hm]
    exact find_b cy.t e3 e2 cy.m.1.1 (M := 40) (by rw [hlen]; exact hMo.1) (by omega) hsz.1 hsz.2
  · have cy := c.ch (ChXd.refl.f e4)
    rw [cy.r.1, gk_M hm, cy.m.1.1.c, w32_id (by have := hMo.1; omega), hlen]
    by_cases e : cur.length = 40
    · rw [if_pos (by omega), decide_eq_true e]
    · rw [if_neg (by omega), decide_eq_false e]
  · have cy := c.ch (ChXd.refl.f e4)
    rw [k_ok e3, bX_some, bIf]
    cases hq : chT u n 40 (mTk cur) q with
    | inr f =>
      rw [hq] at e3
      have en : newT u n 40 (mTk cur) q = .inr f := chT_inr hq
      rw [if_neg (fun z => by cases z), bX_some]
      refine WP_call (k_next3 cy.t e3) (fun w hw => WP_some.2 ?_)
      have cw : ChW (PSc 4) S w := (ChW.refl.tr e4 (fun a i q => by unfold PF89 at q; unfold PSc; omega)).tr hw.2 (fun _ _ q => q)
      exact ⟨by rw [en]; exact hw.1, ChW.refl.tr cw PS_PNn, c.ch (ChXd.refl.p cw), fun j j' _ e => by rw [en] at e; cases e⟩
    | inl jn =>
      rw [hq] at e3
      obtain ⟨c1, c2, c3, c4⟩ := chT_inl hq
      have en : newT u n 40 (mTk cur) q = nxT u n jn := by unfold newT; rw [hq]; rfl
      rw [show okQ (.inl jn) = true from rfl, if_pos rfl, cy.r.1, gk_M hm]
      refine WP_bX.2 (WP_call (k_holdN cy.t e3 c2 cy.m.1.1 (N := 40) (by have := hMo.1; omega) (by omega) hsz.1 hsz.2 (by omega)) (fun v hv => WP_some.2 ?_))
      obtain ⟨v1, v2, v3⟩ := hv
      rw [hlen] at v1 v2
      have sv : ScQ u n v 4 (.inl jn) := e3.ch v3 (fun i _ _ q => by unfold PNm at q; omega)
      have cv : ChW (PNn (9 + 10 * ms.length)) S v := (ChW.refl.tr e4 PF_PNn).tr v3 (fun a i q => by unfold PNm at q; unfold PNn; omega)
      have cxv : CtD u n N ms cur S0 v := c.hold cv v1
      refine WP_call (k_next3 cxv.t sv) (fun w hw => WP_some.2 ⟨by rw [en]; exact hw.1, cv.tr hw.2 PS_PNn, cxv.ch (ChXd.refl.p hw.2), fun j2 j' e _ => ?_⟩)
      rw [c1] at e; injection e with e; subst e
      exact v2.cg (hw.2.1 _ _ (fun q => by unfold PSc at q; omega)) (fun t => hw.2.1 _ _ (fun q => by unfold PSc at q; omega))
def kWd (u : Nat → Int) (n : Nat) (r : (Nat × Int) ⊕ (Int × Int)) (y : Int × Sto) : Prop := match r with
  | .inl t => ScQ u n y.2 4 (.inl t.1) ∧ y.1 = t.2 ∧ 1 ≤ t.2 ∧ t.2 ≤ 8
  | .inr f => ScQ u n y.2 4 (.inr f)
/-- a width -/
theorem k_widD (t : TpK S 4 u n) (h : ScQ u n S 4 q) : WP (mX2_width S) (fun y => kWd u n (oB q (widD u n)) y ∧ ChW (PSc 4) S y.2) := by
  have pp : ∀ a i, PSc 4 a i → PSc 4 a i := fun _ _ q => q
  unfold mX2_width
  rw [k_is h t.u (by decide), bX_some, bIf2]
  cases q with
  | inr f =>
    show WP (if false = true then _ else _) _
    rw [if_neg (by decide)]
    exact WP_some.2 ⟨h, ChW.refl⟩
  | inl j =>
    rw [oB_l]
    show WP (if isS u n 58 j = true then _ else _) _
    unfold widD
    by_cases g : isS u n 58 j = true
    · rw [if_pos g, if_pos g]
      refine WP_call (k_next3 t h) (fun x hx => ?_)
      obtain ⟨a1, a2⟩ := hx
      have a1 : ScQ u n x 4 (nxT u n j) := a1
      refine WP_call (k_numD (t.chS a2) a1 (lo := 1) (hi := 8) (by omega)) (fun w hw => WP_some.2 ⟨?_, a2.tr hw.2.1 pp⟩)
      obtain ⟨b1, b2, b3, b4⟩ := hw
      cases hA : nxT u n j with
      | inr f => rw [hA] at b1; exact b1
      | inl a =>
        rw [hA] at b1 b4
        rw [oB_l]
        have b1 : ScQ u n w.2 4 (nuT u n 1 8 a) := b1
        cases hC : nuT u n 1 8 a with
        | inr f => rw [hC] at b1; exact b1
        | inl d =>
          rw [hC] at b1
          obtain ⟨k1, k2, k3, k4, k5⟩ := nuT_ok hC
          exact ⟨b1, b4 a d rfl hC, k4, k5⟩
    · rw [if_neg g, if_neg g]
      exact WP_some.2 ⟨⟨h, rfl, by show (1 : Int) ≤ 1; omega, by show (1 : Int) ≤ 8; omega⟩, ChW.refl⟩
/-- what an expression of a width leaves -/
def RsG (u : Nat → Int) (n N : Nat) (r : (Nat × List Row3) ⊕ (Int × Int)) (y : Sto) : Prop := match r with
  | .inl t => ScQ u n y 4 (.inl t.1) ∧ RwK y 170 (flat3 t.2) ∧ gI y 4 10 = 0 ∧ t.1 ≤ N ∧ t.2.length ≤ t.1
  | .inr f => ScQ u n y 4 (.inr f) ∧ okCap (gI y 170 2)
theorem ScQ.nf {f : Int × Int} {e1 : Int × Int} (h : ScQ u n S 4 (.inr f)) (e : e1 = f) : ScQ u n S 4 (.inr e1) := by rw [e]; exact h
/-- what an expression that is read leaves -/
theorem k_exprD (hN : N ≤ 1500) (c : CtD u n N ms cur S0 S) (h : ScQ u n S 4 (.inl j)) (hj : j ≤ N) (h10 : gI S 4 10 = 0) (hk : RwK S 170 (flat3 k)) (hl : k.length ≤ j) :
    WP (mX2_expression 64 S) (fun y => ChXd S y.2 ∧ ((∃ f, oGr (XD u n ms cur) (gE 0) j 0 (k, []) (.inr f) ∧ ScQ u n y.2 4 (.inr f) ∧ okCap (gI y.2 170 2)) ∨
      ∃ d k' w, oGr (XD u n ms cur) (gE 0) j 0 (k, []) (.inl (d, (k', [w]))) ∧ ScQ u n y.2 4 (.inl d) ∧ RwK y.2 170 (flat3 k') ∧ gI y.2 4 10 = 0 ∧ y.1 = w ∧ (1 ≤ w ∧ w ≤ 8) ∧ j < d ∧ d ≤ N ∧ k'.length ≤ d)) := by
  refine (exprD_ok (u := u) (n := n) (ms := ms) (cur := cur) (S0 := S0) hN 64 0 (by omega) (by omega) (by omega) S j k [] c h hj (by rw [h10]; rfl) hk hl).mono (fun y hy => ?_)
  obtain ⟨res, g, r, x⟩ := hy
  refine ⟨x, ?_⟩
  cases res with
  | inr f =>
    obtain ⟨r1, e, r2, r3⟩ := r
    exact Or.inl ⟨f, g, r1, r3.2.2.1⟩
  | inl t =>
    obtain ⟨d, k', ws⟩ := t
    obtain ⟨r1, r2, r3, r4, r5, r6⟩ := r
    have r2 : ws = [y.1] := r2
    subst r2
    have hd := oGr.leD c.l g trivial d (k', [y.1]) rfl hj
    refine Or.inr ⟨d, k', y.1, g, r1, r3, r4, rfl, ⟨r5, r6⟩, hd.2.1 rfl, hd.2.2.1, ?_⟩
    have h4 : k'.length + j ≤ d + k.length + 0 := hd.2.2.2.1
    omega
/-- behind a fault an expression does nothing -/
theorem k_exprF {f : Int × Int} (hu : ∀ i, i < n → 0 ≤ u i ∧ u i < 256) (h : ScQ u n S 4 (.inr f)) : WP (mX2_expression 64 S) (fun y => y.2 = S) := exprD_f 63 S f hu h
theorem failW (h : ScQ u n S 4 (.inl j)) {p w v : Int} (hp : -2147483648 ≤ p ∧ p < 2147483648) (hv : -2147483648 ≤ v ∧ v < 2147483648) (hw : -2147483648 ≤ w ∧ w < 2147483648) :
    WP (bX (mX3_ok S 4) fun x3 => bX (bX (if ¬ w32 x3 = 0 then if ¬ w32 v = w32 w then some true else some false else some false) fun b => if b = true then bX (mX3_fail S 4 13 p) fun x4 => some x4 else some S) fun y5 => some y5) (fun y => ScQ u n y 4 (if v = w then .inl j else .inr (13, p)) ∧ ChW (PF89 4) S y) := by
  rw [k_ok h, bX_some, bIf, show okQ (.inl j) = true from rfl, if_pos rfl, w32_id hv, w32_id hw]
  by_cases e : v = w
  · rw [if_neg (fun q => q e), bX_some, if_neg (by decide), bX_some, if_pos e]
    exact WP_some.2 ⟨h, ChW.refl⟩
  · rw [if_pos e, bX_some, if_pos rfl, if_neg e]
    exact WP_bX.2 (WP_call (k_failP h (c := 13) (by omega) hp) (fun y hy => WP_some.2 (WP_some.2 hy)))
theorem okQ_f {f : Int × Int} : okQ (.inr f) = false := rfl
/-- a sign is at hand, an expression of a width comes -/
theorem k_given (hN : N ≤ 1500) (c : CtD u n N ms cur S0 S) {p : Nat} {s w : Int} (hs : isS u n s p = true) (h : ScQ u n S 4 (.inl p)) (hp : p ≤ N) (h10 : gI S 4 10 = 0) (hk : RwK S 170 (flat3 k)) (hl : k.length ≤ p) (hw : 1 ≤ w ∧ w ≤ 8) :
    WP (mX2_given S w) (fun y => ChXd S y.2 ∧ y.1 = 3 * (k.length : Int) ∧ ∃ r, GvB u n ms cur s w p k r ∧ RsG u n N r y.2) := by
  have hn := c.t.b
  have hB := tkB_le (u := u) (n := n) p
  have ps : ∀ a i, PSc 4 a i → PSc 4 a i := fun _ _ q => q
  have h4 : gI S 4 4 = (tkB u n p : Nat) := h.2.2.1
  have et : tkT u n s (.inl p) = nxT u n p := by unfold tkT bq; dsimp only; rw [if_pos hs]
  unfold mX2_given
  refine WP_call (k_next3 c.t h) (fun x hx => ?_)
  obtain ⟨a1, a2⟩ := hx
  have a1 : ScQ u n x 4 (nxT u n p) := a1
  have cx := c.ch (ChXd.refl.p a2)
  have kx : RwK x 170 (flat3 k) := hk.p a2
  have x10 : gI x 4 10 = 0 := (opnP a2).trans h10
  have e3 : gI x 170 1 = 3 * (k.length : Int) := by rw [kx.1, flat3_len]; omega
  cases hA : nxT u n p with
  | inr f =>
    rw [hA] at a1
    refine WP_call (k_exprF c.t.u a1) (fun y hy => ?_)
    subst hy
    rw [k_ok a1, bX_some, bIf, okQ_f, if_neg (by decide), bX_some, if_neg (by decide), bX_some]
    exact WP_some.2 ⟨ChXd.refl.p a2, e3, .inr f, Or.inl ⟨f, et.trans hA, rfl⟩, a1, kx.2.2.1⟩
  | inl c1 =>
    rw [hA] at a1
    obtain ⟨n1, n2⟩ := nxT_ok hA
    have hlt : p < N := lt3 c.l (isS_K hs) hp
    refine WP_call (k_exprD hN cx a1 (by omega) x10 kx (by omega)) (fun y hy => ?_)
    obtain ⟨x1, hy⟩ := hy
    have cxy : ChXd S y.2 := (ChXd.refl.p a2).tr x1
    rcases hy with ⟨f, g1, g2, g3⟩ | ⟨d, k', w', g1, g2, g3, g4, g5, g6, g7, g8, g9⟩
    · rw [k_ok g2, bX_some, bIf, okQ_f, if_neg (by decide), bX_some, if_neg (by decide), bX_some]
      exact WP_some.2 ⟨cxy, e3, .inr f, Or.inr ⟨c1, et.trans hA, Or.inl ⟨f, g1, rfl⟩⟩, g2, g3⟩
    · subst g5
      have fw := failW (v := y.1) (w := w) (p := gI S 4 4) g2 (by rw [h4]; omega) (by omega) (by omega)
      rw [k_ok g2, bX_some] at fw ⊢
      obtain ⟨v, fv, v1, v2⟩ := fw
      have hX : ∀ {τ : Type} {A : Option Sto} {K : Sto → Option τ} {P : τ → Prop} {r : Sto}, (bX A fun y5 => some y5) = some r → WP (K r) P → WP (bX A K) P := fun {τ A K P r} e q => by
        cases A with
        | none => cases e
        | some a => injection e with e; subst e; exact q
      refine hX fv (WP_some.2 ⟨cxy.f v2, e3, if y.1 = w then .inl (d, k') else .inr (13, (tkB u n p : Int)), Or.inr ⟨c1, et.trans hA, Or.inr ⟨d, k', y.1, g1, rfl⟩⟩, ?_⟩)
      by_cases e : y.1 = w
      · rw [if_pos e] at v1 ⊢
        exact ⟨v1, g3.f v2, (opnF v2).trans g4, g8, g9⟩
      · rw [if_neg e] at v1 ⊢
        refine ⟨?_, ?_⟩
        · rw [h4] at v1; exact v1
        · rw [v2.1 _ _ (fun q => by unfold PF89 at q; omega)]; exact g3.2.2.1
end KIT
