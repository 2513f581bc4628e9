/-! the reference tells designs: inputs, values, registers -/
def MItO (u : Nat → Int) (n N : Nat) (fs : List Fin0) (res : RIt ⊕ (Int × Int)) (y : Sto) : Prop := match res with
  | .inl r => MsQ u n N y (.inl r.1) ∧ CmI u n N fs r.2.2.1 r.2.2.2.1 y
  | .inr f => MsQ u n N y (.inr f)
def mVt (p1 p2 : Int) (x3 : Sto) : Option Sto := bX (mX23_sign x3 61) fun x4 => bX (mX23_expression x4) fun x5 => bX (mX23_isRight x5) fun x6 => bX (bX (if ¬ w32 x6 = 0 then rdI 1024 x5 2021 0 fun v7 => if ¬ w32 v7 = w32 (gI x3 2000 26) then some true else some false else some false) fun b => if b = true then bX (mX23_flawBefore x5 13 (gI x3 2000 9)) fun x8 => some x8 else some x5) fun y9 => bX (mX23_sign y9 59) fun x10 => wf x10 2000 25 (gI x3 2000 25) fun S11 => wf S11 2000 26 (gI x3 2000 26) fun S12 => bX (mX23_tell S12 p1 p2 0) fun x13 => some x13
def mRv (x3 : Sto) : Option (Int × Sto) := bX (mX23_go x3) fun x6 => bX (mX23_due x6 2) fun x7 => rdI 65537 x7.2 2004 x7.1 fun v8 => bX (mX23_isRight x7.2) fun x9 => bX (bX (if ¬ w32 x9 = 0 then if w32 (aShl 1 (gI x7.2 2000 26)) ≤ w32 v8 then some true else some false else some false) fun b => if b = true then bX (mX23_flaw x7.2 12 x7.1) fun x10 => some x10 else some x7.2) fun y11 => bX (mX23_go y11) fun x12 => some (v8, x12)
section MVL
variable {S x z y : Sto} {u : Nat → Int} {n N M c : Nat} {fs : List Fin0} {ms : List Mdl} {cur m : Mdl} {gv : List Nat} {k : List Row3} {q : Qq} {j jn p d : Nat} {s w v W : Int} {f : Int × Int}
theorem MTk.pd (t : MTk u n N S) (g : ChW PDs S z) : MTk u n N z := t.ch g (fun a i q1 q2 w => by have := PDs_n w; omega)
theorem ChW.sS {P : Nat → Nat → Prop} (g : ChW PDs S x) (h : ChW P x z) (e : ∀ a i, P a i → PDs a i) : ChW PDs S z := g.tr h e
/-- a new name and its width -/
theorem m_hd {τ : Type} {K : Sto → Option τ} {P : τ → Prop} (hC : CmI u n N fs cur gv S) (hq : MsQ u n N S (.inl j)) (hj : j < N)
    (hf : ∀ y f, hdD u n cur j = .inr f → MsQ u n N y (.inr f) → ChW PDs S y → MTk u n N y → WP (K y) P)
    (hk : ∀ y t, hdD u n cur j = .inl t → MsQ u n N y (.inl t.1) → ChW PDs S y → CmI u n N fs cur gv y → gI y 2000 25 = ((j + 1 : Nat) : Int) → gI y 2000 26 = t.2 → WP (K y) P) :
    WP (bX (mX23_go S) fun x1 => bX (mX23_newName x1 (fs.length : Int)) fun x2 => bX (mX23_width x2) fun x3 => K x3) P := by
  refine WP_call (m_go hC.t hq (fun i e => by injection e with e; omega)) (fun x1 hx => ?_)
  obtain ⟨a1, a2⟩ := hx
  have a1 : MsQ u n N x1 (nxT u n j) := a1
  have c1 : ChW PDs S x1 := ChW.refl.tr a2 PG9_s
  have C1 := hC.ch c1
  obtain ⟨⟨r1, r2, r3⟩, r4, r5, r6⟩ := C1.r
  refine WP_call (m_newName C1.t a1 r1 r2 r5.1.1 r5.2) (fun x2 hx => ?_)
  obtain ⟨b1, b2, b3⟩ := hx
  have c2 : ChW PDs S x2 := c1.tr b2 PN9_s
  have C2 := hC.ch c2
  refine WP_call (m_width C2.t b1) (fun x3 hx => ?_)
  obtain ⟨d1, d2⟩ := hx
  have c3 : ChW PDs S x3 := c2.tr d2 PW9_s
  have d1 : mWd u n N (hdD u n cur j) x3 := d1
  cases hA : hdD u n cur j with
  | inr f =>
    rw [hA] at d1
    exact hf x3 f hA d1 c3 (hC.t.pd c3)
  | inl t =>
    rw [hA] at d1
    obtain ⟨e1, e2, e3⟩ := d1
    obtain ⟨n1, _⟩ := hdD_ok hC.t.l hA hj
    rw [n1] at a1
    refine hk x3 t hA e1 c3 (hC.ch c3) ?_ e2
    rw [d2.1 _ _ (fun q => by unfold PW9 PG9 at q; omega), b3]
    exact a1.2.1
theorem m_endF {a b dd : Int} (t : MTk u n N S) (hq : MsQ u n N S (.inr f)) : WP (bX (mX23_sign S 59) fun x5 => bX (mX23_tell x5 a b dd) fun x6 => some x6) (fun y => ChW PDs S y ∧ MsQ u n N y (.inr f)) := by
  refine WP_call (m_sign t hq (c := 59) (by omega)) (fun x5 hx => ?_)
  have h1 : MsQ u n N x5 (.inr f) := hx.1
  rw [m_tellF h1, bX_some]
  exact WP_some.2 ⟨ChW.refl.tr hx.2 PG9_s, h1⟩
/-- the end of an item: a semicolon, and the name is told -/
theorem m_end7 (hC : CmI u n N fs cur gv S) (hq : MsQ u n N S (.inl d)) (hk : tkK u n jn = 1) (hjn : jn ≤ N) (hc : cur.length < 40) (hs : 0 ≤ s ∧ s ≤ 4) (h26 : gI S 2000 26 = w) (hw : 0 ≤ w ∧ w ≤ 8) (h25 : gI S 2000 25 = (jn : Int)) (hv : -2147483648 ≤ v ∧ v < 2147483648) (hN : NmOk fs.length (jn, s, w, v)) (nm : List Int) :
    WP (bX (mX23_sign S 59) fun x5 => bX (mX23_tell x5 (fs.length : Int) (s + 1) v) fun x6 => some x6) (fun y => ChW (PDm fs.length) S y ∧ MItO u n N fs (oB (tkT u n 59 (.inl d)) (fun e => .inl (e, k, cur ++ [(jn, s, w, v)], gv, nm))) y) := by
  refine WP_call (m_sign hC.t hq (c := 59) (by omega)) (fun x5 hx => ?_)
  obtain ⟨a1, a2⟩ := hx
  have c1 : ChW PDs S x5 := ChW.refl.tr a2 PG9_s
  have C1 := hC.ch c1
  cases hT : tkT u n 59 (.inl d) with
  | inr f =>
    rw [hT] at a1
    rw [m_tellF a1, bX_some]
    exact WP_some.2 ⟨ChW.refl.tr c1 PDs_m, a1⟩
  | inl e =>
    rw [hT] at a1
    refine WP_bX.2 ((m_told7 C1 a1 hk hjn hc hs (w := w) (v := v) (by rw [a2.1 _ _ (fun q => by unfold PG9 at q; omega)]; exact h26) hw (by rw [a2.1 _ _ (fun q => by unfold PG9 at q; omega)]; exact h25) hv hN).mono (fun y hy => WP_some.2 ?_))
    exact ⟨(ChW.refl.tr c1 PDs_m).tr hy.1 (fun _ _ q => q), hy.2.1, hy.2.2⟩
/-- an input -/
theorem m_inI (hC : CmI u n N fs cur gv S) (hq : MsQ u n N S (.inl j)) (hj : j < N) :
    WP (bX (mX23_go S) fun x2 => bX (mX23_newName x2 (fs.length : Int)) fun x3 => bX (mX23_width x3) fun x4 => bX (mX23_sign x4 59) fun x5 => bX (mX23_tell x5 (fs.length : Int) 1 0) fun x6 => some x6) (fun y => ChW (PDm fs.length) S y ∧ MItO u n N fs (oB (inD u n cur j) (fun t => .inl (t.1, k, cur ++ [(j + 1, 0, t.2, 0)], gv, []))) y) := by
  refine m_hd hC hq hj (K := fun x4 => bX (mX23_sign x4 59) fun x5 => bX (mX23_tell x5 (fs.length : Int) 1 0) fun x6 => some x6) (fun y f e1 e2 e3 e4 => ?_) (fun y t e1 e2 e3 e4 e5 e6 => ?_)
  · refine (m_endF e4 e2).mono (fun z hz => ⟨ChW.refl.tr (e3.tr hz.1 (fun _ _ q => q)) PDs_m, ?_⟩)
    unfold inD
    rw [e1]; exact hz.2
  · obtain ⟨n1, n2, n3, n4, n5, n6, n7, n8, n9, n10⟩ := hdD_ok hC.t.l e1 hj
    have hl := e4.r.2.2.1.1.1
    refine (m_end7 (k := k) e4 e2 n3 (by omega) (by omega) (s := 0) (w := t.2) (v := 0) (by omega) e6 (by omega) e5 (by omega) ⟨by show (0 : Int) ≤ 0 ∧ (0 : Int) ≤ 4; omega, fun _ => n9, fun q => by have q : (0 : Int) = 4 := q; omega⟩ []).mono (fun z hz => ⟨(ChW.refl.tr e3 PDs_m).tr hz.1 (fun _ _ q => q), ?_⟩)
    have hz2 := hz.2
    unfold inD
    rw [e1, oB_l]
    cases hT : tkT u n 59 (.inl t.1) with
    | inr f => rw [hT] at hz2; exact hz2
    | inl e => rw [hT] at hz2; exact hz2
/-- the width of an expression is looked at -/
theorem m_chkF {τ : Type} {K : Sto → Option τ} {A : Sto → Option Bool} {B : Sto → Option Sto} (hq : MsQ u n N S (.inr f)) : (bX (mX23_isRight S) fun x6 => bX (bX (if ¬ w32 x6 = 0 then A S else some false) fun b => if b = true then B S else some S) fun y9 => K y9) = K S := by
  rw [m_isRight hq, bX_some, bIf, okQ_f, if_neg (by decide), bX_some, if_neg (by decide), bX_some]
theorem m_chk {τ : Type} {K : Sto → Option τ} {P : τ → Prop} (t : MTk u n N S) (hq : MsQ u n N S (.inl d)) (hp : p ≤ N) {A : Sto → Option Bool} (hA : A S = some (decide (w ≠ W))) (hK : ∀ y, MsQ u n N y (if w = W then .inl d else .inr (13, (tkB u n p : Int))) → ChW PDs S y → WP (K y) P) :
    WP (bX (mX23_isRight S) fun x6 => bX (bX (if ¬ w32 x6 = 0 then A S else some false) fun b => if b = true then bX (mX23_flawBefore S 13 (p : Int)) fun x8 => some x8 else some S) fun y9 => K y9) P := by
  rw [m_isRight hq, bX_some, bIf, show okQ (.inl d) = true from rfl, if_pos rfl, hA, bX_some]
  by_cases e : w = W
  · rw [decide_eq_false (fun q => q e), if_neg (by decide), bX_some]
    exact hK S (by rw [if_pos e]; exact hq) ChW.refl
  · rw [decide_eq_true e, if_pos rfl]
    refine WP_bX.2 (WP_bX.2 ((m_flawBefore t hq hp (c := 13) (by omega)).mono (fun y hy => WP_some.2 ?_)))
    exact hK y (by rw [if_neg e]; exact hy.1) (ChW.refl.tr hy.2 PF10_s)
theorem mVt_eq {p1 p2 : Int} : mX23_tellValue S p1 p2 = bX (mX23_go S) fun x1 => bX (mX23_newName x1 p1) fun x2 => bX (mX23_width x2) fun x3 => mVt p1 p2 x3 := rfl
/-- behind a fault -/
theorem mVt_f {p1 p2 : Int} (t : MTk u n N S) (hq : MsQ u n N S (.inr f)) : WP (mVt p1 p2 S) (fun y => ChW PDs S y ∧ MsQ u n N y (.inr f)) := by
  unfold mVt
  refine WP_call (m_sign t hq (c := 61) (by omega)) (fun x4 h4 => ?_)
  have q4 : MsQ u n N x4 (.inr f) := h4.1
  refine WP_call (m_exprF q4) (fun x5 h5 => ?_)
  rw [m_chkF h5.2 (A := fun x5 => rdI 1024 x5 2021 0 fun v7 => if ¬ w32 v7 = w32 (gI S 2000 26) then some true else some false) (B := fun x5 => bX (mX23_flawBefore x5 13 (gI S 2000 9)) fun x8 => some x8)]
  have c5 : ChW PDs S x5 := (ChW.refl.tr h4.2 PG9_s).tr h5.1 PAQ_s
  refine WP_call (m_sign (t.pd c5) h5.2 (c := 59) (by omega)) (fun x10 h10 => ?_)
  have q10 : MsQ u n N x10 (.inr f) := h10.1
  rw [wf_eq, wf_eq]
  generalize hA : sI (sI x10 2000 25 (gI S 2000 25)) 2000 26 (gI S 2000 26) = A
  have cA : ChW (fun a i => a = 2000 ∧ (i = 25 ∨ i = 26)) x10 A := by rw [← hA]; exact (ChW.refl.sI ⟨rfl, Or.inl rfl⟩).sI ⟨rfl, Or.inr rfl⟩
  have qA : MsQ u n N A (.inr f) := q10.ch cA (fun i l1 l2 w => by omega)
  rw [m_tellF qA, bX_some]
  exact WP_some.2 ⟨(c5.tr h10.2 PG9_s).tr cA (fun a i w => Or.inr w), qA⟩
/-- an expression of a width, once its sign is taken -/
theorem m_exW {τ : Type} {K : Sto → Option τ} {P : τ → Prop} {A : Sto → Option Bool} {r : (Nat × List Row3) ⊕ (Int × Int)} (t : MTk u n N S) (h27 : gI S 2000 27 = 0) (hc : RCx u n N (fMs fs) cur fs.length S) (hq : MsQ u n N S (.inl c)) (hp : p ≤ N) (hR : ExW u n (fMs fs) cur W p c k r)
    (hA : ∀ y w', ChW PDs S y → gI y 2021 0 = w' → 1 ≤ w' ∧ w' ≤ 8 → A y = some (decide (w' ≠ W)))
    (hf : ∀ y f, r = .inr f → MsQ u n N y (.inr f) → ChW PDs S y → WP (K y) P)
    (hk : ∀ y d k', r = .inl (d, k') → MsQ u n N y (.inl d) → ChW PDs S y → WP (K y) P) :
    WP (bX (mX23_expression S) fun x5 => bX (mX23_isRight x5) fun x6 => bX (bX (if ¬ w32 x6 = 0 then A x5 else some false) fun b => if b = true then bX (mX23_flawBefore x5 13 (p : Int)) fun x8 => some x8 else some x5) fun y9 => K y9) P := by
  rcases hR with ⟨f, g, e⟩ | ⟨d, k', w', g, e⟩
  · refine WP_call (m_expr0 t h27 hq hc g) (fun x5 h5 => ?_)
    have q5 : MsQ u n N x5 (.inr f) := h5.2
    rw [m_chkF q5 (A := A) (B := fun x5 => bX (mX23_flawBefore x5 13 (p : Int)) fun x8 => some x8)]
    exact hf x5 f e q5 (ChW.refl.tr h5.1 PAQ_s)
  · refine WP_call (m_expr0 t h27 hq hc g) (fun x5 h5 => ?_)
    obtain ⟨a1, a2, a3⟩ := h5
    obtain ⟨b1, b2, b3⟩ := a3 w' rfl
    have c5 : ChW PDs S x5 := ChW.refl.tr a1 PAQ_s
    refine m_chk (w := w') (W := W) (t.pd c5) a2 hp (hA x5 w' c5 b1 ⟨b2, b3⟩) (fun y y1 y2 => ?_)
    by_cases q : w' = W
    · rw [if_pos q] at y1 e
      exact hk y d k' e y1 (c5.tr y2 (fun _ _ q => q))
    · rw [if_neg q] at y1 e
      exact hf y _ e y1 (c5.tr y2 (fun _ _ q => q))
/-- an output or a value between -/
theorem m_value (hs : s = 1 ∨ s = 2) (hC : CmI u n N fs cur gv S) (hq : MsQ u n N S (.inl j)) (hj : j < N) {r : (Nat × List Row3 × Int) ⊕ (Int × Int)} (hR : vaR u n (fMs fs) cur j k r) :
    WP (mX23_tellValue S (fs.length : Int) (s + 1)) (fun y => ChW (PDm fs.length) S y ∧ MItO u n N fs (oB r (fun t => .inl (t.1, t.2.1, cur ++ [(j + 1, s, t.2.2, 0)], gv, [(cur.length : Int)]))) y) := by
  rw [mVt_eq]
  refine m_hd hC hq hj (K := fun x3 => mVt (fs.length : Int) (s + 1) x3) (fun y f e1 e2 e3 e4 => ?_) (fun y t e1 e2 e3 e4 e5 e6 => ?_)
  · refine (mVt_f e4 e2).mono (fun z hz => ⟨ChW.refl.tr (e3.tr hz.1 (fun _ _ q => q)) PDs_m, ?_⟩)
    rcases hR with ⟨f', h1, h2⟩ | ⟨t, h1, _⟩
    · rw [e1] at h1; injection h1 with h1; subst h1; subst h2
      exact hz.2
    · rw [e1] at h1; cases h1
  · rcases hR with ⟨f', h1, h2⟩ | ⟨t', h1, r', hG, h2⟩
    · rw [e1] at h1; cases h1
    rw [e1] at h1; injection h1 with h1; subst h1
    subst h2
    obtain ⟨n1, n2, n3, n4, n5, n6, n7, n8, n9, n10⟩ := hdD_ok hC.t.l e1 hj
    have hl := e4.r.2.2.1.1.1
    obtain ⟨r2, hB, h2⟩ := hG
    subst h2
    unfold mVt
    refine WP_call (m_sign e4.t e2 (c := 61) (by omega)) (fun x4 h4 => ?_)
    obtain ⟨a1, a2⟩ := h4
    have c4 : ChW PDs y x4 := ChW.refl.tr a2 PG9_s
    have C4 := e4.ch c4
    have h9 : gI y 2000 9 = (t.1 : Int) := e2.2.1
    rw [h9, e5, e6]
    -- behind the check
    have tailF : ∀ {x5 : Sto} {f : Int × Int}, MsQ u n N x5 (.inr f) → ChW PDs y x5 → WP (bX (mX23_sign x5 59) fun x10 => wf x10 2000 25 ((j + 1 : Nat) : Int) fun S11 => wf S11 2000 26 t.2 fun S12 => bX (mX23_tell S12 (fs.length : Int) (s + 1) 0) fun x13 => some x13) (fun z => ChW PDs S z ∧ MsQ u n N z (.inr f)) := fun {x5 f} q5 c5 => by
      refine WP_call (m_sign (e4.t.pd c5) q5 (c := 59) (by omega)) (fun x10 h10 => ?_)
      have q10 : MsQ u n N x10 (.inr f) := h10.1
      rw [wf_eq, wf_eq]
      generalize hA : sI (sI x10 2000 25 ((j + 1 : Nat) : Int)) 2000 26 t.2 = A
      have cA : ChW (fun a i => a = 2000 ∧ (i = 25 ∨ i = 26)) x10 A := by rw [← hA]; exact (ChW.refl.sI ⟨rfl, Or.inl rfl⟩).sI ⟨rfl, Or.inr rfl⟩
      have qA : MsQ u n N A (.inr f) := q10.ch cA (fun i l1 l2 w => by omega)
      rw [m_tellF qA, bX_some]
      exact WP_some.2 ⟨((e3.tr c5 (fun _ _ q => q)).tr h10.2 PG9_s).tr cA (fun a i w => Or.inr w), qA⟩
    rcases hB with ⟨f, g1, g2⟩ | ⟨c, g1, g2⟩
    · rw [g1] at a1
      subst g2
      refine WP_call (m_exprF a1) (fun x5 h5 => ?_)
      rw [m_chkF h5.2 (A := fun x5 => rdI 1024 x5 2021 0 fun v7 => if ¬ w32 v7 = w32 t.2 then some true else some false) (B := fun x5 => bX (mX23_flawBefore x5 13 (t.1 : Int)) fun x8 => some x8)]
      exact (tailF h5.2 (c4.tr h5.1 PAQ_s)).mono (fun z hz => ⟨ChW.refl.tr hz.1 PDs_m, hz.2⟩)
    · rw [g1] at a1
      refine m_exW (A := fun x5 => rdI 1024 x5 2021 0 fun v7 => if ¬ w32 v7 = w32 t.2 then some true else some false) (fs := fs) C4.t C4.m C4.r a1 n7 g2 (fun y' w' _ h21 hw' => ?_) (fun x5 f e q5 c5 => ?_) (fun x5 d k' e q5 c5 => ?_)
      · rw [rdI_e (by omega), show (0 : Int).toNat = 0 from rfl, h21, w32_id (by omega), w32_id (by omega)]
        by_cases q : w' = t.2
        · rw [if_neg (fun z => z q), decide_eq_false (fun z => z q)]
        · rw [if_pos q, decide_eq_true q]
      · subst e
        exact (tailF q5 (c4.tr c5 (fun _ _ q => q))).mono (fun z hz => ⟨ChW.refl.tr hz.1 PDs_m, hz.2⟩)
      · subst e
        have c5' : ChW PDs y x5 := c4.tr c5 (fun _ _ q => q)
        refine WP_call (m_sign (e4.t.pd c5') q5 (c := 59) (by omega)) (fun x10 h10 => ?_)
        obtain ⟨b1, b2⟩ := h10
        rw [wf_eq, wf_eq]
        generalize hA : sI (sI x10 2000 25 ((j + 1 : Nat) : Int)) 2000 26 t.2 = A
        have cA : ChW (fun a i => a = 2000 ∧ (i = 25 ∨ i = 26)) x10 A := by rw [← hA]; exact (ChW.refl.sI ⟨rfl, Or.inl rfl⟩).sI ⟨rfl, Or.inr rfl⟩
        have cyA : ChW PDs y A := (c5'.tr b2 PG9_s).tr cA (fun a i w => Or.inr w)
        have A25 : gI A 2000 25 = ((j + 1 : Nat) : Int) := by rw [← hA, hI_sI_i (by decide), gI_sI_eq, w32_id (by have := hC.t.b; have := hC.t.e; omega)]
        have A26 : gI A 2000 26 = t.2 := by rw [← hA, gI_sI_eq, w32_id (by omega)]
        cases hT : tkT u n 59 (.inl d) with
        | inr f =>
          rw [hT] at b1
          have qA : MsQ u n N A (.inr f) := b1.ch cA (fun i l1 l2 w => by omega)
          rw [m_tellF qA, bX_some]
          refine WP_some.2 ⟨ChW.refl.tr (e3.tr cyA (fun _ _ q => q)) PDs_m, ?_⟩
          rw [oB_l, hT]; exact qA
        | inl e =>
          rw [hT] at b1
          have qA : MsQ u n N A (.inl e) := b1.ch cA (fun i l1 l2 w => by omega)
          refine WP_bX.2 ((m_told7 (e4.ch cyA) qA n3 (by omega) (by omega) (s := s) (w := t.2) (v := 0) (by omega) A26 (by omega) A25 (by omega) ⟨by show 0 ≤ s ∧ s ≤ 4; omega, fun _ => n9, fun q => by have q : s = 4 := q; omega⟩).mono (fun v hv => WP_some.2 ?_))
          refine ⟨((ChW.refl.tr e3 PDs_m).tr cyA PDs_m).tr hv.1 (fun _ _ q => q), ?_⟩
          rw [oB_l, hT]
          exact ⟨hv.2.1, hv.2.2⟩
end MVL
