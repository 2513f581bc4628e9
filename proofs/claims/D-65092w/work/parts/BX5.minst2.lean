/-! the reference tells designs: instances, whole; items -/
def mUe (p1 y6 own : Int) (y34 : Int × Sto) (y14 : Int) : Option Sto := bX (mX23_isRight y34.2) fun x35 => bX (bX (if ¬ w32 x35 = 0 then bX (mX23_isAt y34.2 41) fun x36 => if ¬ w32 x36 = 0 then if ¬ w32 y34.1 = w32 y14 then some true else some false else some false else some false) fun b => if b = true then bX (mX23_flawBefore y34.2 14 own) fun x37 => some x37 else some y34.2) fun y38 => bX (mX23_sign y38 41) fun x39 => bX (mX23_sign x39 59) fun x40 => wf x40 2000 25 own fun S41 => wf S41 2000 26 0 fun S42 => bX (mX23_tell S42 p1 5 y6) fun x43 => some x43
def mUm (p1 y6 : Int) (x2 x11 : Sto) : Option Sto := bX (mX23_isRight x11) fun x12 => bX (if ¬ w32 x12 = 0 then bX (mX23_manyOf x11 y6 1) fun x13 => some x13 else some 0) fun y14 => bX (mX23_isRight x11) fun x15 => bX (bX (if ¬ w32 x15 = 0 then bX (mX23_isAt x11 41) fun x16 => if w32 x16 = 0 then some true else some false else some false) fun b => if b = true then some 1 else some 0) fun y17 => bX (lpF (mX23_tellInstance_L114 y14 y6 x2) (0, y17, x11)) fun y34 => mUe p1 y6 (gI x2 2000 25) y34 y14
section MI2
variable {S x z y : Sto} {u : Nat → Int} {n N M c : Nat} {fs : List Fin0} {ms : List Mdl} {cur m sub : Mdl} {gv mt : List Nat} {k : List Row3} {q : Qq} {j jn p d b fi own si : Nat} {s w v W : Int} {f : Int × Int}
theorem inst_eq3 {p1 : Int} : mX23_tellInstance S p1 = bX (mX23_go S) fun x1 => bX (mX23_newName x1 p1) fun x2 => bX (mX23_due x2 1) fun x3 => bX (mX23_isRight x3.2) fun x4 => bX (if ¬ w32 x4 = 0 then bX (mX23_moduleOf x3.2 x3.1) fun x5 => some x5 else some (-1)) fun y6 => bX (mX23_isRight x3.2) fun x7 => bX (bX (if ¬ w32 x7 = 0 then if w32 y6 = (-1) then some true else some false else some false) fun b => if b = true then bX (mX23_flaw x3.2 11 x3.1) fun x8 => some x8 else some x3.2) fun y9 => bX (mX23_go y9) fun x10 => bX (mX23_sign x10 40) fun x11 => mUm p1 y6 x2 x11 := rfl
/-- behind a fault -/
theorem mUe_f {p1 y6 o v14 v : Int} (t : MTk u n N S) (hq : MsQ u n N S (.inr f)) : WP (mUe p1 y6 o (v, S) v14) (fun y => ChW PDs S y ∧ MsQ u n N y (.inr f)) := by
  unfold mUe
  dsimp only
  rw [m_isRight hq, bX_some, bIf, okQ_f, if_neg (by decide), bX_some, if_neg (by decide), bX_some]
  refine WP_call (m_sign t hq (c := 41) (by omega)) (fun x39 h39 => ?_)
  have c39 : ChW PDs S x39 := ChW.refl.tr h39.2 PG9_s
  refine WP_call (m_sign (t.pd c39) h39.1 (c := 59) (by omega)) (fun x40 h40 => ?_)
  have q40 : MsQ u n N x40 (.inr f) := h40.1
  rw [wf_eq, wf_eq]
  generalize hA : sI (sI x40 2000 25 o) 2000 26 0 = A
  have cA : ChW (fun a i => a = 2000 ∧ (i = 25 ∨ i = 26)) x40 A := by rw [← hA]; exact (ChW.refl.sI ⟨rfl, Or.inl rfl⟩).sI ⟨rfl, Or.inr rfl⟩
  have qA : MsQ u n N A (.inr f) := q40.ch cA (fun i l1 l2 w => by omega)
  rw [m_tellF qA, bX_some]
  exact WP_some.2 ⟨(c39.tr h40.2 PG9_s).tr cA (fun a i w => Or.inr w), qA⟩
theorem mUm_f {p1 y6 : Int} {x2 : Sto} (t : MTk u n N S) (hq : MsQ u n N S (.inr f)) : WP (mUm p1 y6 x2 S) (fun y => ChW PDs S y ∧ MsQ u n N y (.inr f)) := by
  unfold mUm
  rw [m_isRight hq, bX_some, bIf, okQ_f, if_neg (by decide), bX_some, bX_some, bIf, if_neg (by decide), bX_some, if_neg (by decide), bX_some]
  have loop : lpF (mX23_tellInstance_L114 0 y6 x2) (0, 0, S) = some (0, S) := by
    refine WP.of (WP_lpF (fun s => s = ((0 : Int), (0 : Int), S)) (fun _ => 0) rfl (by decide) (fun s hs => ?_))
    subst hs
    unfold mX23_tellInstance_L114
    dsimp only
    rw [m_isRight hq, bX_some, bIf, okQ_f, if_neg (by decide), bX_some, if_neg (by decide)]
    exact WP_some.2 rfl
  rw [loop, bX_some]
  exact mUe_f t hq
/-- the end of an instance -/
theorem mUe_ok {e c : Nat} {v : Int} (hC : CmI u n N fs cur gv S) (hq : MsQ u n N S (.inl e)) (hsi : si < fs.length) (hv : v = (c : Int)) (hc41 : c ≤ 41) (hk : tkK u n own = 1) (ho : own ≤ N) (hc : cur.length < 40) :
    WP (mUe (fs.length : Int) (si : Int) (own : Int) (v, S) ((insL ((fMs fs).getD si [])).length : Int)) (fun y => ChW (PDm fs.length) S y ∧ MItO u n N fs (oB (usT u n ((fMs fs).getD si []) own e c) (fun g => .inl (g, k, cur ++ [(own, 4, 0, (si : Int))], gv, [(cur.length : Int)]))) y) := by
  have hb := hC.b
  have he : e ≤ N := hq.2.2.1
  have hn := hC.t.b; have hNn := hC.t.e
  have hso := (hC.r.2.2.2.1 si (by rw [fMs_len]; exact hsi)).1.1
  have hil := insL_le (m := (fMs fs).getD si [])
  have tl : ∀ {y : Sto} {f : Int × Int}, MsQ u n N y (.inr f) → ChW PDs S y → WP (bX (mX23_sign y 41) fun x39 => bX (mX23_sign x39 59) fun x40 => wf x40 2000 25 (own : Int) fun S41 => wf S41 2000 26 0 fun S42 => bX (mX23_tell S42 (fs.length : Int) 5 (si : Int)) fun x43 => some x43) (fun y => ChW (PDm fs.length) S y ∧ MsQ u n N y (.inr f)) := fun {y f} e1 e2 => by
    refine WP_call (m_sign (hC.t.pd e2) e1 (c := 41) (by omega)) (fun x39 h39 => ?_)
    have c39 : ChW PDs S x39 := e2.tr h39.2 PG9_s
    refine WP_call (m_sign (hC.t.pd c39) h39.1 (c := 59) (by omega)) (fun x40 h40 => ?_)
    have q40 : MsQ u n N x40 (.inr f) := h40.1
    rw [wf_eq, wf_eq]
    generalize hA : sI (sI x40 2000 25 (own : Int)) 2000 26 0 = A
    have cA : ChW (fun a i => a = 2000 ∧ (i = 25 ∨ i = 26)) x40 A := by rw [← hA]; exact (ChW.refl.sI ⟨rfl, Or.inl rfl⟩).sI ⟨rfl, Or.inr rfl⟩
    have qA : MsQ u n N A (.inr f) := q40.ch cA (fun i l1 l2 w => by omega)
    rw [m_tellF qA, bX_some]
    exact WP_some.2 ⟨ChW.refl.tr ((c39.tr h40.2 PG9_s).tr cA (fun a i w => Or.inr w)) PDs_m, qA⟩
  unfold mUe usT
  dsimp only
  rw [m_isRight hq, bX_some, bIf, show okQ (.inl e) = true from rfl, if_pos rfl, m_isAt hC.t he hq.2.1 (by omega), bX_some, bIf]
  by_cases g : isS u n 41 e = true
  · have hlt : e < N := lt3 hC.t.l (isS_K g) he
    rw [if_pos g, if_pos g, hv, w32_id (by omega), w32_id (by omega)]
    by_cases q : c = (insL ((fMs fs).getD si [])).length
    · rw [if_neg (fun w => w (by omega)), bX_some, if_neg (by decide), bX_some, if_pos q]
      refine WP_call (m_sign hC.t hq (c := 41) (by omega)) (fun x39 h39 => ?_)
      obtain ⟨a1, a2⟩ := h39
      have a1 : MsQ u n N x39 (nxT u n e) := by
        have : tkT u n 41 (.inl e) = nxT u n e := by unfold tkT bq; dsimp only; rw [if_pos g]
        rw [this] at a1; exact a1
      have c39 : ChW PDs S x39 := ChW.refl.tr a2 PG9_s
      refine WP_call (m_sign (hC.t.pd c39) a1 (c := 59) (by omega)) (fun x40 h40 => ?_)
      obtain ⟨b1, b2⟩ := h40
      have c40 : ChW PDs S x40 := c39.tr b2 PG9_s
      rw [wf_eq, wf_eq]
      generalize hA : sI (sI x40 2000 25 (own : Int)) 2000 26 0 = A
      have cA : ChW (fun a i => a = 2000 ∧ (i = 25 ∨ i = 26)) x40 A := by rw [← hA]; exact (ChW.refl.sI ⟨rfl, Or.inl rfl⟩).sI ⟨rfl, Or.inr rfl⟩
      have cSA : ChW PDs S A := c40.tr cA (fun a i w => Or.inr w)
      have A25 : gI A 2000 25 = (own : Int) := by rw [← hA, hI_sI_i (by decide), gI_sI_eq, w32_id (by omega)]
      have A26 : gI A 2000 26 = 0 := by rw [← hA, gI_sI_eq]; rfl
      cases hT : tkT u n 59 (nxT u n e) with
      | inr f =>
        rw [hT] at b1
        have qA : MsQ u n N A (.inr f) := b1.ch cA (fun i l1 l2 w => by omega)
        rw [m_tellF qA, bX_some]
        exact WP_some.2 ⟨ChW.refl.tr cSA PDs_m, qA⟩
      | inl d =>
        rw [hT] at b1
        have qA : MsQ u n N A (.inl d) := b1.ch cA (fun i l1 l2 w => by omega)
        refine WP_bX.2 ((m_told7 (hC.ch cSA) qA hk ho hc (s := 4) (w := 0) (v := (si : Int)) (by omega) A26 (by omega) A25 (by omega) ⟨by show (0 : Int) ≤ 4 ∧ (4 : Int) ≤ 4; omega, fun w => absurd rfl w, fun _ => ⟨by show (0 : Int) ≤ (si : Int); omega, by show (si : Int) < (fs.length : Int); omega⟩⟩).mono (fun v hv => WP_some.2 ?_))
        exact ⟨(ChW.refl.tr cSA PDs_m).tr hv.1 (fun _ _ q => q), hv.2.1, hv.2.2⟩
    · rw [if_pos (fun w => q (by omega)), bX_some, if_pos rfl, if_neg q]
      refine WP_bX.2 (WP_call (m_flawBefore hC.t hq ho (c := 14) (by omega)) (fun z hz => WP_some.2 ?_))
      have z1 : MsQ u n N z (.inr (14, (tkB u n own : Int))) := hz.1
      exact tl z1 (ChW.refl.tr hz.2 PF10_s)
  · rw [if_neg g, bX_some, if_neg (by decide), bX_some, if_neg g]
    refine WP_call (m_sign hC.t hq (c := 41) (by omega)) (fun x39 h39 => ?_)
    obtain ⟨a1, a2⟩ := h39
    have a1 : MsQ u n N x39 (.inr (2, (tkB u n e : Int))) := by
      have : tkT u n 41 (.inl e) = .inr (2, (tkB u n e : Int)) := by unfold tkT bq; dsimp only; rw [if_neg g]; rfl
      rw [this] at a1; exact a1
    have c39 : ChW PDs S x39 := ChW.refl.tr a2 PG9_s
    refine WP_call (m_sign (hC.t.pd c39) a1 (c := 59) (by omega)) (fun x40 h40 => ?_)
    have q40 : MsQ u n N x40 (.inr (2, (tkB u n e : Int))) := h40.1
    rw [wf_eq, wf_eq]
    generalize hA : sI (sI x40 2000 25 (own : Int)) 2000 26 0 = A
    have cA : ChW (fun a i => a = 2000 ∧ (i = 25 ∨ i = 26)) x40 A := by rw [← hA]; exact (ChW.refl.sI ⟨rfl, Or.inl rfl⟩).sI ⟨rfl, Or.inr rfl⟩
    have qA : MsQ u n N A (.inr (2, (tkB u n e : Int))) := q40.ch cA (fun i l1 l2 w => by omega)
    rw [m_tellF qA, bX_some]
    exact WP_some.2 ⟨ChW.refl.tr ((c39.tr h40.2 PG9_s).tr cA (fun a i w => Or.inr w)) PDs_m, qA⟩
/-- an instance -/
theorem m_inst7 (hC : CmI u n N fs cur gv S) (hq : MsQ u n N S (.inl j)) (hj : j < N) {r : (Nat × List Row3 × Nat) ⊕ (Int × Int)} (hR : usR u n (fMt fs) (fMs fs) cur j k r) :
    WP (mX23_tellInstance S (fs.length : Int)) (fun y => ChW (PDm fs.length) S y ∧ MItO u n N fs (oB r (fun t => .inl (t.1, t.2.1, cur ++ [(j + 1, 4, 0, (t.2.2 : Int))], gv, [(cur.length : Int)]))) y) := by
  have hb := hC.b
  have hl := hC.r.2.2.1.1.1
  rw [inst_eq3]
  refine WP_call (m_go hC.t hq (fun i e => by injection e with e; omega)) (fun x1 hx => ?_)
  obtain ⟨a1, a2⟩ := hx
  have a1 : MsQ u n N x1 (nxT u n j) := a1
  have c1 : ChW PDs S x1 := ChW.refl.tr a2 PG9_s
  have C1 := hC.ch c1
  obtain ⟨⟨r1, r2, r3⟩, r4, r5, r6⟩ := C1.r
  refine WP_call (m_newName C1.t a1 r1 r2 r5.1.1 r5.2) (fun x2 hx => ?_)
  obtain ⟨b1, b2, b3⟩ := hx
  have c2 : ChW PDs S x2 := c1.tr b2 PN9_s
  have C2 := hC.ch c2
  refine WP_call (m_due C2.t b1 (k := 1) (by omega)) (fun x3 hx => ?_)
  obtain ⟨w3, x3⟩ := x3
  obtain ⟨d1, d2, d3, d4⟩ := hx
  dsimp only at d1 d2 d3 d4 ⊢
  have c3 : ChW PDs S x3 := c2.tr d2 PF10_s
  have C3 := hC.ch c3
  obtain ⟨i, i1, i2, i3⟩ := b1.ix
  have ew : w3 = (i : Int) := d3.trans i2
  subst ew
  -- behind a fault of the head
  have bad : ∀ {y9 : Sto} {f : Int × Int} {y6 : Int}, MsQ u n N y9 (.inr f) → ChW PDs S y9 → usH u n (fMt fs) cur j = .inr f → WP (bX (mX23_go y9) fun x10 => bX (mX23_sign x10 40) fun x11 => mUm (fs.length : Int) y6 x2 x11) (fun y => ChW (PDm fs.length) S y ∧ MItO u n N fs (oB r (fun t => .inl (t.1, t.2.1, cur ++ [(j + 1, 4, 0, (t.2.2 : Int))], gv, [(cur.length : Int)]))) y) := fun {y9 f y6} e1 e2 e3 => by
    refine WP_call (m_go (hC.t.pd e2) e1 (fun i e => by cases e)) (fun x10 h10 => ?_)
    have c10 : ChW PDs S x10 := e2.tr h10.2 PG9_s
    refine WP_call (m_sign (hC.t.pd c10) h10.1 (c := 40) (by omega)) (fun x11 h11 => ?_)
    have c11 : ChW PDs S x11 := c10.tr h11.2 PG9_s
    refine (mUm_f (hC.t.pd c11) h11.1).mono (fun z hz => ⟨ChW.refl.tr (c11.tr hz.1 (fun _ _ q => q)) PDs_m, ?_⟩)
    rcases hR with ⟨f', h1, h2⟩ | ⟨t, h1, _⟩
    · rw [e3] at h1; injection h1 with h1; rw [h2, ← h1]; exact hz.2
    · rw [e3] at h1; cases h1
  cases hA : newT u n 40 (mTk cur) (nxT u n j) with
  | inr f =>
    rw [hA] at d1
    have d1 : MsQ u n N x3 (.inr f) := d1
    rw [m_isRight d1, bX_some, bIf, okQ_f, if_neg (by decide), bX_some, bX_some, bIf, if_neg (by decide), bX_some, if_neg (by decide), bX_some]
    refine bad d1 c3 ?_
    unfold usH
    rw [hA]; rfl
  | inl b =>
    rw [hA] at b1 d1
    obtain ⟨jn, g1, g2, g3, g4, g5⟩ := newT_inl hA
    obtain ⟨n1, n2⟩ := nxT_ok g1
    subst n1
    subst g2
    rw [mTk_len] at g5
    have l1 : j + 1 < N := lt1 hC.t.l g3 (by omega)
    have ei : i = j + 1 + 1 := (i3 _ hA).symm
    subst ei
    have o25 : gI x2 2000 25 = ((j + 1 : Nat) : Int) := by
      rw [b3]
      rw [g1] at a1
      exact a1.2.1
    by_cases kb : tkK u n (j + 1 + 1) = 1
    · have d1 : MsQ u n N x3 (.inl (j + 1 + 1)) := by
        have : duT u n 1 (.inl (j + 1 + 1)) = .inl (j + 1 + 1) := if_pos kb
        rw [this] at d1; exact d1
      have l2 : j + 1 + 1 < N := lt1 hC.t.l kb i1
      rw [m_isRight d1, bX_some, bIf, show okQ (.inl (j + 1 + 1)) = true from rfl, if_pos rfl]
      refine WP_bX.2 (WP_call (m_moduleOf (mt := fMt fs) C3.t (by rw [C3.2.2.2.1, fMt_len]) (fun i hi => by rw [fMt_len] at hi; rw [fMt_d hi]; exact (C3.2.2.2.2.1 i hi).1) (by rw [fMt_len]; omega) C3.2.2.2.2.2 i1 kb) (fun y6 hy6 => WP_some.2 ?_))
      subst hy6
      rw [bX_some, bIf, if_pos rfl]
      by_cases g : inNm u n (fMt fs) (j + 1 + 1) = true
      · have hfi := (fiN_ok g).1
        rw [fMt_len] at hfi
        rw [if_pos g]
        generalize hsv : fiN u n (fMt fs) (j + 1 + 1) = si at hfi ⊢
        rw [w32_id (x := (si : Int)) (by omega), if_neg (by omega), bX_some, if_neg (by decide), bX_some]
        refine WP_call (m_go C3.t d1 (fun i e => by injection e with e; omega)) (fun x10 h10 => ?_)
        have c10 : ChW PDs S x10 := c3.tr h10.2 PG9_s
        refine WP_call (m_sign (hC.t.pd c10) h10.1 (c := 40) (by omega)) (fun x11 h11 => ?_)
        have q11 : MsQ u n N x11 (tkT u n 40 (nxT u n (j + 1 + 1))) := h11.1
        have c11 : ChW PDs S x11 := c10.tr h11.2 PG9_s
        have C11 := hC.ch c11
        have eH : usH u n (fMt fs) cur j = oB (tkT u n 40 (nxT u n (j + 1 + 1))) (fun d => .inl (d, si)) := by
          unfold usH
          rw [hA, oB_l, if_pos kb, if_pos g, hsv]
        cases hT : tkT u n 40 (nxT u n (j + 1 + 1)) with
        | inr f =>
          rw [hT] at q11 eH
          have eH : usH u n (fMt fs) cur j = .inr f := eH
          refine (mUm_f C11.t q11).mono (fun z hz => ⟨ChW.refl.tr (c11.tr hz.1 (fun _ _ q => q)) PDs_m, ?_⟩)
          rcases hR with ⟨f', h1, h2⟩ | ⟨t, h1, _⟩
          · rw [eH] at h1; injection h1 with h1; rw [h2, ← h1]; exact hz.2
          · rw [eH] at h1; cases h1
        | inl d =>
          rw [hT] at q11 eH
          have eH : usH u n (fMt fs) cur j = .inl (d, si) := eH
          rcases hR with ⟨f', h1, h2⟩ | ⟨t, h1, ar, hAg, h2⟩
          · rw [eH] at h1; cases h1
          rw [eH] at h1; injection h1 with h1; subst h1
          dsimp only at hAg h2
          have hd : d ≤ N := q11.2.2.1
          have hsub := C11.r.2.1 si (by rw [fMs_len]; exact hfi)
          have hso := (C11.r.2.2.2.1 si (by rw [fMs_len]; exact hfi)).1.1
          unfold mUm
          rw [m_isRight q11, bX_some, bIf, show okQ (.inl d) = true from rfl, if_pos rfl, m_manyOf1 hsub (by omega) hso, bX_some, bX_some, bX_some, bIf, if_pos rfl, m_isAt C11.t hd q11.2.1 (by omega), bX_some, bIf2, o25]
          have last : ∀ (y34 : Int × Sto), ChW PDs x11 y34.2 → mAo u n N ar y34 → WP (mUe (fs.length : Int) (si : Int) ((j + 1 : Nat) : Int) y34 ((insL ((fMs fs).getD si [])).length : Int)) (fun y => ChW (PDm fs.length) S y ∧ MItO u n N fs (oB r (fun t => .inl (t.1, t.2.1, cur ++ [(j + 1, 4, 0, (t.2.2 : Int))], gv, [(cur.length : Int)]))) y) := fun y34 e1 e2 => by
            have cc : ChW PDs S y34.2 := c11.tr e1 (fun _ _ q => q)
            obtain ⟨v34, y34⟩ := y34
            cases ar with
            | inr f =>
              refine (mUe_f (hC.t.pd cc) e2).mono (fun z hz => ⟨ChW.refl.tr (cc.tr hz.1 (fun _ _ q => q)) PDs_m, ?_⟩)
              rw [h2]; exact hz.2
            | inl ek =>
              obtain ⟨e, c, k'⟩ := ek
              obtain ⟨e3, e4, e5⟩ := e2
              refine (mUe_ok (k := k') (hC.ch cc) e4 hfi e3 e5 g3 (by omega) (by omega)).mono (fun z hz => ⟨(ChW.refl.tr cc PDs_m).tr hz.1 (fun _ _ q => q), ?_⟩)
              have hz2 := hz.2
              rw [h2, oB_l]
              dsimp only
              cases hU : usT u n ((fMs fs).getD si []) (j + 1) e c with
              | inr f => rw [hU] at hz2; exact hz2
              | inl g => rw [hU] at hz2; exact hz2
          rcases hAg with ⟨hg, he⟩ | ⟨hg, m, hAr⟩
          · rw [if_pos hg, bX_some, if_neg (by decide), bX_some]
            have loop : lpF (mX23_tellInstance_L114 ((insL ((fMs fs).getD si [])).length : Int) (si : Int) x2) (0, 0, x11) = some (0, x11) := by
              refine WP.of (WP_lpF (fun s => s = ((0 : Int), (0 : Int), x11)) (fun _ => 0) rfl (by decide) (fun s hs => ?_))
              subst hs
              unfold mX23_tellInstance_L114
              dsimp only
              rw [m_isRight q11, bX_some, bIf, show okQ (.inl d) = true from rfl, if_pos rfl, w32_0, if_neg (by decide), bX_some, if_neg (by decide)]
              exact WP_some.2 rfl
            rw [loop, bX_some]
            refine last (0, x11) ChW.refl ?_
            rw [he]
            exact ⟨rfl, q11, by show 0 ≤ 41; omega⟩
          · rw [if_neg (by rw [hg]; decide), bX_some, if_pos rfl, bX_some]
            refine WP_call (WP_lpF (P := fun y => ChW PDs x11 y.2 ∧ mAo u n N ar y) (InB u n N (fMs fs) cur ((fMs fs).getD si []) (j + 1) ar x11) (muB N) ⟨ChW.refl, Or.inl ⟨d, 0, k, m, rfl, by omega, rfl, q11, hAr⟩⟩ ?_ (fun s hs => m_arg1 C11 hfi rfl o25 (by omega) s hs)) (fun y34 hy => last y34 hy.1 hy.2)
            · have hn := hC.t.b; have hNn := hC.t.e
              unfold muB
              dsimp only
              rw [if_neg (by decide), if_pos q11.1]
              show _ < 1000000000000
              omega
      · rw [if_neg g, w32_id (x := (-1 : Int)) (by omega), if_pos rfl, bX_some, if_pos rfl]
        refine WP_bX.2 (WP_call (m_flawAt C3.t d1 i1 (fun _ => by omega) (c := 11) (by omega)) (fun z hz => WP_some.2 ?_))
        have z1 : MsQ u n N z (.inr (11, (tkB u n (j + 1 + 1) : Int))) := hz.1
        refine bad z1 (c3.tr hz.2 PF10_s) ?_
        unfold usH
        rw [hA, oB_l, if_pos kb, if_neg g]
    · have d1 : MsQ u n N x3 (.inr (2, (tkB u n (j + 1 + 1) : Int))) := by
        have : duT u n 1 (.inl (j + 1 + 1)) = flT u n 2 (j + 1 + 1) := if_neg kb
        rw [this] at d1; exact d1
      rw [m_isRight d1, bX_some, bIf, okQ_f, if_neg (by decide), bX_some, bX_some, bIf, if_neg (by decide), bX_some, if_neg (by decide), bX_some]
      refine bad d1 c3 ?_
      unfold usH
      rw [hA, oB_l, if_neg kb]
/-- an item -/
theorem m_item9 (hC : CmI u n N fs cur gv S) (hq : MsQ u n N S (.inl j)) {res : RIt ⊕ (Int × Int)} (hR : ItR u n (fMt fs) (fMs fs) cur gv j k res) :
    WP (mX23_tellItem S (fs.length : Int)) (fun y => ChW (PDm fs.length) S y ∧ MItO u n N fs res y) := by
  have hj : j ≤ N := hq.2.2.1
  have hL := hC.t.l
  have h9 := hq.2.1
  unfold ItR at hR
  unfold mX23_tellItem
  rw [m_isWord hC.t hj h9 (by omega), bX_some, bIf]
  by_cases g2 : isW u n 2 j = true
  · have hlt := lt6 hL (isW_K g2) hj
    rw [if_pos g2] at hR
    rw [if_pos (show decide (tkK u n j = 6 ∧ tkV u n j = 2) = true from g2)]
    refine WP_bX.2 ((m_inI (k := k) hC hq hlt).mono (fun y hy => WP_some.2 ?_))
    rw [hR]; exact hy
  rw [if_neg g2] at hR
  rw [if_neg (show ¬ decide (tkK u n j = 6 ∧ tkV u n j = 2) = true from g2), m_isWord hC.t hj h9 (by omega), bX_some, bIf]
  by_cases g3 : isW u n 3 j = true
  · have hlt := lt6 hL (isW_K g3) hj
    rw [if_pos g3] at hR
    rw [if_pos (show decide (tkK u n j = 6 ∧ tkV u n j = 3) = true from g3)]
    obtain ⟨r, h1, h2⟩ := hR
    refine WP_bX.2 (WP_bX.2 ((m_value (s := 1) (Or.inl rfl) hC hq hlt h1).mono (fun y hy => WP_some.2 (WP_some.2 ?_))))
    rw [h2]; exact hy
  rw [if_neg g3] at hR
  rw [if_neg (show ¬ decide (tkK u n j = 6 ∧ tkV u n j = 3) = true from g3), m_isWord hC.t hj h9 (by omega), bX_some, bIf]
  by_cases g4 : isW u n 4 j = true
  · have hlt := lt6 hL (isW_K g4) hj
    rw [if_pos g4] at hR
    rw [if_pos (show decide (tkK u n j = 6 ∧ tkV u n j = 4) = true from g4)]
    obtain ⟨r, h1, h2⟩ := hR
    refine WP_bX.2 (WP_bX.2 ((m_value (s := 2) (Or.inr rfl) hC hq hlt h1).mono (fun y hy => WP_some.2 (WP_some.2 ?_))))
    rw [h2]; exact hy
  rw [if_neg g4] at hR
  rw [if_neg (show ¬ decide (tkK u n j = 6 ∧ tkV u n j = 4) = true from g4), m_isWord hC.t hj h9 (by omega), bX_some, bIf]
  by_cases g5 : isW u n 5 j = true
  · have hlt := lt6 hL (isW_K g5) hj
    rw [if_pos g5] at hR
    rw [if_pos (show decide (tkK u n j = 6 ∧ tkV u n j = 5) = true from g5)]
    refine WP_bX.2 (WP_bX.2 ((m_reg (k := k) hC hq hlt).mono (fun y hy => WP_some.2 (WP_some.2 ?_))))
    rw [hR]; exact hy
  rw [if_neg g5] at hR
  rw [if_neg (show ¬ decide (tkK u n j = 6 ∧ tkV u n j = 5) = true from g5), m_isWord hC.t hj h9 (by omega), bX_some, bIf]
  by_cases g6 : isW u n 6 j = true
  · have hlt := lt6 hL (isW_K g6) hj
    rw [if_pos g6] at hR
    rw [if_pos (show decide (tkK u n j = 6 ∧ tkV u n j = 6) = true from g6)]
    obtain ⟨r, h1, h2⟩ := hR
    refine WP_bX.2 (WP_bX.2 ((m_inst7 hC hq hlt h1).mono (fun y hy => WP_some.2 (WP_some.2 ?_))))
    rw [h2]; exact hy
  rw [if_neg g6] at hR
  rw [if_neg (show ¬ decide (tkK u n j = 6 ∧ tkV u n j = 6) = true from g6)]
  obtain ⟨r, h1, h2⟩ := hR
  refine WP_bX.2 (WP_bX.2 ((m_next7 hC hq hj h1).mono (fun y hy => WP_some.2 (WP_some.2 ?_))))
  rw [h2]; exact hy
end MI2
