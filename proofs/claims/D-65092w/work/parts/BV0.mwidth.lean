/-! the reference tells designs: a width -/
def widD (u : Nat → Int) (n : Nat) (j : Nat) : (Nat × Int) ⊕ (Int × Int) := if isS u n 58 j = true then oB (nxT u n j) fun a => oB (nuT u n 1 8 a) fun c => .inl (c, tkV u n a) else .inl (j, 1)
def mWd (u : Nat → Int) (n N : Nat) (r : (Nat × Int) ⊕ (Int × Int)) (y : Sto) : Prop := match r with
  | .inl t => MsQ u n N y (.inl t.1) ∧ gI y 2000 26 = t.2 ∧ 1 ≤ t.2 ∧ t.2 ≤ 8
  | .inr f => MsQ u n N y (.inr f)
def PW9 (a i : Nat) : Prop := PG9 a i ∨ (a = 2000 ∧ i = 26)
section MWI
variable {S z y : Sto} {u : Nat → Int} {n N h M : Nat} {q : Qq} {m : Mdl} {j : Nat} {f : Int × Int}
theorem PW9_tk : ∀ a i, 2002 ≤ a → a ≤ 2006 → ¬ PW9 a i := fun a i l1 l2 q => by unfold PW9 PG9 at q; omega
theorem PG9_w9 : ∀ a i, PG9 a i → PW9 a i := fun a i q => Or.inl q
theorem m_width (t : MTk u n N S) (h : MsQ u n N S q) : WP (mX23_width S) (fun y => mWd u n N (oB q (widD u n)) y ∧ ChW PW9 S y) := by
  have hb := t.b; have he := t.e
  unfold mX23_width
  rw [wf_eq]
  generalize hw : sI S 2000 26 1 = w
  have cw : ChW (fun a i => a = 2000 ∧ i = 26) S w := by rw [← hw]; exact ChW.refl.sI ⟨rfl, rfl⟩
  have w26 : gI w 2000 26 = 1 := by rw [← hw, gI_sI_eq]; rfl
  have cSw : ChW PW9 S w := ChW.refl.tr cw (fun a i q => Or.inr q)
  have tw : MTk u n N w := t.ch cSw PW9_tk
  have qw : MsQ u n N w q := h.ch cw (fun i l1 l2 q => by omega)
  cases q with
  | inr f =>
    rw [m_isRight qw, bX_some, bIf]
    show WP (bX (bX (if false = true then _ else some false) _) _) _
    rw [if_neg (by decide), bX_some, if_neg (by decide), bX_some]
    exact WP_some.2 ⟨qw, cSw⟩
  | inl j =>
    have hj : j ≤ N := h.2.2.1
    rw [m_isRight qw, bX_some, bIf]
    show WP (bX (bX (if true = true then _ else some false) _) _) _
    rw [if_pos rfl, m_isAt tw hj qw.2.1 (by omega), bX_some, bIf, oB_l]
    unfold widD
    by_cases g : isS u n 58 j = true
    · have hlt : j < N := lt3 t.l (isS_K g) hj
      rw [if_pos g, if_pos g, bX_some, if_pos rfl]
      refine WP_bX.2 (WP_call (m_go tw qw (fun i e => by injection e with e; omega)) (fun x4 hx => ?_))
      obtain ⟨a1, a2⟩ := hx
      have a1 : MsQ u n N x4 (nxT u n j) := a1
      have c4 : ChW PW9 S x4 := cSw.tr a2 PG9_w9
      have t4 := t.ch c4 PW9_tk
      refine WP_call (m_due t4 a1 (k := 2) (by omega)) (fun x hx => ?_)
      obtain ⟨x5, x⟩ := x
      obtain ⟨h1, h2, h3, h4⟩ := hx
      dsimp only at h1 h2 h3 h4 ⊢
      have cx : ChW PW9 S x := c4.tr h2 (fun a i q => PG9_w9 a i (PF10_G9 a i q))
      have tx := t.ch cx PW9_tk
      obtain ⟨i, i1, i2, i3⟩ := a1.ix
      have ex : x5 = (i : Int) := h3.trans i2
      subst ex
      rw [rdI_e (by omega), Int.toNat_natCast, wf_eq]
      generalize hv : sI x 2000 26 (gI x 2004 i) = v
      have cv : ChW (fun a i => a = 2000 ∧ i = 26) x v := by rw [← hv]; exact ChW.refl.sI ⟨rfl, rfl⟩
      have v26 : gI v 2000 26 = gI x 2004 i := by rw [← hv, gI_sI_eq, w32_gI]
      have cSv : ChW PW9 S v := cx.tr cv (fun a i q => Or.inr q)
      have tv := t.ch cSv PW9_tk
      have bad : ∀ {s : Sto} {f : Int × Int}, MsQ u n N s (.inr f) → ChW PW9 S s → WP (bX (mX23_go s) fun x12 => some x12) (fun s' => MsQ u n N s' (.inr f) ∧ ChW PW9 S s') := fun {s f} s1 s2 =>
        WP_call (m_go (t.ch s2 PW9_tk) s1 (fun i e => by cases e)) (fun y hy => WP_some.2 ⟨hy.1, s2.tr hy.2 PG9_w9⟩)
      have wrong : ∀ {f : Int × Int}, MsQ u n N x (.inr f) → WP (bX (mX23_isRight v) fun x8 => bX (bX (if ¬ w32 x8 = 0 then bX (mX23_within (gI v 2000 26) 1 8) fun x9 => if w32 x9 = 0 then some true else some false else some false) fun b => if b = true then bX (mX23_flaw v 12 (i : Int)) fun x10 => some x10 else some v) fun y11 => bX (mX23_go y11) fun x12 => some x12) (fun s' => MsQ u n N s' (.inr f) ∧ ChW PW9 S s') := fun {f} s1 => by
        have s1 : MsQ u n N v (.inr f) := s1.ch cv (fun i l1 l2 q => by omega)
        rw [m_isRight s1, bX_some, bIf]
        show WP (bX (bX (if false = true then _ else some false) _) _) _
        rw [if_neg (by decide), bX_some, if_neg (by decide), bX_some]
        exact bad s1 cSv
      cases hA : nxT u n j with
      | inr f =>
        rw [hA] at h1
        refine (wrong (f := f) h1).mono (fun y hy => ?_)
        exact WP_some.2 hy
      | inl a =>
        have ea : i = a := (i3 a hA).symm
        subst ea
        rw [hA] at h1
        rw [oB_l]
        by_cases k2 : tkK u n i = 2
        · have h1 : MsQ u n N x (.inl i) := by
            have : duT u n 2 (.inl i) = .inl i := if_pos k2
            rw [this] at h1; exact h1
          have vr := tK_2 (show tK u n (tkB u n i) = 2 from k2)
          have vr : 0 ≤ tkV u n i ∧ tkV u n i < 1000000 := vr.2
          have qv : MsQ u n N v (.inl i) := h1.ch cv (fun i l1 l2 q => by omega)
          have ev : gI x 2004 i = tkV u n i := (tx.s i (by omega)).2.2.1 (by show tkK u n i ≠ 4; omega)
          rw [m_isRight qv, bX_some, bIf]
          show WP (bX (bX (if true = true then _ else some false) _) _) _
          rw [if_pos rfl, v26, ev, m_within1 (by omega) (by omega), bX_some, bIf2]
          by_cases gg : 1 ≤ tkV u n i ∧ tkV u n i ≤ 8
          · have en : nuT u n 1 8 i = nxT u n i := by unfold nuT; rw [if_pos k2, if_pos gg]
            have hlt2 : i < N := lt2 t.l k2 i1
            rw [decide_eq_true gg, if_pos rfl, bX_some, if_neg (by decide), bX_some, en]
            refine WP_call (m_go tv qv (fun k e => by injection e with e; omega)) (fun y hy => WP_some.2 (WP_some.2 ⟨?_, cSv.tr hy.2 PG9_w9⟩))
            have y1 : MsQ u n N y (nxT u n i) := hy.1
            cases hC : nxT u n i with
            | inr f => rw [hC] at y1; exact y1
            | inl c =>
              rw [hC] at y1
              exact ⟨y1, (hy.2.1 _ _ (fun q => by unfold PG9 at q; omega)).trans (v26.trans ev), gg⟩
          · have en : nuT u n 1 8 i = .inr (12, (tkB u n i : Int)) := by unfold nuT; rw [if_pos k2, if_neg gg]; rfl
            rw [decide_eq_false gg, if_neg (by decide), bX_some, if_pos rfl, en]
            refine WP_bX.2 (WP_call (m_flawAt tv qv i1 (fun _ => by omega) (c := 12) (by omega)) (fun s hs => WP_some.2 ?_))
            exact (bad hs.1 (cSv.tr hs.2 (fun a i q => PG9_w9 a i (PF10_G9 a i q)))).mono (fun y hy => WP_some.2 hy)
        · have h1 : MsQ u n N x (.inr (2, (tkB u n i : Int))) := by
            have : duT u n 2 (.inl i) = flT u n 2 i := if_neg k2
            rw [this] at h1; exact h1
          have en : nuT u n 1 8 i = .inr (2, (tkB u n i : Int)) := by unfold nuT; rw [if_neg k2]; rfl
          rw [en]
          exact (wrong h1).mono (fun y hy => WP_some.2 hy)
    · rw [if_neg g, if_neg g, bX_some, if_neg (by decide), bX_some]
      exact WP_some.2 ⟨⟨qw, w26, by show (1 : Int) ≤ 1; omega, by show (1 : Int) ≤ 8; omega⟩, cSw⟩
end MWI
