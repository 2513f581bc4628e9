/-! the reference reads a library -/
section MLB
variable {S z y : Sto} {u : Nat → Int} {n N : Nat} {cs : List Nat} {rs : List Row4} {j : Nat} {f : Int × Int}
theorem LibR.inv {res : List Row4 ⊕ (Int × Int)} (h : LibR u n cs rs j res) : (∃ f, CellR u n cs j (.inr f) ∧ res = .inr f) ∨ (∃ j' r, CellR u n cs j (.inl (j', r)) ∧ tkK u n j' = 5 ∧ res = .inl (rs ++ [r])) ∨ (∃ j' r, CellR u n cs j (.inl (j', r)) ∧ tkK u n j' ≠ 5 ∧ LibR u n (cs ++ [j + 1]) (rs ++ [r]) j' res) := by
  have key := h (fun cs rs j res => LibR u n cs rs j res ∧ ((∃ f, CellR u n cs j (.inr f) ∧ res = .inr f) ∨ (∃ j' r, CellR u n cs j (.inl (j', r)) ∧ tkK u n j' = 5 ∧ res = .inl (rs ++ [r])) ∨ (∃ j' r, CellR u n cs j (.inl (j', r)) ∧ tkK u n j' ≠ 5 ∧ LibR u n (cs ++ [j + 1]) (rs ++ [r]) j' res))) ⟨?_, ?_, ?_⟩
  · exact key.2
  · intro cs rs j f h1; exact ⟨LibR.f h1, Or.inl ⟨f, h1, rfl⟩⟩
  · intro cs rs j j' r h1 h2; exact ⟨LibR.e h1 h2, Or.inr (Or.inl ⟨j', r, h1, h2, rfl⟩)⟩
  · intro cs rs j j' r res h1 h2 ih; exact ⟨LibR.c h1 h2 ih.1, Or.inr (Or.inr ⟨j', r, h1, h2, ih.1⟩)⟩
def mLo (u : Nat → Int) (n N : Nat) (res : List Row4 ⊕ (Int × Int)) (y : Sto) : Prop := match res with
  | .inl rs => (∃ j, MsQ u n N y (.inl j)) ∧ ∃ cs, MCs cs rs y
  | .inr f => MsQ u n N y (.inr f)
theorem lib_f (h : MsQ u n N S (.inr f)) : WP (lpF mX23_library_L65 S) (fun y => y = S) := by
  refine WP_lpF (fun s => s = S) (fun _ => 1) rfl (by show 1 < 1000000000000; omega) (fun s hs => ?_)
  subst hs
  unfold mX23_library_L65
  rw [m_isRight h, bX_some, bIf]
  show WP (bX (if false = true then _ else some false) _) _
  rw [if_neg (by decide), bX_some, if_neg (by decide)]
  exact WP_some.2 rfl
theorem m_libLoop (t : MTk u n N S) (h27 : gI S 2000 27 = 2) (h : MsQ u n N S (.inl j)) (hm : MCs [] [] S) {res : List Row4 ⊕ (Int × Int)} (hR : LibR u n [] [] j res) :
    WP (lpF mX23_library_L65 S) (fun y => ChW PTc S y ∧ mLo u n N res y) := by
  have hb := t.b; have hbe := t.e
  refine WP_lpF (fun s => ChW PTc S s ∧ ((∃ cs rs j, LibR u n cs rs j res ∧ MsQ u n N s (.inl j) ∧ MCs cs rs s ∧ KnM u n N cs ∧ (cs = [] ∨ tkK u n j ≠ 5)) ∨ (∃ rs j cs, res = .inl rs ∧ MsQ u n N s (.inl j) ∧ tkK u n j = 5 ∧ cs ≠ [] ∧ MCs cs rs s) ∨ (∃ f, res = .inr f ∧ MsQ u n N s (.inr f)))) (fun s => if gI s 2000 10 = 0 then N + 1 - (gI s 2000 9).toNat else 0) ⟨ChW.refl, Or.inl ⟨[], [], j, hR, h, hm, fun i hi => absurd hi (by show ¬ i < 0; omega), Or.inl rfl⟩⟩ ?_ (fun s hs => ?_)
  · exact ite_lt (show N + 1 - _ < 1000000000000 by omega) (show 0 < 1000000000000 by omega)
  · obtain ⟨cS, hs⟩ := hs
    have ts := t.c cS
    unfold mX23_library_L65
    rcases hs with ⟨cs, rs, j, a1, a2, a3, a4, a5⟩ | ⟨rs, j, cs, a1, a2, a3, a4, a5⟩ | ⟨f, a1, a2⟩
    · have z10 : gI s 2000 10 = 0 := a2.1
      have z9 : gI s 2000 9 = (j : Int) := a2.2.1
      have hj : j ≤ N := a2.2.2.1
      have hl : cs.length ≤ 12 := by have := a3.2.1; have := a3.2.2.1; omega
      rw [m_isRight a2, bX_some, bIf]
      show WP (bX (if true = true then _ else some false) _) _
      have hc : (if ¬ w32 (gI s 2000 83) = 0 then rdI 65537 s 2002 (gI s 2000 9) fun v12 => if ¬ w32 v12 = 5 then some true else some false else some true) = some true := by
        rw [a3.1.c, w32_id (by omega)]
        by_cases g : cs.length = 0
        · rw [if_neg (fun q => q (by omega))]
        · rw [if_pos (show ¬ (cs.length : Int) = 0 by omega), z9, ts.k hj, tkK_id]
          rcases a5 with q | q
          · subst q; exact absurd rfl g
          · rw [if_pos q]
      rw [if_pos rfl, hc, bX_some, if_pos rfl]
      rcases a1.inv with ⟨f, b1, b2⟩ | ⟨j', r, b1, b2, b3⟩ | ⟨j', r, b1, b2, b3⟩
      · refine WP_call (m_tellCell ts (c_27 h27 cS) a2 a3 a4 b1) (fun x hx => WP_some.2 ?_)
        obtain ⟨x1, x2, x3⟩ := hx
        refine ⟨⟨cS.tr x1 (fun _ _ q => q), Or.inr (Or.inr ⟨f, b2, x2⟩)⟩, ?_⟩
        have f0 : f.1 ≠ 0 := x2.2.1
        have y10 : gI x 2000 10 = f.1 := x2.1
        rw [if_neg (show ¬ gI x 2000 10 = 0 by omega), if_pos z10, z9, Int.toNat_natCast]; omega
      · have hle := b1.le ts.l hj
        refine WP_call (m_tellCell ts (c_27 h27 cS) a2 a3 a4 b1) (fun x hx => WP_some.2 ?_)
        obtain ⟨x1, x2, x3⟩ := hx
        refine ⟨⟨cS.tr x1 (fun _ _ q => q), Or.inr (Or.inl ⟨rs ++ [r], j', cs ++ [j + 1], b3, x2, b2, fun e => by have := congrArg List.length e; rw [List.length_append] at this; simp at this, x3⟩)⟩, ?_⟩
        have y10 : gI x 2000 10 = 0 := x2.1
        have y9 : gI x 2000 9 = (j' : Int) := x2.2.1
        rw [if_pos y10, if_pos z10, z9, y9, Int.toNat_natCast, Int.toNat_natCast]; omega
      · have hle := b1.le ts.l hj
        refine WP_call (m_tellCell ts (c_27 h27 cS) a2 a3 a4 b1) (fun x hx => WP_some.2 ?_)
        obtain ⟨x1, x2, x3⟩ := hx
        refine ⟨⟨cS.tr x1 (fun _ _ q => q), Or.inl ⟨cs ++ [j + 1], rs ++ [r], j', b3, x2, x3, a4.add hle.2.2.2.1 (by omega), Or.inr b2⟩⟩, ?_⟩
        have y10 : gI x 2000 10 = 0 := x2.1
        have y9 : gI x 2000 9 = (j' : Int) := x2.2.1
        rw [if_pos y10, if_pos z10, z9, y9, Int.toNat_natCast, Int.toNat_natCast]; omega
    · have hj : j ≤ N := a2.2.2.1
      have hl : cs.length ≤ 12 := by have := a5.2.1; have := a5.2.2.1; omega
      have h0 : cs.length ≠ 0 := fun e => a4 (List.length_eq_zero_iff.1 e)
      rw [m_isRight a2, bX_some, bIf]
      show WP (bX (if true = true then _ else some false) _) _
      rw [if_pos rfl, a5.1.c, w32_id (by omega), if_pos (show ¬ (cs.length : Int) = 0 by omega), a2.2.1, ts.k hj, tkK_id, if_neg (fun q => q a3), bX_some, if_neg (by decide)]
      refine WP_some.2 ⟨cS, ?_⟩
      subst a1
      exact ⟨⟨j, a2⟩, cs, a5⟩
    · rw [m_isRight a2, bX_some, bIf]
      show WP (bX (if false = true then _ else some false) _) _
      rw [if_neg (by decide), bX_some, if_neg (by decide)]
      refine WP_some.2 ⟨cS, ?_⟩
      subst a1
      exact a2
def PLm (a i : Nat) : Prop := PCt a i ∨ PTc a i ∨ (a = 2000 ∧ i = 27)
/-- a whole library is read -/
theorem m_libRead {τ : Type} {K : Sto → Option τ} {P : τ → Prop} (t : TpM S u n) {res : List Row4 ⊕ (Int × Int)} (hR : LibAll u n res)
    (hK : ∀ y N, ChL PLm QCt S y → mLo u n N res y → WP (K y) P) :
    WP (wf S 2000 27 2 fun S3 => wf S3 2000 10 0 fun S4 => wf S4 2000 11 0 fun S5 => wf S5 2000 9 0 fun S6 => wf S6 2000 83 0 fun S7 => bX (mX23_cutTape S7) fun x8 => bX (mX23_readNext x8) fun x9 => bX (lpF (mX23_library_L65) x9) fun y14 => K y14) P := by
  obtain ⟨N, hNn, hN⟩ := LstT.ex (u := u) (n := n)
  rw [wf_eq, wf_eq, wf_eq, wf_eq, wf_eq]
  generalize hw : sI (sI (sI (sI (sI S 2000 27 2) 2000 10 0) 2000 11 0) 2000 9 0) 2000 83 0 = w
  have cw : ChW (fun a i => a = 2000 ∧ (i = 27 ∨ i = 9 ∨ i = 10 ∨ i = 11 ∨ i = 83)) S w := by
    rw [← hw]
    exact ((((ChW.refl.sI ⟨rfl, by omega⟩).sI ⟨rfl, by omega⟩).sI ⟨rfl, by omega⟩).sI ⟨rfl, by omega⟩).sI ⟨rfl, by omega⟩
  have w27 : gI w 2000 27 = 2 := by rw [← hw, hI_sI_i (by decide), hI_sI_i (by decide), hI_sI_i (by decide), hI_sI_i (by decide), gI_sI_eq]; rfl
  have w10 : gI w 2000 10 = 0 := by rw [← hw, hI_sI_i (by decide), hI_sI_i (by decide), hI_sI_i (by decide), gI_sI_eq]; rfl
  have w9 : gI w 2000 9 = 0 := by rw [← hw, hI_sI_i (by decide), gI_sI_eq]; rfl
  have w83 : gI w 2000 83 = 0 := by rw [← hw, gI_sI_eq]; rfl
  have tw : TpM w u n := t.ch (ChL.ofW (Q := QCt) cw) (fun q => by omega) (fun i q => by omega)
  refine WP_call (m_cutTape tw hN hNn) (fun x hx => ?_)
  obtain ⟨x1, x2⟩ := hx
  have tx : MTk u n N x := ⟨x1, t.u, t.b, hNn, hN⟩
  have x27 : gI x 2000 27 = 2 := (x2.1 _ _ (fun q => by unfold PCt at q; omega)).trans w27
  have x10 : gI x 2000 10 = 0 := (x2.1 _ _ (fun q => by unfold PCt at q; omega)).trans w10
  have x9 : gI x 2000 9 = ((0 : Nat) : Int) := (x2.1 _ _ (fun q => by unfold PCt at q; omega)).trans w9
  have x83 : gI x 2000 83 = 0 := (x2.1 _ _ (fun q => by unfold PCt at q; omega)).trans w83
  have cx : ChL PLm QCt S x := ((ChL.refl.tr (ChL.ofW (Q := QCt) cw) (fun a i q => by
    by_cases e : i = 27
    · exact Or.inr (Or.inr ⟨q.1, e⟩)
    · by_cases e2 : i = 83
      · exact Or.inr (Or.inl (Or.inr (Or.inr ⟨q.1, Or.inr e2⟩)))
      · exact Or.inr (Or.inl (PG9_c a i ⟨q.1, by omega, by omega⟩))) (fun _ _ q => q)).tr x2 (fun a i q => Or.inl q) (fun _ _ q => q))
  unfold mX23_readNext
  rw [x9, tx.k (by omega), tkK_id]
  have mcs : ∀ {y : Sto}, gI y 2000 83 = 0 → MCs [] [] y := fun h => ⟨⟨h, fun i hi => absurd hi (by show ¬ i < 0; omega)⟩, rfl, by show 0 ≤ 12; omega, fun i hi => absurd hi (by show ¬ i < 0; omega)⟩
  rcases hR with ⟨e1, e2⟩ | ⟨e1, e2⟩
  · subst e2
    rw [if_pos e1]
    have c2 : ChW PF10 x (sI x 2000 10 1) := ChW.refl.sI ⟨rfl, Or.inl rfl⟩
    have ef : mX23_flaw x 1 ((0 : Nat) : Int) = some (sI (sI x 2000 10 1) 2000 11 (tkB u n 0 : Int)) := by
      unfold mX23_flaw
      rw [x10, if_pos (by decide), tx.k (by omega), tkK_id, if_pos e1, wf_eq, (tx.ch c2 PF10_tk).p (by omega), wf_eq, bX_some]
    have hbn := tkB_le (u := u) (n := n) 0
    have hb := t.b
    rw [ef, bX_some, bX_some, bX_some]
    have c3 : ChW PF10 x (sI (sI x 2000 10 1) 2000 11 (tkB u n 0 : Int)) := c2.sI ⟨rfl, Or.inr rfl⟩
    have q3 : MsQ u n N (sI (sI x 2000 10 1) 2000 11 (tkB u n 0 : Int)) (.inr (1, (tkB u n 0 : Int))) := by
      refine ⟨?_, (show (1 : Int) ≠ 0 by decide), ?_, 0, by omega, ?_⟩
      · rw [hI_sI_i (by decide), gI_sI_eq]; rfl
      · rw [gI_sI_eq, w32_id (by omega)]
      · rw [hI_sI_i (by decide), hI_sI_i (by decide)]; exact x9
    refine WP_call (lib_f q3) (fun y hy => ?_)
    subst hy
    exact hK _ N (cx.tr (ChL.ofW (Q := QCt) c3) (fun a i q => Or.inr (Or.inl (PG9_c a i (PF10_G9 a i q)))) (fun _ _ q => q)) q3
  · rw [if_neg e1, bX_some, bX_some]
    refine WP_call (m_libLoop tx x27 ⟨x10, x9, by omega, e1⟩ (mcs x83) e2) (fun y hy => ?_)
    exact hK _ N (cx.tr (ChL.ofW (Q := QCt) hy.1) (fun a i q => Or.inr (Or.inl q)) (fun _ _ q => q)) hy.2
end MLB
