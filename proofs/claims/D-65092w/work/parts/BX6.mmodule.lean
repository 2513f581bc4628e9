/-! the reference tells designs: modules -/
def CmF (u : Nat → Int) (n N : Nat) (fs : List Fin0) (S : Sto) : Prop :=
  (MTk u n N S ∧ gI S 2000 27 = 0 ∧ fs.length ≤ 16) ∧
  (∀ i, i < fs.length → RMd S i (fs.getD i (0, 0, [], [])).2.2.1 ∧ (MdOk i (fs.getD i (0, 0, [], [])).2.2.1 ∧ KnM u n N (mTk (fs.getD i (0, 0, [], [])).2.2.1)) ∧ RMx S i (fs.getD i (0, 0, [], [])).2.2.1 ((totS [] (fMs fs)).getD i (0, 0)).1 ((totS [] (fMs fs)).getD i (0, 0)).2) ∧
  (gI S 2000 12 = (fs.length : Int) ∧ (∀ i, i < fs.length → gI S 2007 i = ((fs.getD i (0, 0, [], [])).1 : Int) ∧ gI S 2008 i = ((fs.getD i (0, 0, [], [])).2.1 : Int)) ∧ KnM u n N (fMt fs))
/-- what telling modules may change -/
def PDd (a i : Nat) : Prop := (a = 2000 ∧ ((9 ≤ i ∧ i ≤ 12) ∨ i = 25 ∨ i = 26 ∨ i = 28 ∨ i = 32 ∨ i = 33 ∨ i = 34)) ∨ (2007 ≤ a ∧ a ≤ 2022)
theorem PDm_d {M : Nat} : ∀ a i, PDm M a i → PDd a i := fun a i q => by
  have := PDm_n q
  unfold PDd
  omega
theorem PDs_d : ∀ a i, PDs a i → PDd a i := fun a i q => by
  have := PDs_n q
  unfold PDd
  omega
theorem PDd_tk : ∀ a i, 2002 ≤ a → a ≤ 2006 → ¬ PDd a i := fun a i l1 l2 q => by unfold PDd at q; omega
theorem bIfI {b : Bool} : (if ¬ w32 (b2i b) = 0 then (1 : Int) else 0) = if b = true then 1 else 0 := by cases b <;> rfl
theorem rem16 {c : Nat} (h : c < 16) : aRem (c : Int) 16 = (c : Int) := by
  rw [aRem_nn (by omega) (by omega)]; omega
def mMh (x5 : Int × Sto) : Option Sto := bX (mX23_isRight x5.2) fun x6 => bX (bX (if ¬ w32 x6 = 0 then bX (mX23_moduleOf x5.2 x5.1) fun x7 => if ¬ w32 x7 = (-1) then some true else some false else some false) fun b => if b = true then bX (mX23_flaw x5.2 10 x5.1) fun x8 => some x8 else some x5.2) fun y9 => bX (mX23_isRight y9) fun x10 => bX (bX (if ¬ w32 x10 = 0 then if w32 (gI y9 2000 12) = 16 then some true else some false else some false) fun b => if b = true then bX (mX23_flaw y9 15 x5.1) fun x11 => some x11 else some y9) fun y12 => some y12
def mMb (t : Int) (x14 : Sto) : Option Sto := wf x14 2000 28 (aRem (gI x14 2000 12) 16) fun S15 => bX (mX23_isRight S15) fun x16 => bX (if ¬ w32 x16 = 0 then wrI 16 S15 2007 (aRem (gI x14 2000 12) 16) t fun S17 => wrI 16 S17 2008 (aRem (gI x14 2000 12) 16) (gI S17 2000 9) fun S18 => wrI 16 S18 2009 (aRem (gI x14 2000 12) 16) 0 fun S19 => wrI 16 S19 2015 (aRem (gI x14 2000 12) 16) 0 fun S20 => wrI 16 S20 2016 (aRem (gI x14 2000 12) 16) 0 fun S21 => wrI 16 S21 2017 (aRem (gI x14 2000 12) 16) 0 fun S22 => wrI 16 S22 2018 (aRem (gI x14 2000 12) 16) 0 fun S23 => some S23 else some S15) fun y24 => bX (lpF (mX23_tellModule_L155 x14) y24) fun y29 => bX (mX23_sign y29 125) fun x30 => bX (mX23_isRight x30) fun x31 => wf x30 2000 12 ((gI x30 2000 12) + (if ¬ w32 x31 = 0 then 1 else 0)) fun S32 => some S32
section MMD
variable {S x z y : Sto} {u : Nat → Int} {n N M c : Nat} {fs : List Fin0} {ms : List Mdl} {cur m sub : Mdl} {gv mt : List Nat} {k : List Row3} {q : Qq} {j jn p d b fi own si : Nat} {s w v W : Int} {f : Int × Int}
theorem tmod_eq : mX23_tellModule S = bX (mX23_isWord S 1) fun x1 => bX (if w32 x1 = 0 then bX (mX23_flaw S 2 (gI S 2000 9)) fun x2 => some x2 else some S) fun y3 => bX (mX23_go y3) fun x4 => bX (mX23_due x4 1) fun x5 => bX (mX23_isRight x5.2) fun x6 => bX (bX (if ¬ w32 x6 = 0 then bX (mX23_moduleOf x5.2 x5.1) fun x7 => if ¬ w32 x7 = (-1) then some true else some false else some false) fun b => if b = true then bX (mX23_flaw x5.2 10 x5.1) fun x8 => some x8 else some x5.2) fun y9 => bX (mX23_isRight y9) fun x10 => bX (bX (if ¬ w32 x10 = 0 then if w32 (gI y9 2000 12) = 16 then some true else some false else some false) fun b => if b = true then bX (mX23_flaw y9 15 x5.1) fun x11 => some x11 else some y9) fun y12 => bX (mX23_go y12) fun x13 => bX (mX23_sign x13 123) fun x14 => gnz 16 (mMb x5.1 x14) := rfl
/-- behind a fault a module's items are none -/
theorem mMb_f {t : Int} (tk : MTk u n N S) (hq : MsQ u n N S (.inr f)) (h12 : 0 ≤ gI S 2000 12 ∧ gI S 2000 12 ≤ 16) : WP (mMb t S) (fun y => ChW PDd S y ∧ MsQ u n N y (.inr f)) := by
  unfold mMb
  rw [wf_eq]
  generalize hA : sI S 2000 28 (aRem (gI S 2000 12) 16) = A
  have cA : ChW (fun a i => a = 2000 ∧ i = 28) S A := by rw [← hA]; exact ChW.refl.sI ⟨rfl, rfl⟩
  have cA2 : ChW PDd S A := ChW.refl.tr cA (fun a i w => Or.inl (by omega))
  have qA : MsQ u n N A (.inr f) := hq.ch cA (fun i l1 l2 w => by omega)
  rw [m_isRight qA, bX_some, bIf, okQ_f, if_neg (by decide), bX_some]
  have loop : lpF (mX23_tellModule_L155 S) A = some A := by
    refine WP.of (WP_lpF (fun s => s = A) (fun _ => 0) rfl (by decide) (fun s hs => ?_))
    subst hs
    unfold mX23_tellModule_L155
    rw [m_isRight qA, bX_some, bIf, okQ_f, if_neg (by decide), bX_some, if_neg (by decide)]
    exact WP_some.2 rfl
  rw [loop, bX_some]
  refine WP_call (m_sign (tk.ch cA2 PDd_tk) qA (c := 125) (by omega)) (fun x30 h30 => ?_)
  have q30 : MsQ u n N x30 (.inr f) := h30.1
  rw [m_isRight q30, bX_some, wf_eq, bIfI]
  generalize hB : sI x30 2000 12 (gI x30 2000 12 + (if okQ (.inr f) = true then 1 else 0)) = B
  have cB : ChW (fun a i => a = 2000 ∧ i = 12) x30 B := by rw [← hB]; exact ChW.refl.sI ⟨rfl, rfl⟩
  exact WP_some.2 ⟨(cA2.tr h30.2 (fun a i q => PDs_d a i (PG9_s a i q))).tr cB (fun a i w => Or.inl (by omega)), q30.ch cB (fun i l1 l2 w => by omega)⟩
/-- what the loop over items ends with -/
def EnO (u : Nat → Int) (n : Nat) (fs : List Fin0) (a : StM) (e : Option (Int × Int)) : Prop := (isS u n 125 a.1 = true ∧ e = none) ∨ (isS u n 125 a.1 = false ∧ ∃ f, ItR u n (fMt fs) (fMs fs) a.2.2.1 a.2.2.2.1 a.1 a.2.1 (.inr f) ∧ e = some f)
def mIo (u : Nat → Int) (n N : Nat) (fs : List Fin0) (a : StM) (e : Option (Int × Int)) (y : Sto) : Prop := match e with
  | none => CmI u n N fs a.2.2.1 a.2.2.2.1 y ∧ MsQ u n N y (.inl a.1)
  | some f => MsQ u n N y (.inr f)
/-- all items -/
theorem m_items {a0 a : StM} {m0 : Nat} {e : Option (Int × Int)} {x14 : Sto} (h12 : gI x14 2000 12 = (fs.length : Int)) (hC : CmI u n N fs a0.2.2.1 a0.2.2.2.1 S) (hq : MsQ u n N S (.inl a0.1)) (hR : Chs (IStp u n (fMt fs) (fMs fs)) m0 a0 a) (hE : EnO u n fs a e) :
    WP (lpF (mX23_tellModule_L155 x14) S) (fun y => ChW (PDm fs.length) S y ∧ mIo u n N fs a e y) := by
  have hb := hC.b
  have hn := hC.t.b; have hNn := hC.t.e
  have hL := hC.t.l
  refine WP_lpF (fun s => ChW (PDm fs.length) S s ∧ ((∃ m' b, Chs (IStp u n (fMt fs) (fMs fs)) m' b a ∧ CmI u n N fs b.2.2.1 b.2.2.2.1 s ∧ MsQ u n N s (.inl b.1)) ∨ ∃ f, e = some f ∧ MsQ u n N s (.inr f))) (fun s => if gI s 2000 10 = 0 then 1 + (N - (gI s 2000 9).toNat) else 0) ⟨ChW.refl, Or.inl ⟨m0, a0, hR, hC, hq⟩⟩ ?_ (fun s hs => ?_)
  · exact ite_lt (show 1 + (N - _) < 1000000000000 by omega) (show 0 < 1000000000000 by omega)
  obtain ⟨s1, s2⟩ := hs
  unfold mX23_tellModule_L155
  rcases s2 with ⟨m', b, c1, c2, c3⟩ | ⟨f, c1, c2⟩
  · have hbN : b.1 ≤ N := c3.2.2.1
    have h10 : gI s 2000 10 = 0 := c3.1
    have h9 : gI s 2000 9 = (b.1 : Int) := c3.2.1
    rw [m_isRight c3, bX_some, bIf, show okQ (.inl b.1) = true from rfl, if_pos rfl, m_isAt c2.t hbN h9 (by omega), bX_some, bIf2, h12, rem16 (by omega)]
    -- one item, as it is told
    have step : ∀ {res : RIt ⊕ (Int × Int)}, isS u n 125 b.1 = false → ItR u n (fMt fs) (fMs fs) b.2.2.1 b.2.2.2.1 b.1 b.2.1 res → (∀ y, ChW (PDm fs.length) s y → MItO u n N fs res y → (((∃ m' b, Chs (IStp u n (fMt fs) (fMs fs)) m' b a ∧ CmI u n N fs b.2.2.1 b.2.2.2.1 y ∧ MsQ u n N y (.inl b.1)) ∨ ∃ f, e = some f ∧ MsQ u n N y (.inr f)) ∧ (if gI y 2000 10 = 0 then 1 + (N - (gI y 2000 9).toNat) else 0) < (if gI s 2000 10 = 0 then 1 + (N - (gI s 2000 9).toNat) else 0))) → WP (bX (if isS u n 125 b.1 = true then some false else some true) fun bb => if bb = true then bX (mX23_tellItem s (fs.length : Int)) fun x28 => some (Sum.inl x28) else some (Sum.inr s)) (WE (fun s' => (ChW (PDm fs.length) S s' ∧ ((∃ m' b, Chs (IStp u n (fMt fs) (fMs fs)) m' b a ∧ CmI u n N fs b.2.2.1 b.2.2.2.1 s' ∧ MsQ u n N s' (.inl b.1)) ∨ ∃ f, e = some f ∧ MsQ u n N s' (.inr f))) ∧ (if gI s' 2000 10 = 0 then 1 + (N - (gI s' 2000 9).toNat) else 0) < (if gI s 2000 10 = 0 then 1 + (N - (gI s 2000 9).toNat) else 0)) (fun y => ChW (PDm fs.length) S y ∧ mIo u n N fs a e y)) := fun {res} g1 g2 g3 => by
      rw [g1, if_neg (by decide), bX_some, if_pos rfl]
      refine WP_bX.2 ((m_item9 c2 c3 g2).mono (fun y hy => WP_some.2 ?_))
      have h3 := g3 y hy.1 hy.2
      exact ⟨⟨s1.tr hy.1 (fun _ _ q => q), h3.1⟩, h3.2⟩
    cases m' with
    | zero =>
      have c1 : b = a := c1
      subst c1
      rcases hE with ⟨e1, e2⟩ | ⟨e1, f, e2, e3⟩
      · rw [if_pos e1, bX_some, if_neg (by decide)]
        refine WP_some.2 ⟨s1, ?_⟩
        rw [e2]; exact ⟨c2, c3⟩
      · refine step e1 e2 (fun y y1 y2 => ⟨Or.inr ⟨f, e3, y2⟩, ?_⟩)
        have y2 : MsQ u n N y (.inr f) := y2
        rw [if_neg (by rw [y2.1]; exact y2.2.1), if_pos h10]; omega
    | succ m' =>
      obtain ⟨c, ⟨i1, r, i2, i3⟩, i4⟩ := c1
      refine step i1 i2 (fun y y1 y2 => ⟨Or.inl ⟨m', c, i4, ?_, ?_⟩, ?_⟩)
      · rw [i3]; exact y2.2
      · rw [i3]; exact y2.1
      · have y3 : MsQ u n N y (.inl r.1) := y2.1
        have hlt := (i2.lt hL hbN).1
        have hr : r.1 ≤ N := y3.2.2.1
        rw [if_pos y3.1, if_pos h10, y3.2.1, h9, Int.toNat_natCast, Int.toNat_natCast]; omega
  · rw [m_isRight c2, bX_some, bIf, okQ_f, if_neg (by decide), bX_some, if_neg (by decide)]
    refine WP_some.2 ⟨s1, ?_⟩
    rw [c1]; exact c2
/-- a module is told -/
def mMo (u : Nat → Int) (n N : Nat) (fs : List Fin0) (res : (Nat × List Row3 × Fin0) ⊕ (Int × Int)) (y : Sto) : Prop := match res with
  | .inl r => CmF u n N (fs ++ [r.2.2]) y ∧ MsQ u n N y (.inl r.1)
  | .inr f => MsQ u n N y (.inr f)
theorem CmF.ch (h : CmF u n N fs S) (g : ChW PDs S z) : CmF u n N fs z := by
  obtain ⟨⟨h1, h2, h3⟩, h4, h5, h6, h7⟩ := h
  have e : ∀ a i, ¬ (a = 2000 ∧ ((9 ≤ i ∧ i ≤ 11) ∨ i = 32 ∨ i = 33 ∨ i = 34 ∨ i = 25 ∨ i = 26)) → ¬ (2019 ≤ a ∧ a ≤ 2022) → gI z a i = gI S a i := fun a i q1 q2 => g.1 _ _ (fun w => by have := PDs_n w; omega)
  exact ⟨⟨h1.pd g, (e _ _ (by omega) (by omega)).trans h2, h3⟩, fun i hi => ⟨(h4 i hi).1.cg (e _ _ (by omega) (by omega)) (fun a i l1 l2 l3 l4 => e _ _ (by omega) (by omega)), (h4 i hi).2.1, (h4 i hi).2.2.cg (fun a l1 l2 => e _ _ (by omega) (by omega))⟩, (e _ _ (by omega) (by omega)).trans h5, fun i hi => ⟨(e _ _ (by omega) (by omega)).trans (h6 i hi).1, (e _ _ (by omega) (by omega)).trans (h6 i hi).2⟩, h7⟩
theorem m_module (h : CmF u n N fs S) (hq : MsQ u n N S (.inl j)) {res : (Nat × List Row3 × Fin0) ⊕ (Int × Int)} (hR : MoR u n fs j k res) :
    WP (mX23_tellModule S) (fun y => ChW PDd S y ∧ mMo u n N fs res y) := by
  have h0 := h
  obtain ⟨⟨h1, h2, h3⟩, h4, h5, h6, h7⟩ := h
  have hj : j ≤ N := hq.2.2.1
  have hL := h1.l
  rw [tmod_eq, m_isWord h1 hj hq.2.1 (by omega), bX_some, bIf2]
  -- the word
  refine WP_call (R := fun y => ChW PDs S y ∧ MsQ u n N y (if isW u n 1 j = true then .inl j else flT u n 2 j)) ?_ (fun y3 hy3 => ?_)
  · by_cases g : isW u n 1 j = true
    · rw [if_pos (show decide (tkK u n j = 6 ∧ tkV u n j = 1) = true from g), if_pos g]
      exact WP_some.2 ⟨ChW.refl, hq⟩
    · rw [if_neg (show ¬ decide (tkK u n j = 6 ∧ tkV u n j = 1) = true from g), if_neg g]
      refine WP_bX.2 ((m_flaw h1 hq (c := 2) (by omega)).mono (fun y hy => WP_some.2 ⟨ChW.refl.tr hy.2 PF10_s, hy.1⟩))
  obtain ⟨c3, q3⟩ := hy3
  refine WP_call (m_go (h1.pd c3) q3 (fun i e => ?_)) (fun x4 h4' => ?_)
  · by_cases g : isW u n 1 j = true
    · rw [if_pos g] at e; injection e with e; subst e; exact lt6 hL (isW_K g) hj
    · rw [if_neg g] at e; cases e
  obtain ⟨q4, c4'⟩ := h4'
  have q4 : MsQ u n N x4 (wT u n 1 (.inl j)) := by
    have : bq (if isW u n 1 j = true then .inl j else flT u n 2 j) (nxT u n) = wT u n 1 (.inl j) := by
      unfold wT bq isW
      dsimp only
      by_cases g : tkK u n j = 6 ∧ tkV u n j = 1
      · rw [if_pos (decide_eq_true g), if_pos g]
      · rw [if_neg (fun q => g (of_decide_eq_true q)), if_neg g]; rfl
    rw [this] at q4; exact q4
  have c4 : ChW PDs S x4 := c3.tr c4' PG9_s
  refine WP_call (m_due (h1.pd c4) q4 (k := 1) (by omega)) (fun x5 h5' => ?_)
  obtain ⟨t5, x5⟩ := x5
  obtain ⟨q5, c5', d5, d6⟩ := h5'
  dsimp only at q5 c5' d5 d6 ⊢
  have c5 : ChW PDs S x5 := c4.tr c5' PF10_s
  have C5 := h0.ch c5
  obtain ⟨i, i1, i2, i3⟩ := q4.ix
  have et : t5 = (i : Int) := d5.trans i2
  subst et
  -- the name's checks
  rw [m_isRight q5, bX_some, bIf]
  refine WP_call (R := fun y => ChW PDs S y ∧ ∃ qq, MsQ u n N y qq ∧ (qq = if okQ (duT u n 1 (wT u n 1 (.inl j))) = true ∧ inNm u n (fMt fs) i = true then .inr (10, (tkB u n i : Int)) else duT u n 1 (wT u n 1 (.inl j)))) ?_ (fun y9 hy9 => ?_)
  · by_cases g : okQ (duT u n 1 (wT u n 1 (.inl j))) = true
    · have k1 : tkK u n i = 1 ∧ duT u n 1 (wT u n 1 (.inl j)) = .inl i := by
        cases hw : wT u n 1 (.inl j) with
        | inr f => rw [hw] at g; cases g
        | inl a =>
          have := i3 a hw
          subst this
          rw [hw] at g
          unfold duT bq at g ⊢
          dsimp only at g ⊢
          by_cases k1 : tkK u n a = 1
          · rw [if_pos k1]; exact ⟨k1, rfl⟩
          · rw [if_neg k1] at g; cases g
      rw [if_pos g]
      refine WP_bX.2 (WP_bX.2 ((m_moduleOf (mt := fMt fs) C5.1.1 (by rw [C5.2.2.1, fMt_len]) (fun i hi => by rw [fMt_len] at hi; rw [fMt_d hi]; exact (C5.2.2.2.1 i hi).1) (by rw [fMt_len]; exact h3) C5.2.2.2.2 i1 k1.1).mono (fun x7 hx7 => ?_)))
      subst hx7
      by_cases g2 : inNm u n (fMt fs) i = true
      · have hfi := (fiN_ok g2).1
        rw [fMt_len] at hfi
        rw [if_pos g2, w32_id (by omega), if_pos (by omega)]
        refine WP_some.2 ?_
        rw [if_pos rfl]
        rw [k1.2] at q5
        refine WP_bX.2 ((m_flawAt C5.1.1 q5 i1 (fun _ => by omega) (c := 10) (by omega)).mono (fun z hz => WP_some.2 ⟨c5.tr hz.2 PF10_s, .inr (10, (tkB u n i : Int)), hz.1, by rw [if_pos ⟨g, g2⟩]⟩))
      · rw [if_neg g2, w32_id (by omega), if_neg (by decide)]
        refine WP_some.2 ?_
        rw [if_neg (by decide)]
        exact WP_some.2 ⟨c5, _, q5, by rw [if_neg (fun w => g2 w.2)]⟩
    · rw [if_neg g, bX_some, if_neg (by decide)]
      exact WP_some.2 ⟨c5, _, q5, by rw [if_neg (fun w => g w.1)]⟩
  obtain ⟨c9, q9v, q9, e9⟩ := hy9
  rw [m_isRight q9, bX_some, bIf]
  refine WP_call (R := fun y => ChW PDs S y ∧ MsQ u n N y (chT u n 16 (fMt fs) (wT u n 1 (.inl j)))) ?_ (fun y12 hy12 => ?_)
  · have h12 : gI y9 2000 12 = (fs.length : Int) := (h0.ch c9).2.2.1
    cases hw : wT u n 1 (.inl j) with
    | inr f =>
      rw [hw] at e9
      have e9 : q9v = .inr f := e9
      subst e9
      rw [okQ_f, if_neg (by decide), bX_some, if_neg (by decide)]
      exact WP_some.2 ⟨c9, q9⟩
    | inl a =>
      have := i3 a hw
      subst this
      rw [hw] at e9
      unfold chT bq
      dsimp only
      by_cases k1 : tkK u n a = 1
      · have ed : duT u n 1 (.inl a) = .inl a := if_pos k1
        rw [ed] at e9
        rw [if_pos k1]
        by_cases g2 : inNm u n (fMt fs) a = true
        · rw [if_pos ⟨rfl, g2⟩] at e9
          subst e9
          rw [okQ_f, if_neg (by decide), bX_some, if_neg (by decide), if_pos g2]
          exact WP_some.2 ⟨c9, q9⟩
        · rw [if_neg (fun w => g2 w.2)] at e9
          subst e9
          rw [show okQ (.inl a) = true from rfl, if_pos rfl, h12, w32_id (by omega), if_neg g2, fMt_len]
          by_cases g3 : fs.length = 16
          · rw [if_pos (by omega), bX_some, if_pos rfl, if_pos g3]
            refine WP_bX.2 ((m_flawAt (h1.pd c9) q9 i1 (fun _ => by omega) (c := 15) (by omega)).mono (fun z hz => WP_some.2 ⟨c9.tr hz.2 PF10_s, hz.1⟩))
          · rw [if_neg (by omega), bX_some, if_neg (by decide), if_neg g3]
            exact WP_some.2 ⟨c9, q9⟩
      · have ed : duT u n 1 (.inl a) = flT u n 2 a := if_neg k1
        rw [ed] at e9
        have e9 : q9v = flT u n 2 a := by rw [e9, if_neg (fun w => by cases w.1)]
        subst e9
        have : okQ (flT u n 2 a) = false := rfl
        rw [this, if_neg (by decide), bX_some, if_neg (by decide), if_neg k1]
        exact WP_some.2 ⟨c9, q9⟩
  obtain ⟨c12, q12⟩ := hy12
  refine WP_call (m_go (h1.pd c12) q12 (fun a e => ?_)) (fun x13 h13 => ?_)
  · obtain ⟨_, k1, _, _⟩ := chT_inl e
    have ha : a ≤ N := by rw [e] at q12; exact q12.2.2.1
    exact lt1 hL k1 ha
  have q13 : MsQ u n N x13 (newT u n 16 (fMt fs) (wT u n 1 (.inl j))) := h13.1
  have c13 : ChW PDs S x13 := c12.tr h13.2 PG9_s
  refine WP_call (m_sign (h1.pd c13) q13 (c := 123) (by omega)) (fun x14 h14 => ?_)
  have q14 : MsQ u n N x14 (moH u n (fMt fs) j) := h14.1
  have c14 : ChW PDs S x14 := c13.tr h14.2 PG9_s
  have C14 := h0.ch c14
  have h12 : gI x14 2000 12 = (fs.length : Int) := C14.2.2.1
  rw [gnz_16]
  rcases hR with ⟨f, e1, e2⟩ | ⟨b, e1, m, a, e2, e3⟩
  · rw [e1] at q14
    refine (mMb_f C14.1.1 q14 (by omega)).mono (fun y hy => ⟨(ChW.refl.tr c14 PDs_d).tr hy.1 (fun _ _ q => q), ?_⟩)
    rw [e2]; exact hy.2
  · rw [e1] at q14
    obtain ⟨m1, m2, m3, m4, m5, m6, m7, m8, m9⟩ := moH_ok hL e1 hj
    rw [fMt_len] at m6
    have hb15 : fs.length ≤ 15 := by omega
    have ew : wT u n 1 (.inl j) = .inl (j + 1) := by
      have : wT u n 1 (.inl j) = nxT u n j := by unfold wT bq; dsimp only; rw [if_pos (of_decide_eq_true m1)]
      rw [this]; exact m2
    have ei : i = j + 1 := (i3 _ ew).symm
    subst ei
    unfold mMb
    rw [h12, rem16 (by omega), wf_eq]
    generalize hA : sI x14 2000 28 (fs.length : Int) = A
    have cA : ChW (fun a i => a = 2000 ∧ i = 28) x14 A := by rw [← hA]; exact ChW.refl.sI ⟨rfl, rfl⟩
    have A28 : gI A 2000 28 = (fs.length : Int) := by rw [← hA, gI_sI_eq, w32_id (by omega)]
    have qA : MsQ u n N A (.inl b) := q14.ch cA (fun i l1 l2 w => by omega)
    have A9 : gI A 2000 9 = (b : Int) := qA.2.1
    have hnn := h1.b; have hNn := h1.e
    rw [m_isRight qA, bX_some, bIf, show okQ (.inl b) = true from rfl, if_pos rfl, wrI_e (by omega), Int.toNat_natCast, wrI_e (by omega), Int.toNat_natCast, hI_sI_a (show (2000 : Nat) ≠ 2007 by decide), A9, wrI_e (by omega), Int.toNat_natCast, wrI_e (by omega), Int.toNat_natCast, wrI_e (by omega), Int.toNat_natCast, wrI_e (by omega), Int.toNat_natCast, wrI_e (by omega), Int.toNat_natCast, bX_some]
    generalize hB : sI (sI (sI (sI (sI (sI (sI A 2007 fs.length ((j + 1 : Nat) : Int)) 2008 fs.length (b : Int)) 2009 fs.length 0) 2015 fs.length 0) 2016 fs.length 0) 2017 fs.length 0) 2018 fs.length 0 = B
    have cB : ChW (fun a i => ((2007 ≤ a ∧ a ≤ 2009) ∨ (2015 ≤ a ∧ a ≤ 2018)) ∧ i = fs.length) A B := by
      rw [← hB]
      refine ((((((ChW.refl.sI ?_).sI ?_).sI ?_).sI ?_).sI ?_).sI ?_).sI ?_ <;> omega
    have B7 : gI B 2007 fs.length = ((j + 1 : Nat) : Int) := by rw [← hB]; simp (disch := omega) only [gI_sIn, gI_sIe]; rw [w32_id (by omega)]
    have B8 : gI B 2008 fs.length = (b : Int) := by rw [← hB]; simp (disch := omega) only [gI_sIn, gI_sIe]; rw [w32_id (by omega)]
    have B9 : gI B 2009 fs.length = 0 := by rw [← hB]; simp (disch := omega) only [gI_sIn, gI_sIe]; rfl
    have B15 : gI B 2015 fs.length = 0 := by rw [← hB]; simp (disch := omega) only [gI_sIn, gI_sIe]; rfl
    have B16 : gI B 2016 fs.length = 0 := by rw [← hB]; simp (disch := omega) only [gI_sIn, gI_sIe]; rfl
    have B17 : gI B 2017 fs.length = 0 := by rw [← hB]; simp (disch := omega) only [gI_sIn, gI_sIe]; rfl
    have B18 : gI B 2018 fs.length = 0 := by rw [← hB]; simp (disch := omega) only [gI_sIn, gI_sIe]; rfl
    have cSB : ChW PDd S B := ((ChW.refl.tr c14 PDs_d).tr cA (fun a i w => Or.inl (by omega))).tr cB (fun a i w => Or.inr (by omega))
    have eB : ∀ a i, ¬ (((2007 ≤ a ∧ a ≤ 2009) ∨ (2015 ≤ a ∧ a ≤ 2018)) ∧ i = fs.length) → ¬ (a = 2000 ∧ i = 28) → gI B a i = gI x14 a i := fun a i w1 w2 => (cB.1 _ _ w1).trans (cA.1 _ _ w2)
    have qB : MsQ u n N B (.inl b) := qA.ch cB (fun i l1 l2 w => by omega)
    obtain ⟨⟨g1, g2, g3⟩, g4, g5, g6, g7⟩ := C14
    have CB : CmI u n N fs [] [] B := by
      have tB : MTk u n N B := (g1.ch cA (fun a i l1 l2 w => by omega)).ch cB (fun a i l1 l2 w => by omega)
      refine ⟨⟨tB, ⟨⟨⟨B9, fun i hi => absurd hi (by show ¬ i < 0; omega)⟩, hb15, ?_⟩, fun kk hk => ?_, ⟨⟨by show 0 ≤ 40; omega, fun i hi => absurd hi (by show ¬ i < 0; omega)⟩, fun i hi => absurd hi (by show ¬ i < 0; omega)⟩, fun kk hk => ?_, by rw [fMs_len]; exact hb15⟩, ?_⟩, ⟨⟨B15, B16, by rw [B17]; rfl, by rw [B18]; rfl, Int.le_refl _, Int.le_refl _⟩, fun i hi => absurd hi (by show ¬ i < 0; omega), fun i hi => absurd hi (by show ¬ i < 0; omega), fun g hg => by cases hg⟩, fun i hi => (g4 i hi).2.2.cg (fun a l1 l2 => eB _ _ (by omega) (by omega)), ?_, fun i hi => ?_, g7⟩
      · rw [cB.1 _ _ (fun w => by omega)]; exact A28
      · have hk' : kk < fs.length := by rw [fMs_len] at hk; exact hk
        rw [fMs_d hk']
        have hm := (g4 kk hk').2.1.1.1
        exact (g4 kk hk').1.cg (eB _ _ (by omega) (by omega)) (fun a i l1 l2 l3 l4 => eB _ _ (by omega) (by omega))
      · have hk' : kk < fs.length := by rw [fMs_len] at hk; exact hk
        rw [fMs_d hk', fMs_len]
        exact ⟨(g4 kk hk').2.1.1.mono (by omega), (g4 kk hk').2.1.2⟩
      · rw [eB _ _ (by omega) (by omega)]; exact g2
      · rw [eB _ _ (by omega) (by omega)]; exact g5
      · rw [eB _ _ (by omega) (by omega), eB _ _ (by omega) (by omega)]; exact g6 i hi
    -- the loop
    have hE : ∃ e, EnO u n fs a e ∧ res = match e with | none => oB (nxT u n a.1) (fun e => .inl (e, a.2.1, (j + 1, b, a.2.2.1, a.2.2.2.2))) | some f => .inr f := by
      rcases e3 with ⟨x1, x2⟩ | ⟨x1, f, x2, x3⟩
      · exact ⟨none, Or.inl ⟨x1, rfl⟩, x2⟩
      · exact ⟨some f, Or.inr ⟨x1, f, x2, rfl⟩, x3⟩
    obtain ⟨e, hE, hres⟩ := hE
    refine WP_call (m_items (a0 := (b, k, [], [], [])) h12 CB qB e2 hE) (fun y29 h29 => ?_)
    obtain ⟨c29, o29⟩ := h29
    have cS29 : ChW PDd S y29 := cSB.tr c29 PDm_d
    have t29 : MTk u n N y29 := h1.ch cS29 PDd_tk
    cases e with
    | some f =>
      have o29 : MsQ u n N y29 (.inr f) := o29
      refine WP_call (m_sign t29 o29 (c := 125) (by omega)) (fun x30 h30 => ?_)
      have q30 : MsQ u n N x30 (.inr f) := h30.1
      rw [m_isRight q30, bX_some, wf_eq, bIfI]
      generalize hF : sI x30 2000 12 (gI x30 2000 12 + (if okQ (.inr f) = true then 1 else 0)) = F
      have cF : ChW (fun a i => a = 2000 ∧ i = 12) x30 F := by rw [← hF]; exact ChW.refl.sI ⟨rfl, rfl⟩
      refine WP_some.2 ⟨(cS29.tr h30.2 (fun a i q => PDs_d a i (PG9_s a i q))).tr cF (fun a i w => Or.inl (by omega)), ?_⟩
      rw [hres]
      exact q30.ch cF (fun i l1 l2 w => by omega)
    | none =>
      obtain ⟨C29, q29⟩ := o29
      have hd : isS u n 125 a.1 = true := by
        rcases hE with ⟨x1, _⟩ | ⟨_, f, _, x3⟩
        · exact x1
        · cases x3
      refine WP_call (m_sign t29 q29 (c := 125) (by omega)) (fun x30 h30 => ?_)
      have q30 : MsQ u n N x30 (nxT u n a.1) := by
        have : tkT u n 125 (.inl a.1) = nxT u n a.1 := by unfold tkT bq; dsimp only; rw [if_pos hd]
        have h301 := h30.1
        rw [this] at h301; exact h301
      have c30 : ChW PDs y29 x30 := ChW.refl.tr h30.2 PG9_s
      have C30 := C29.ch c30
      have x12 : gI x30 2000 12 = (fs.length : Int) := C30.2.2.2.1
      rw [m_isRight q30, bX_some, wf_eq, bIfI, x12]
      generalize hF : sI x30 2000 12 ((fs.length : Int) + (if okQ (nxT u n a.1) = true then 1 else 0)) = F
      have cF : ChW (fun a i => a = 2000 ∧ i = 12) x30 F := by rw [← hF]; exact ChW.refl.sI ⟨rfl, rfl⟩
      refine WP_some.2 ⟨(cS29.tr c30 PDs_d).tr cF (fun a i w => Or.inl (by omega)), ?_⟩
      rw [hres]
      have qF : MsQ u n N F (nxT u n a.1) := q30.ch cF (fun i l1 l2 w => by omega)
      cases hN : nxT u n a.1 with
      | inr f => rw [hN] at qF; exact qF
      | inl e =>
        rw [hN] at qF hF
        refine ⟨?_, qF⟩
        -- the context behind the module
        have F12 : gI F 2000 12 = (fs.length : Int) + 1 := by rw [← hF, gI_sI_eq, show okQ (.inl e) = true from rfl, if_pos rfl, w32_id (by omega)]
        have eF : ∀ a i, ¬ (a = 2000 ∧ i = 12) → gI F a i = gI x30 a i := cF.1
        obtain ⟨⟨p1, p2, p3⟩, ⟨p4, p5, p6⟩, p7, p8, p9, p10⟩ := C30
        obtain ⟨⟨r1, r2, r3⟩, r4, r5, r6, r7⟩ := p2
        have hl : ∀ X : Fin0, (fs ++ [X]).length = fs.length + 1 := fun X => by rw [List.length_append]; rfl
        have eT : ∀ X : Fin0, totS [] (fMs (fs ++ [X])) = totS [] (fMs fs) ++ [(rgT (totS [] (fMs fs)) X.2.2.1, inT (totS [] (fMs fs)) X.2.2.1)] := fun X => by rw [fMs_app, totS_app]
        have lT : (totS [] (fMs fs)).length = fs.length := by rw [totS_len, fMs_len]; show 0 + _ = _; omega
        have e78 : ∀ a, (a = 2007 ∨ a = 2008) → gI x30 a fs.length = gI B a fs.length := fun a w => by
          rw [c30.1 _ _ (fun w2 => by have := PDs_n w2; omega), c29.1 _ _ (fun w2 => by have := PDm_n w2; omega)]
        refine ⟨⟨p1.ch cF (fun a i l1 l2 w => by omega), (eF _ _ (by omega)).trans p3, by rw [hl]; omega⟩, fun i hi => ?_, by rw [F12, hl]; omega, fun i hi => ?_, ?_⟩
        · rw [hl] at hi
          rw [getD_appF, eT, getD_appT, lT]
          by_cases g : i < fs.length
          · rw [if_pos g, if_pos g]
            have ri := r4 i (by rw [fMs_len]; exact g)
            rw [fMs_d g] at ri
            exact ⟨ri.cg (eF _ _ (by omega)) (fun a i l1 l2 l3 l4 => eF _ _ (by omega)), (g4 i g).2.1, (p7 i g).cg (fun a l1 l2 => eF _ _ (by omega))⟩
          · have g' : i = fs.length := by omega
            subst g'
            rw [if_neg g, if_pos rfl, if_neg g, if_pos rfl]
            refine ⟨r1.cg (eF _ _ (by omega)) (fun a i l1 l2 l3 l4 => eF _ _ (by omega)), ⟨?_, r5.2⟩, p4.cg (fun a l1 l2 => eF _ _ (by omega))⟩
            have := r5.1
            rw [fMs_len] at this; exact this
        · rw [hl] at hi
          rw [getD_appF, eF _ _ (by omega), eF _ _ (by omega)]
          by_cases g : i < fs.length
          · rw [if_pos g]; exact p9 i g
          · have g' : i = fs.length := by omega
            subst g'
            rw [if_neg g, if_pos rfl, e78 2007 (Or.inl rfl), e78 2008 (Or.inr rfl)]
            exact ⟨B7, B8⟩
        · rw [fMt_app]
          exact p10.add m4 (by omega)
end MMD
