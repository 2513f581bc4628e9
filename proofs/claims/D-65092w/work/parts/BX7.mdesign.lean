/-! the reference tells a whole design -/
def mFl (y12 : Sto) : Option Sto := rdI 16 y12 2018 ((gI y12 2000 12) - 1) fun v14 => bX (if 200 < w32 v14 then some 20 else rdI 16 y12 2015 ((gI y12 2000 12) - 1) fun v15 => rdI 16 y12 2017 ((gI y12 2000 12) - 1) fun v16 => bX (if w32 (v15 + v16) ≤ 12 then rdI 16 y12 2017 ((gI y12 2000 12) - 1) fun v17 => if 6 < w32 v17 then some true else some false else some true) fun b => if b = true then some 21 else rdI 16 y12 2016 ((gI y12 2000 12) - 1) fun v18 => bX (if ¬ w32 v18 = 0 then rdI 16 y12 2016 ((gI y12 2000 12) - 1) fun v19 => if 16 < w32 v19 then some true else some false else some true) fun b => if b = true then some 22 else some 0) fun y20 => bX (if 0 < w32 y20 then rdI 16 y12 2007 ((gI y12 2000 12) - 1) fun v21 => bX (mX23_flawBefore y12 y20 v21) fun x22 => some x22 else some y12) fun y23 => some y23
def EnD (u : Nat → Int) (n : Nat) (a : StD) (e : Option (Int × Int)) : Prop := (a.2.2 ≠ [] ∧ tkK u n a.1 = 5 ∧ e = none) ∨ ((a.2.2 = [] ∨ tkK u n a.1 ≠ 5) ∧ ∃ f, MoR u n a.2.2 a.1 a.2.1 (.inr f) ∧ e = some f)
def mDo (u : Nat → Int) (n N : Nat) (a : StD) (e : Option (Int × Int)) (y : Sto) : Prop := match e with
  | none => CmF u n N a.2.2 y ∧ MsQ u n N y (.inl a.1)
  | some f => MsQ u n N y (.inr f)
/-- what telling a design leaves -/
def mDs (u : Nat → Int) (n N : Nat) (res : (List Row3 × List Fin0) ⊕ (Int × Int)) (y : Sto) : Prop := match res with
  | .inl r => CmF u n N r.2 y ∧ gI y 2000 10 = 0 ∧ r.2 ≠ []
  | .inr f => MsQ u n N y (.inr f)
def PLd (a i : Nat) : Prop := PCt a i ∨ PDd a i ∨ (a = 2000 ∧ i = 27)
section MDE
variable {S x z y : Sto} {u : Nat → Int} {n N M c : Nat} {fs : List Fin0} {k : List Row3} {q : Qq} {j : Nat} {f : Int × Int}
theorem tdes_eq : mX23_tellDesign S = wf S 2000 27 0 fun S1 => wf S1 2000 10 0 fun S2 => wf S2 2000 11 0 fun S3 => wf S3 2000 9 0 fun S4 => wf S4 2000 12 0 fun S5 => bX (mX23_cutTape S5) fun x6 => bX (mX23_readNext x6) fun x7 => bX (lpF (mX23_tellDesign_L33) x7) fun y12 => bX (mX23_isRight y12) fun x13 => if w32 x13 = 0 then some y12 else mFl y12 := rfl
/-- all modules -/
theorem m_mods {a0 a : StD} {m0 : Nat} {e : Option (Int × Int)} (hC : CmF u n N a0.2.2 S) (hq : MsQ u n N S (.inl a0.1)) (hR : Chs (DStp u n) m0 a0 a) (hE : EnD u n a e) :
    WP (lpF mX23_tellDesign_L33 S) (fun y => ChW PDd S y ∧ mDo u n N a e y) := by
  have hn := hC.1.1.b; have hNn := hC.1.1.e
  have hL := hC.1.1.l
  refine WP_lpF (fun s => ChW PDd S s ∧ ((∃ m' b, Chs (DStp u n) m' b a ∧ CmF u n N b.2.2 s ∧ MsQ u n N s (.inl b.1)) ∨ ∃ f, e = some f ∧ MsQ u n N s (.inr f))) (fun s => if gI s 2000 10 = 0 then 1 + (N - (gI s 2000 9).toNat) else 0) ⟨ChW.refl, Or.inl ⟨m0, a0, hR, hC, hq⟩⟩ ?_ (fun s hs => ?_)
  · exact ite_lt (show 1 + (N - _) < 1000000000000 by omega) (show 0 < 1000000000000 by omega)
  obtain ⟨s1, s2⟩ := hs
  unfold mX23_tellDesign_L33
  rcases s2 with ⟨m', b, c1, c2, c3⟩ | ⟨f, c1, c2⟩
  · have hbN : b.1 ≤ N := c3.2.2.1
    have h10 : gI s 2000 10 = 0 := c3.1
    have h9 : gI s 2000 9 = (b.1 : Int) := c3.2.1
    have h12 : gI s 2000 12 = (b.2.2.length : Int) := c2.2.2.1
    have hl16 := c2.1.2.2
    have hcond : (bX (if ¬ w32 (gI s 2000 12) = 0 then rdI 65537 s 2002 (gI s 2000 9) fun v10 => if ¬ w32 v10 = 5 then some true else some false else some true) fun b => some b) = some (decide (b.2.2 = [] ∨ tkK u n b.1 ≠ 5)) := by
      rw [h12, w32_id (by omega), h9, c2.1.1.k hbN, tkK_id]
      by_cases g : b.2.2 = []
      · rw [g, if_neg (fun w => w rfl), bX_some, decide_eq_true (Or.inl rfl)]
      · have : b.2.2.length ≠ 0 := fun w => g (List.length_eq_zero_iff.1 w)
        rw [if_pos (by omega)]
        by_cases g2 : tkK u n b.1 = 5
        · rw [if_neg (fun w => w g2), bX_some, decide_eq_false (fun w => by rcases w with w | w; exact g w; exact w g2)]
        · rw [if_pos g2, bX_some, decide_eq_true (Or.inr g2)]
    have hc2 : (if ¬ w32 (gI s 2000 12) = 0 then rdI 65537 s 2002 (gI s 2000 9) fun v10 => if ¬ w32 v10 = 5 then some true else some false else some true) = some (decide (b.2.2 = [] ∨ tkK u n b.1 ≠ 5)) := by
      cases hh : (if ¬ w32 (gI s 2000 12) = 0 then rdI 65537 s 2002 (gI s 2000 9) fun v10 => if ¬ w32 v10 = 5 then some true else some false else some true) with
      | none => rw [hh] at hcond; cases hcond
      | some v => rw [hh] at hcond; exact hcond
    rw [m_isRight c3, bX_some, bIf, show okQ (.inl b.1) = true from rfl, if_pos rfl, hc2, bX_some]
    have step : ∀ {res : (Nat × List Row3 × Fin0) ⊕ (Int × Int)}, (b.2.2 = [] ∨ tkK u n b.1 ≠ 5) → MoR u n b.2.2 b.1 b.2.1 res → (∀ y, ChW PDd s y → mMo u n N b.2.2 res y → (((∃ m' b, Chs (DStp u n) m' b a ∧ CmF u n N b.2.2 y ∧ MsQ u n N y (.inl b.1)) ∨ ∃ f, e = some f ∧ MsQ u n N y (.inr f)) ∧ (if gI y 2000 10 = 0 then 1 + (N - (gI y 2000 9).toNat) else 0) < (if gI s 2000 10 = 0 then 1 + (N - (gI s 2000 9).toNat) else 0))) → WP (if decide (b.2.2 = [] ∨ tkK u n b.1 ≠ 5) = true then bX (mX23_tellModule s) fun x11 => some (Sum.inl x11) else some (Sum.inr s)) (WE (fun s' => (ChW PDd S s' ∧ ((∃ m' b, Chs (DStp u n) m' b a ∧ CmF u n N b.2.2 s' ∧ MsQ u n N s' (.inl b.1)) ∨ ∃ f, e = some f ∧ MsQ u n N s' (.inr f))) ∧ (if gI s' 2000 10 = 0 then 1 + (N - (gI s' 2000 9).toNat) else 0) < (if gI s 2000 10 = 0 then 1 + (N - (gI s 2000 9).toNat) else 0)) (fun y => ChW PDd S y ∧ mDo u n N a e y)) := fun {res} g1 g2 g3 => by
      rw [decide_eq_true g1, if_pos rfl]
      refine WP_bX.2 ((m_module c2 c3 g2).mono (fun y hy => WP_some.2 ?_))
      have h3 := g3 y hy.1 hy.2
      exact ⟨⟨s1.tr hy.1 (fun _ _ q => q), h3.1⟩, h3.2⟩
    cases m' with
    | zero =>
      have c1 : b = a := c1
      subst c1
      rcases hE with ⟨e1, e2, e3⟩ | ⟨e1, f, e2, e3⟩
      · rw [decide_eq_false (fun w => by rcases w with w | w; exact e1 w; exact w e2), if_neg (by decide)]
        refine WP_some.2 ⟨s1, ?_⟩
        rw [e3]; exact ⟨c2, c3⟩
      · refine step e1 e2 (fun y y1 y2 => ⟨Or.inr ⟨f, e3, y2⟩, ?_⟩)
        have y2 : MsQ u n N y (.inr f) := y2
        rw [if_neg (by rw [y2.1]; exact y2.2.1), if_pos h10]; omega
    | succ m' =>
      obtain ⟨c, ⟨i1, r, i2, i3⟩, i4⟩ := c1
      have g1 : b.2.2 = [] ∨ tkK u n b.1 ≠ 5 := by
        by_cases g : b.2.2 = []
        · exact Or.inl g
        · exact Or.inr (i1 g)
      refine step g1 i2 (fun y y1 y2 => ⟨Or.inl ⟨m', c, i4, ?_, ?_⟩, ?_⟩)
      · rw [i3]; exact y2.1
      · rw [i3]; exact y2.2
      · have y3 : MsQ u n N y (.inl r.1) := y2.2
        have hlt := i2.lt hL hbN
        have hr : r.1 ≤ N := y3.2.2.1
        rw [if_pos y3.1, if_pos h10, y3.2.1, h9, Int.toNat_natCast, Int.toNat_natCast]; omega
  · rw [m_isRight c2, bX_some, bIf, okQ_f, if_neg (by decide), bX_some, if_neg (by decide)]
    refine WP_some.2 ⟨s1, ?_⟩
    rw [c1]; exact c2
theorem min_lt {v t : Int} (hv : v ≤ 999) : v < min 1000 t ↔ v < t := by
  have := Int.min_def 1000 t
  split at this <;> omega
/-- the last checks -/
theorem m_final (h : CmF u n N fs S) (hq : MsQ u n N S (.inl j)) (hne : fs ≠ []) : WP (mFl S) (fun y => ChW PF10 S y ∧ ((fnD fs = 0 ∧ y = S) ∨ (fnD fs ≠ 0 ∧ MsQ u n N y (.inr (fnD fs, (tkB u n (fLast fs).1 : Int)))))) := by
  obtain ⟨⟨h1, h2, h3⟩, h4, h5, h6, h7⟩ := h
  have hlen : 0 < fs.length := List.length_pos_iff.2 hne
  generalize eI : fs.length - 1 = I
  have eL : fs.getD I (0, 0, [], []) = fLast fs := by unfold fLast; rw [eI]
  have hi := h4 I (by omega)
  rw [eL] at hi
  obtain ⟨a1, ⟨a2, a3⟩, b1, b2, b3, b4, b5, b6⟩ := hi
  have hml := a2.1
  have hW : ∀ s : Int, s ≠ 4 → 0 ≤ sumW s (fLast fs).2.2.1 ∧ sumW s (fLast fs).2.2.1 ≤ 400 := fun s hs => by
    have : ∀ (m : Mdl), (∀ i, i < m.length → NmOk I (m.getD i nm0)) → 0 ≤ sumW s m ∧ sumW s m ≤ 8 * (m.length : Int) := by
      intro m
      induction m with
      | nil => intro _; exact ⟨Int.le_refl 0, by show (0 : Int) ≤ 8 * ((0 : Nat) : Int); omega⟩
      | cons x m ih =>
        intro h
        have h0 : NmOk I x := h 0 (by show 0 < m.length + 1; omega)
        have ih := ih (fun i hi => h (i + 1) (by show i + 1 < m.length + 1; omega))
        show 0 ≤ (if x.2.1 = s then x.2.2.1 else 0) + sumW s m ∧ (if x.2.1 = s then x.2.2.1 else 0) + sumW s m ≤ 8 * ((m.length + 1 : Nat) : Int)
        by_cases g : x.2.1 = s
        · rw [if_pos g]
          have := h0.2.1 (by rw [g]; exact hs)
          omega
        · rw [if_neg g]; omega
    have := this _ a2.2
    omega
  have w0 := hW 0 (by decide)
  have w1 := hW 1 (by decide)
  have e1 : gI S 2000 12 - 1 = (I : Int) := by rw [h5]; omega
  have m17 := Int.min_def 1000 ((totS [] (fMs fs)).getD I (0, 0)).1
  have m18 := Int.min_def 1000 ((totS [] (fMs fs)).getD I (0, 0)).2
  have ht := (h6 I (by omega)).1
  rw [eL] at ht
  have hk := h7 I (by rw [fMt_len]; omega)
  rw [fMt_d (by omega), eL] at hk
  have r17 : 0 ≤ gI S 2017 I ∧ gI S 2017 I ≤ 1000 := by rw [b3]; split at m17 <;> omega
  have l6 := min_lt (v := 6) (t := ((totS [] (fMs fs)).getD I (0, 0)).1) (by omega)
  have l200 := min_lt (v := 200) (t := ((totS [] (fMs fs)).getD I (0, 0)).2) (by omega)
  have fin : ∀ g : Int, 1 ≤ g ∧ g ≤ 100 → WP (bX (if 0 < w32 g then rdI 16 S 2007 (I : Int) fun v21 => bX (mX23_flawBefore S g v21) fun x22 => some x22 else some S) fun y23 => some y23) (fun y => ChW PF10 S y ∧ ((g = 0 ∧ y = S) ∨ (g ≠ 0 ∧ MsQ u n N y (.inr (g, (tkB u n (fLast fs).1 : Int)))))) := fun g hg => by
    rw [w32_id (by omega), if_pos (by omega), rdI_e (by omega), Int.toNat_natCast, ht]
    refine WP_bX.2 (WP_bX.2 ((m_flawBefore h1 hq hk.2 (c := g) (by omega)).mono (fun y hy => WP_some.2 (WP_some.2 ⟨hy.2, Or.inr ⟨by omega, hy.1⟩⟩))))
  unfold mFl fnD
  rw [eI, e1, rdI_e (by omega), Int.toNat_natCast, w32_gI, b4]
  by_cases q1 : 200 < ((totS [] (fMs fs)).getD I (0, 0)).2
  · rw [if_pos (l200.2 q1), if_pos q1, bX_some]
    exact fin 20 (by omega)
  · rw [if_neg (fun w => q1 (l200.1 w)), if_neg q1, rdI_e (by omega), Int.toNat_natCast, rdI_e (by omega), Int.toNat_natCast, b1]
    have c21 : (if w32 (sumW 0 (fLast fs).2.2.1 + gI S 2017 I) ≤ 12 then rdI 16 S 2017 (I : Int) fun v17 => if 6 < w32 v17 then some true else some false else some true) = some (decide (6 < ((totS [] (fMs fs)).getD I (0, 0)).1 ∨ 12 < sumW 0 (fLast fs).2.2.1 + ((totS [] (fMs fs)).getD I (0, 0)).1)) := by
      rw [w32_id (by omega)]
      by_cases g : sumW 0 (fLast fs).2.2.1 + gI S 2017 I ≤ 12
      · have e17 : gI S 2017 I = ((totS [] (fMs fs)).getD I (0, 0)).1 := by rw [b3]; split at m17 <;> omega
        rw [if_pos g, rdI_e (by omega), Int.toNat_natCast, w32_gI, b3]
        by_cases g2 : 6 < ((totS [] (fMs fs)).getD I (0, 0)).1
        · rw [if_pos (l6.2 g2), decide_eq_true (Or.inl g2)]
        · rw [if_neg (fun w => g2 (l6.1 w)), decide_eq_false (fun w => by rcases w with w | w; exact g2 w; omega)]
      · rw [if_neg g, decide_eq_true (by rw [b3] at g; split at m17 <;> omega)]
    rw [c21, bX_some]
    by_cases q2 : 6 < ((totS [] (fMs fs)).getD I (0, 0)).1 ∨ 12 < sumW 0 (fLast fs).2.2.1 + ((totS [] (fMs fs)).getD I (0, 0)).1
    · rw [decide_eq_true q2, if_pos rfl, if_pos q2, bX_some]
      exact fin 21 (by omega)
    · rw [decide_eq_false q2, if_neg (by decide), if_neg q2, rdI_e (by omega), Int.toNat_natCast, b2, w32_id (by omega)]
      have c22 : (if ¬ sumW 1 (fLast fs).2.2.1 = 0 then rdI 16 S 2016 (I : Int) fun v19 => if 16 < w32 v19 then some true else some false else some true) = some (decide (sumW 1 (fLast fs).2.2.1 = 0 ∨ 16 < sumW 1 (fLast fs).2.2.1)) := by
        by_cases g : sumW 1 (fLast fs).2.2.1 = 0
        · rw [if_neg (fun w => w g), decide_eq_true (Or.inl g)]
        · rw [if_pos g, rdI_e (by omega), Int.toNat_natCast, w32_gI, b2]
          by_cases g2 : 16 < sumW 1 (fLast fs).2.2.1
          · rw [if_pos g2, decide_eq_true (Or.inr g2)]
          · rw [if_neg g2, decide_eq_false (by omega)]
      rw [c22, bX_some]
      by_cases q3 : sumW 1 (fLast fs).2.2.1 = 0 ∨ 16 < sumW 1 (fLast fs).2.2.1
      · rw [decide_eq_true q3, if_pos rfl, if_pos q3, bX_some]
        exact fin 22 (by omega)
      · rw [decide_eq_false q3, if_neg (by decide), if_neg q3, bX_some, w32_0, if_neg (by decide), bX_some]
        exact WP_some.2 ⟨ChW.refl, Or.inl ⟨rfl, rfl⟩⟩
/-- a whole design is told -/
theorem m_tellDesign (t : TpM S u n) (hN : LstT u n N) (hNn : N ≤ n) {res : (List Row3 × List Fin0) ⊕ (Int × Int)} (hR : DsR u n res) : WP (mX23_tellDesign S) (fun y => ChL PLd QCt S y ∧ mDs u n N res y) := by
  rw [tdes_eq, wf_eq, wf_eq, wf_eq, wf_eq, wf_eq]
  generalize hw : sI (sI (sI (sI (sI S 2000 27 0) 2000 10 0) 2000 11 0) 2000 9 0) 2000 12 0 = w
  have cw : ChW (fun a i => a = 2000 ∧ (i = 27 ∨ i = 9 ∨ i = 10 ∨ i = 11 ∨ i = 12)) S w := by
    rw [← hw]
    exact ((((ChW.refl.sI ⟨rfl, by omega⟩).sI ⟨rfl, by omega⟩).sI ⟨rfl, by omega⟩).sI ⟨rfl, by omega⟩).sI ⟨rfl, by omega⟩
  have w27 : gI w 2000 27 = 0 := by rw [← hw, hI_sI_i (by decide), hI_sI_i (by decide), hI_sI_i (by decide), hI_sI_i (by decide), gI_sI_eq]; rfl
  have w10 : gI w 2000 10 = 0 := by rw [← hw, hI_sI_i (by decide), hI_sI_i (by decide), hI_sI_i (by decide), gI_sI_eq]; rfl
  have w9 : gI w 2000 9 = 0 := by rw [← hw, hI_sI_i (by decide), gI_sI_eq]; rfl
  have w12 : gI w 2000 12 = 0 := by rw [← hw, gI_sI_eq]; rfl
  have tw : TpM w u n := t.ch (ChL.ofW (Q := QCt) cw) (fun q => by omega) (fun i q => by omega)
  refine WP_call (m_cutTape tw hN hNn) (fun x hx => ?_)
  obtain ⟨x1, x2⟩ := hx
  have tx : MTk u n N x := ⟨x1, t.u, t.b, hNn, hN⟩
  have x27 : gI x 2000 27 = 0 := (x2.1 _ _ (fun q => by unfold PCt at q; omega)).trans w27
  have x10 : gI x 2000 10 = 0 := (x2.1 _ _ (fun q => by unfold PCt at q; omega)).trans w10
  have x9 : gI x 2000 9 = ((0 : Nat) : Int) := (x2.1 _ _ (fun q => by unfold PCt at q; omega)).trans w9
  have x12 : gI x 2000 12 = 0 := (x2.1 _ _ (fun q => by unfold PCt at q; omega)).trans w12
  have cx : ChL PLd QCt S x := ((ChL.refl.tr (ChL.ofW (Q := QCt) cw) (fun a i q => by
    by_cases e : i = 27
    · exact Or.inr (Or.inr ⟨q.1, e⟩)
    · exact Or.inr (Or.inl (Or.inl ⟨q.1, by omega⟩))) (fun _ _ q => q)).tr x2 (fun a i q => Or.inl q) (fun _ _ q => q))
  unfold mX23_readNext
  rw [x9, tx.k (by omega), tkK_id]
  have hb := t.b
  rcases hR with ⟨e1, e2⟩ | ⟨e1, m, a, e2, e3⟩
  · subst e2
    rw [if_pos e1]
    have c2 : ChW PF10 x (sI x 2000 10 1) := ChW.refl.sI ⟨rfl, Or.inl rfl⟩
    have ef : mX23_flaw x 1 ((0 : Nat) : Int) = some (sI (sI x 2000 10 1) 2000 11 (tkB u n 0 : Int)) := by
      unfold mX23_flaw
      rw [x10, if_pos (by decide), tx.k (by omega), tkK_id, if_pos e1, wf_eq, (tx.ch c2 PF10_tk).p (by omega), wf_eq, bX_some]
    have hbn := tkB_le (u := u) (n := n) 0
    rw [ef, bX_some, bX_some, bX_some]
    have c3 : ChW PF10 x (sI (sI x 2000 10 1) 2000 11 (tkB u n 0 : Int)) := c2.sI ⟨rfl, Or.inr rfl⟩
    have q3 : MsQ u n N (sI (sI x 2000 10 1) 2000 11 (tkB u n 0 : Int)) (.inr (1, (tkB u n 0 : Int))) := by
      refine ⟨?_, (show (1 : Int) ≠ 0 by decide), ?_, 0, by omega, ?_⟩
      · rw [hI_sI_i (by decide), gI_sI_eq]; rfl
      · rw [gI_sI_eq, w32_id (by omega)]
      · rw [hI_sI_i (by decide), hI_sI_i (by decide)]; exact x9
    generalize sI (sI x 2000 10 1) 2000 11 (tkB u n 0 : Int) = Y at c3 q3 ⊢
    have loop : lpF mX23_tellDesign_L33 Y = some Y := by
      refine WP.of (WP_lpF (fun s => s = Y) (fun _ => 0) rfl (by decide) (fun s hs => ?_))
      subst hs
      unfold mX23_tellDesign_L33
      rw [m_isRight q3, bX_some, bIf, okQ_f, if_neg (by decide), bX_some, if_neg (by decide)]
      exact WP_some.2 rfl
    rw [loop, bX_some, m_isRight q3, bX_some, bIf2, okQ_f, if_neg (by decide)]
    exact WP_some.2 ⟨cx.tr (ChL.ofW (Q := QCt) c3) (fun a i q => Or.inr (Or.inl (PDs_d a i (PF10_s a i q)))) (fun _ _ q => q), q3⟩
  · rw [if_neg e1, bX_some, bX_some]
    have C0 : CmF u n N [] x := ⟨⟨tx, x27, by show 0 ≤ 16; omega⟩, fun i hi => absurd hi (by show ¬ i < 0; omega), x12, fun i hi => absurd hi (by show ¬ i < 0; omega), fun i hi => absurd hi (by show ¬ i < 0; omega)⟩
    have hE : ∃ e, EnD u n a e ∧ res = match e with | none => (if fnD a.2.2 = 0 then .inl (a.2.1, a.2.2) else .inr (fnD a.2.2, (tkB u n (fLast a.2.2).1 : Int))) | some f => .inr f := by
      rcases e3 with ⟨x1, x2, x3⟩ | ⟨x1, f, x2, x3⟩
      · exact ⟨none, Or.inl ⟨x1, x2, rfl⟩, x3⟩
      · exact ⟨some f, Or.inr ⟨x1, f, x2, rfl⟩, x3⟩
    obtain ⟨e, hE, hres⟩ := hE
    refine WP_call (m_mods (a0 := (0, [], [])) C0 ⟨x10, x9, by omega, e1⟩ e2 hE) (fun y hy => ?_)
    obtain ⟨y1, y2⟩ := hy
    have cy : ChL PLd QCt S y := cx.tr (ChL.ofW (Q := QCt) y1) (fun a i q => Or.inr (Or.inl q)) (fun _ _ q => q)
    cases e with
    | some f =>
      have y2 : MsQ u n N y (.inr f) := y2
      rw [m_isRight y2, bX_some, bIf2, okQ_f, if_neg (by decide)]
      refine WP_some.2 ⟨cy, ?_⟩
      rw [hres]; exact y2
    | none =>
      obtain ⟨C1, q1⟩ := y2
      have hne : a.2.2 ≠ [] := by
        rcases hE with ⟨x1, _⟩ | ⟨_, f, _, x3⟩
        · exact x1
        · cases x3
      rw [m_isRight q1, bX_some, bIf2, show okQ (.inl a.1) = true from rfl, if_pos rfl]
      refine (m_final C1 q1 hne).mono (fun z hz => ?_)
      obtain ⟨z1, z2⟩ := hz
      refine ⟨cy.tr (ChL.ofW (Q := QCt) z1) (fun a i q => Or.inr (Or.inl (PDs_d a i (PF10_s a i q)))) (fun _ _ q => q), ?_⟩
      rcases z2 with ⟨z2, z3⟩ | ⟨z2, z3⟩
      · subst z3
        rw [hres]
        dsimp only
        rw [if_pos z2]
        exact ⟨C1, q1.1, hne⟩
      · rw [hres]
        dsimp only
        rw [if_neg z2]
        exact z3
end MDE
