/-! the reference tells designs: registers and next values -/
def mNz (p1 y4 : Int) (y9 : Sto) : Option Sto := bX (mX23_go y9) fun x10 => bX (mX23_sign x10 256) fun x11 => bX (mX23_isRight x11) fun x12 => bX (if ¬ w32 x12 = 0 then wrI 640 x11 2014 ((40 * p1) + y4) 1 fun S13 => some S13 else some x11) fun y14 => bX (mX23_expression y14) fun x15 => bX (mX23_isRight x15) fun x16 => bX (bX (if ¬ w32 x16 = 0 then rdI 1024 x15 2021 0 fun v17 => rdI 640 x15 2012 ((40 * p1) + y4) fun v18 => if ¬ w32 v17 = w32 v18 then some true else some false else some false) fun b => if b = true then bX (mX23_flawBefore x15 13 (gI x10 2000 9)) fun x19 => some x19 else some x15) fun y20 => bX (mX23_sign y20 59) fun x21 => some x21
def mNc (p1 : Int) (S : Sto) (y4 : Int) : Option Bool := if ¬ w32 y4 = (-1) then rdI 640 S 2011 ((40 * p1) + y4) fun v6 => if w32 v6 = 4 then rdZ 640 S 2014 ((40 * p1) + y4) fun v7 => if ¬ w32 v7 = 0 then some true else some false else some true else some true
section MRN
variable {S x z y : Sto} {u : Nat → Int} {n N M c : Nat} {fs : List Fin0} {ms : List Mdl} {cur m : Mdl} {gv : List Nat} {k : List Row3} {q : Qq} {j jn p d b fi : Nat} {s w v W : Int} {f : Int × Int}
theorem reg_eq2 {p1 : Int} : mX23_tellRegister S p1 = bX (mX23_go S) fun x1 => bX (mX23_newName x1 p1) fun x2 => bX (mX23_width x2) fun x3 => bX (mX23_isRight x3) fun x4 => bX (bX (if ¬ w32 x4 = 0 then bX (mX23_isAt x3 61) fun x5 => if ¬ w32 x5 = 0 then some true else some false else some false) fun b => if b = true then mRv x3 else some (0, x3)) fun y13 => bX (mX23_sign y13.2 59) fun x14 => bX (mX23_tell x14 p1 4 y13.1) fun x15 => some x15 := rfl
/-- the beginning of a register -/
theorem m_regV (t : MTk u n N S) (hq : MsQ u n N S (.inl b)) (hb : b < N) (h26 : gI S 2000 26 = w) (hw : 1 ≤ w ∧ w ≤ 8) :
    WP (mRv S) (fun y => ChW PG9 S y.2 ∧ MsQ u n N y.2 (bq (nxT u n b) (nuT u n 0 ((2 : Int) ^ w.toNat - 1))) ∧ (∀ c, bq (nxT u n b) (nuT u n 0 ((2 : Int) ^ w.toNat - 1)) = .inl c → y.1 = tkV u n (b + 1))) := by
  have hn := t.b; have he := t.e
  have hp := pw8 hw
  have pp : ∀ a i, PG9 a i → PG9 a i := fun _ _ q => q
  unfold mRv
  refine WP_call (m_go t hq (fun i e => by injection e with e; omega)) (fun x6 h6 => ?_)
  obtain ⟨a1, a2⟩ := h6
  have a1 : MsQ u n N x6 (nxT u n b) := a1
  refine WP_call (m_due (t.g9 a2) a1 (k := 2) (by omega)) (fun x h7 => ?_)
  obtain ⟨x7, x⟩ := x
  obtain ⟨h1, h2, h3, h4⟩ := h7
  dsimp only at h1 h2 h3 h4 ⊢
  have cx : ChW PG9 S x := a2.tr h2 PF10_G9
  have tx := t.g9 cx
  obtain ⟨i, i1, i2, i3⟩ := a1.ix
  have ex : x7 = (i : Int) := h3.trans i2
  subst ex
  rw [rdI_e (by omega), Int.toNat_natCast]
  have bad : ∀ {s : Sto} {f : Int × Int} {v : Int}, MsQ u n N s (.inr f) → ChW PG9 S s → WP (bX (mX23_go s) fun x12 => some (v, x12)) (fun y => ChW PG9 S y.2 ∧ MsQ u n N y.2 (.inr f) ∧ (∀ c, (.inr f : Qq) = .inl c → y.1 = tkV u n (b + 1))) := fun {s f v} s1 s2 =>
    WP_call (m_go (t.g9 s2) s1 (fun i e => by cases e)) (fun y hy => WP_some.2 ⟨s2.tr hy.2 pp, hy.1, fun c e => by cases e⟩)
  have wrong : ∀ {f : Int × Int}, MsQ u n N x (.inr f) → WP (bX (mX23_isRight x) fun x9 => bX (bX (if ¬ w32 x9 = 0 then if w32 (aShl 1 (gI x 2000 26)) ≤ w32 (gI x 2004 i) then some true else some false else some false) fun b => if b = true then bX (mX23_flaw x 12 (i : Int)) fun x10 => some x10 else some x) fun y11 => bX (mX23_go y11) fun x12 => some (gI x 2004 i, x12)) (fun y => ChW PG9 S y.2 ∧ MsQ u n N y.2 (.inr f) ∧ (∀ c, (.inr f : Qq) = .inl c → y.1 = tkV u n (b + 1))) := fun {f} s1 => by
    rw [m_isRight s1, bX_some, bIf, okQ_f, if_neg (by decide), bX_some, if_neg (by decide), bX_some]
    exact bad s1 cx
  cases hA : nxT u n b with
  | inr f =>
    rw [hA] at h1
    exact wrong (f := f) h1
  | inl a =>
    have ea : i = a := (i3 a hA).symm
    subst ea
    obtain ⟨n1, n2⟩ := nxT_ok hA
    rw [hA] at h1
    show WP _ (fun (y : Int × Sto) => ChW PG9 S y.2 ∧ MsQ u n N y.2 (nuT u n 0 ((2 : Int) ^ w.toNat - 1) i) ∧ (∀ c, nuT u n 0 ((2 : Int) ^ w.toNat - 1) i = .inl c → y.1 = tkV u n (b + 1)))
    by_cases k2 : tkK u n i = 2
    · have h1 : MsQ u n N x (.inl i) := by
        have : duT u n 2 (.inl i) = .inl i := if_pos k2
        rw [this] at h1; exact h1
      have vr := tK_2 (show tK u n (tkB u n i) = 2 from k2)
      have vr : 0 ≤ tkV u n i ∧ tkV u n i < 1000000 := vr.2
      have ev : gI x 2004 i = tkV u n i := (tx.s i (by omega)).2.2.1 (by show tkK u n i ≠ 4; omega)
      have x26 : gI x 2000 26 = w := by rw [cx.1 _ _ (fun q => by unfold PG9 at q; omega)]; exact h26
      rw [m_isRight h1, bX_some, bIf, show okQ (.inl i) = true from rfl, if_pos rfl, x26, hp.1, ev, w32_id (x := (2 : Int) ^ w.toNat) (by omega), w32_id (x := tkV u n i) (by omega)]
      have hlt2 : i < N := lt2 t.l k2 i1
      by_cases gg : 0 ≤ tkV u n i ∧ tkV u n i ≤ (2 : Int) ^ w.toNat - 1
      · have en : nuT u n 0 ((2 : Int) ^ w.toNat - 1) i = nxT u n i := by unfold nuT; rw [if_pos k2, if_pos gg]
        rw [if_neg (by omega), bX_some, if_neg (by decide), bX_some, en]
        refine WP_call (m_go tx h1 (fun k e => by injection e with e; omega)) (fun y hy => WP_some.2 ⟨cx.tr hy.2 pp, hy.1, fun c _ => by rw [n1]⟩)
      · have en : nuT u n 0 ((2 : Int) ^ w.toNat - 1) i = .inr (12, (tkB u n i : Int)) := by unfold nuT; rw [if_pos k2, if_neg gg]; rfl
        rw [if_pos (by omega), bX_some, if_pos rfl, en]
        refine WP_bX.2 (WP_call (m_flawAt tx h1 i1 (fun _ => by omega) (c := 12) (by omega)) (fun s hs => WP_some.2 ?_))
        exact bad hs.1 (cx.tr hs.2 PF10_G9)
    · have h1 : MsQ u n N x (.inr (2, (tkB u n i : Int))) := by
        have : duT u n 2 (.inl i) = flT u n 2 i := if_neg k2
        rw [this] at h1; exact h1
      have en : nuT u n 0 ((2 : Int) ^ w.toNat - 1) i = .inr (2, (tkB u n i : Int)) := by unfold nuT; rw [if_neg k2]; rfl
      rw [en]
      exact wrong h1
/-- a register -/
theorem m_reg (hC : CmI u n N fs cur gv S) (hq : MsQ u n N S (.inl j)) (hj : j < N) :
    WP (mX23_tellRegister S (fs.length : Int)) (fun y => ChW (PDm fs.length) S y ∧ MItO u n N fs (oB (rgD u n cur j) (fun t => .inl (t.1, k, cur ++ [(j + 1, 3, t.2.1, t.2.2)], gv, [(cur.length : Int)]))) y) := by
  rw [reg_eq2]
  refine m_hd hC hq hj (K := fun x3 => bX (mX23_isRight x3) fun x4 => bX (bX (if ¬ w32 x4 = 0 then bX (mX23_isAt x3 61) fun x5 => if ¬ w32 x5 = 0 then some true else some false else some false) fun b => if b = true then mRv x3 else some (0, x3)) fun y13 => bX (mX23_sign y13.2 59) fun x14 => bX (mX23_tell x14 (fs.length : Int) 4 y13.1) fun x15 => some x15) (fun y f e1 e2 e3 e4 => ?_) (fun y t e1 e2 e3 e4 e5 e6 => ?_)
  · rw [m_isRight e2, bX_some, bIf, okQ_f, if_neg (by decide), bX_some, if_neg (by decide), bX_some]
    refine (m_endF e4 e2).mono (fun z hz => ⟨ChW.refl.tr (e3.tr hz.1 (fun _ _ q => q)) PDs_m, ?_⟩)
    unfold rgD
    rw [e1]; exact hz.2
  · obtain ⟨n1, n2, n3, n4, n5, n6, n7, n8, n9, n10⟩ := hdD_ok hC.t.l e1 hj
    have hl := e4.r.2.2.1.1.1
    have hp := pw8 n9
    rw [m_isRight e2, bX_some, bIf, show okQ (.inl t.1) = true from rfl, if_pos rfl, m_isAt e4.t n7 e2.2.1 (by omega), bX_some, bIf]
    by_cases g : isS u n 61 t.1 = true
    · have hlt : t.1 < N := lt3 hC.t.l (isS_K g) n7
      rw [if_pos g, bX_some, if_pos rfl]
      refine WP_call (m_regV e4.t e2 hlt e6 n9) (fun x hx => ?_)
      obtain ⟨x1, x2, x3⟩ := hx
      have cx : ChW PDs y x.2 := ChW.refl.tr x1 PG9_s
      have eR : rgD u n cur j = oB (bq (nxT u n t.1) (nuT u n 0 ((2 : Int) ^ t.2.toNat - 1))) (fun c => oB (tkT u n 59 (.inl c)) fun e => .inl (e, t.2, tkV u n (t.1 + 1))) := by
        unfold rgD rgV
        rw [e1, oB_l, if_pos g]
        cases hA : nxT u n t.1 with
        | inr f => rfl
        | inl a =>
          obtain ⟨a1, _⟩ := nxT_ok hA
          subst a1
          rw [oB_l]
          show _ = oB (nuT u n 0 ((2 : Int) ^ t.2.toNat - 1) (t.1 + 1)) _
          cases nuT u n 0 ((2 : Int) ^ t.2.toNat - 1) (t.1 + 1) with
          | inr f => rfl
          | inl c => rfl
      rw [eR]
      cases hA : bq (nxT u n t.1) (nuT u n 0 ((2 : Int) ^ t.2.toNat - 1)) with
      | inr f =>
        rw [hA] at x2
        exact (m_endF (e4.t.pd cx) x2).mono (fun z hz => ⟨ChW.refl.tr ((e3.tr cx (fun _ _ q => q)).tr hz.1 (fun _ _ q => q)) PDs_m, hz.2⟩)
      | inl c =>
        rw [hA] at x2
        obtain ⟨a, q1, q2⟩ := bq_inl hA
        obtain ⟨a1, a2⟩ := nxT_ok q1
        subst a1
        obtain ⟨d1, d2, d3, d4, d5⟩ := nuT_ok q2
        have ev := x3 c hA
        refine (m_end7 (k := k) (e4.ch cx) x2 n3 (by omega) (by omega) (s := 3) (w := t.2) (v := x.1) (by omega) (by rw [x1.1 _ _ (fun w => by unfold PG9 at w; omega)]; exact e6) (by omega) (by rw [x1.1 _ _ (fun w => by unfold PG9 at w; omega)]; exact e5) (by rw [ev]; omega) ⟨by show (0 : Int) ≤ 3 ∧ (3 : Int) ≤ 4; omega, fun _ => n9, fun q => by have q : (3 : Int) = 4 := q; omega⟩ [(cur.length : Int)]).mono (fun z hz => ⟨((ChW.refl.tr e3 PDs_m).tr cx PDs_m).tr hz.1 (fun _ _ q => q), ?_⟩)
        have hz2 := hz.2
        rw [oB_l]
        rw [ev] at hz2
        cases hT : tkT u n 59 (.inl c) with
        | inr f => rw [hT] at hz2; exact hz2
        | inl e => rw [hT] at hz2; exact hz2
    · rw [if_neg g, bX_some, if_neg (by decide), bX_some]
      refine (m_end7 (k := k) e4 e2 n3 (by omega) (by omega) (s := 3) (w := t.2) (v := 0) (by omega) e6 (by omega) e5 (by omega) ⟨by show (0 : Int) ≤ 3 ∧ (3 : Int) ≤ 4; omega, fun _ => n9, fun q => by have q : (3 : Int) = 4 := q; omega⟩ [(cur.length : Int)]).mono (fun z hz => ⟨(ChW.refl.tr e3 PDs_m).tr hz.1 (fun _ _ q => q), ?_⟩)
      have hz2 := hz.2
      unfold rgD rgV
      rw [e1, oB_l, if_neg g, oB_l]
      cases hT : tkT u n 59 (.inl t.1) with
      | inr f => rw [hT] at hz2; exact hz2
      | inl e => rw [hT] at hz2; exact hz2
theorem next_eq3 {p1 : Int} : mX23_tellNext S p1 = bX (mX23_due S 1) fun x1 => bX (mX23_isRight x1.2) fun x2 => bX (if ¬ w32 x2 = 0 then bX (mX23_nameOf x1.2 p1 x1.1) fun x3 => some x3 else some (-1)) fun y4 => bX (mX23_isRight x1.2) fun x5 => bX (bX (if ¬ w32 x5 = 0 then mNc p1 x1.2 y4 else some false) fun b => if b = true then bX (mX23_flaw x1.2 11 x1.1) fun x8 => some x8 else some x1.2) fun y9 => mNz p1 y4 y9 := rfl
theorem mNz_f {p1 y4 : Int} (t : MTk u n N S) (hq : MsQ u n N S (.inr f)) : WP (mNz p1 y4 S) (fun y => ChW PDs S y ∧ MsQ u n N y (.inr f)) := by
  unfold mNz
  refine WP_call (m_go t hq (fun i e => by cases e)) (fun x10 h10 => ?_)
  have c10 : ChW PDs S x10 := ChW.refl.tr h10.2 PG9_s
  refine WP_call (m_sign (t.pd c10) h10.1 (c := 256) (by omega)) (fun x11 h11 => ?_)
  have q11 : MsQ u n N x11 (.inr f) := h11.1
  have c11 : ChW PDs S x11 := c10.tr h11.2 PG9_s
  rw [m_isRight q11, bX_some, bIf, okQ_f, if_neg (by decide), bX_some]
  refine WP_call (m_exprF q11) (fun x5 h5 => ?_)
  rw [m_chkF h5.2 (A := fun x15 => rdI 1024 x15 2021 0 fun v17 => rdI 640 x15 2012 ((40 * p1) + y4) fun v18 => if ¬ w32 v17 = w32 v18 then some true else some false) (B := fun x15 => bX (mX23_flawBefore x15 13 (gI x10 2000 9)) fun x19 => some x19)]
  have c5 : ChW PDs S x5 := c11.tr h5.1 PAQ_s
  refine WP_call (m_sign (t.pd c5) h5.2 (c := 59) (by omega)) (fun x21 h21 => WP_some.2 ⟨c5.tr h21.2 PG9_s, h21.1⟩)
/-- a register's next value is marked -/
theorem CmI.mark (hC : CmI u n N fs cur gv S) (hfi : fi < cur.length) : CmI u n N fs cur (gv ++ [fi]) (sI S 2014 (40 * fs.length + fi) 1) ∧ ChW (PDm fs.length) S (sI S 2014 (40 * fs.length + fi) 1) := by
  generalize hz : sI S 2014 (40 * fs.length + fi) 1 = z
  have g : ChW (fun a i => a = 2014 ∧ i = 40 * fs.length + fi) S z := by rw [← hz]; exact ChW.refl.sI ⟨rfl, rfl⟩
  refine ⟨?_, ChW.refl.tr g (fun a i w => Or.inr (Or.inr (Or.inl ⟨by omega, by omega⟩)))⟩
  obtain ⟨⟨h1, h2, h3⟩, ⟨h4, h5, h6, h6b⟩, h7, h8, h9, h10⟩ := hC
  have e : ∀ a i, a ≠ 2014 → gI z a i = gI S a i := fun a i q => g.1 _ _ (fun w => q w.1)
  refine ⟨⟨h1.ch g (fun a i q1 q2 w => by omega), h2.ch g (fun a i w => by omega), (e _ _ (by omega)).trans h3⟩, ⟨h4.cg (fun a q1 q2 => e _ _ (by omega)), fun i hi => ?_, h6, fun i hi => ?_⟩, fun i hi => (h7 i hi).cg (fun a q1 q2 => e _ _ (by omega)), (e _ _ (by omega)).trans h8, fun i hi => ⟨(e _ _ (by omega)).trans (h9 i hi).1, (e _ _ (by omega)).trans (h9 i hi).2⟩, h10⟩
  · by_cases q : i = fi
    · subst q
      rw [← hz, gI_sI_eq, if_pos (ct_app.2 (Or.inr rfl))]; rfl
    · rw [g.1 _ _ (fun w => by omega), h5 i hi]
      by_cases q2 : gv.contains i = true
      · rw [if_pos q2, if_pos (ct_app.2 (Or.inl q2))]
      · rw [if_neg q2, if_neg (fun w => by rcases ct_app.1 w with w | w; exact q2 w; exact q w)]
  · rcases ct_app.1 hi with q | q
    · exact h6b i q
    · rw [q]; exact hfi
theorem mNc_e (hC : CmI u n N fs cur gv S) : mNc (fs.length : Int) S (if inNm u n (mTk cur) j = true then (fiN u n (mTk cur) j : Int) else -1) = some (!(nkD u n cur gv j)) := by
  have hb := hC.b
  have hl := hC.r.2.2.1.1.1
  have hM := hC.r.1.1
  have h5 := hC.2.1.2.1
  unfold mNc nkD
  by_cases e : inNm u n (mTk cur) j = true
  · have hlt := fi_lt e
    obtain ⟨s1, s2, s3, s4⟩ := hM.2 _ hlt
    have ei : ((40 : Int) * (fs.length : Int) + (fiN u n (mTk cur) j : Int)) = ((40 * fs.length + fiN u n (mTk cur) j : Nat) : Int) := by omega
    have hno := hC.r.2.2.1.1.2 _ hlt
    rw [if_pos e, e, w32_id (by omega), if_pos (by omega), ei, rdI_e (by omega), Int.toNat_natCast, s2, w32_id (by unfold NmOk at hno; omega)]
    by_cases e3 : (cur.getD (fiN u n (mTk cur) j) nm0).2.1 = 3
    · rw [if_pos (by omega), rdZ_e (by omega), Int.toNat_natCast, h5 _ hlt, decide_eq_true e3]
      cases gv.contains (fiN u n (mTk cur) j) <;> rfl
    · rw [if_neg (by omega), decide_eq_false e3]; rfl
  · rw [if_neg e, bool_f e]; rfl
/-- a next value -/
theorem m_next7 (hC : CmI u n N fs cur gv S) (hq : MsQ u n N S (.inl j)) (hj : j ≤ N) {r : (Nat × List Row3) ⊕ (Int × Int)} (hR : neR u n (fMs fs) cur gv j k r) :
    WP (mX23_tellNext S (fs.length : Int)) (fun y => ChW (PDm fs.length) S y ∧ MItO u n N fs (oB r (fun t => .inl (t.1, t.2, cur, gv ++ [fiN u n (mTk cur) j], [-1 - (fiN u n (mTk cur) j : Int)]))) y) := by
  have hb := hC.b
  have hl := hC.r.2.2.1.1.1
  rw [next_eq3]
  refine WP_call (m_due hC.t hq (k := 1) (by omega)) (fun x h1 => ?_)
  obtain ⟨x1, x⟩ := x
  obtain ⟨a1, a2, a3, a4⟩ := h1
  dsimp only at a1 a2 a3 a4 ⊢
  have ex : x1 = (j : Int) := a3.trans hq.2.1
  subst ex
  have cx : ChW PDs S x := ChW.refl.tr a2 PF10_s
  have CX := hC.ch cx
  have fin : ∀ {y : Sto} {f : Int × Int} {y4 : Int}, MsQ u n N y (.inr f) → ChW PDs S y → r = .inr f → WP (mNz (fs.length : Int) y4 y) (fun y => ChW (PDm fs.length) S y ∧ MItO u n N fs (oB r (fun t => .inl (t.1, t.2, cur, gv ++ [fiN u n (mTk cur) j], [-1 - (fiN u n (mTk cur) j : Int)]))) y) := fun {y f y4} e1 e2 e3 => by
    refine (mNz_f (hC.t.pd e2) e1).mono (fun z hz => ⟨ChW.refl.tr (e2.tr hz.1 (fun _ _ q => q)) PDs_m, ?_⟩)
    rw [e3]; exact hz.2
  by_cases k1 : tkK u n j = 1
  · have a1 : MsQ u n N x (.inl j) := by
      have : duT u n 1 (.inl j) = .inl j := if_pos k1
      rw [this] at a1; exact a1
    have hlt : j < N := lt1 hC.t.l k1 hj
    rw [m_isRight a1, bX_some, bIf, show okQ (.inl j) = true from rfl, if_pos rfl]
    refine WP_bX.2 (WP_call (m_nameOf CX.t CX.r.1.1 hb hl CX.r.2.2.1.2 hj k1) (fun y4 hy4 => WP_some.2 ?_))
    subst hy4
    rw [bX_some, bIf, if_pos rfl, mNc_e CX, bX_some]
    by_cases g : nkD u n cur gv j = true
    · obtain ⟨hin, h3, _⟩ := nkD_ok g
      have hfi := fi_lt hin
      have eH : neH u n cur gv j = nxT u n j := by unfold neH; rw [if_pos k1, if_pos g]
      rw [g, if_pos hin]
      show WP (bX (if false = true then _ else some x) _) _
      rw [if_neg (by decide), bX_some]
      generalize hfiv : fiN u n (mTk cur) j = fi at hfi ⊢
      have ei : ((40 : Int) * (fs.length : Int) + (fi : Int)) = ((40 * fs.length + fi : Nat) : Int) := by omega
      unfold mNz
      refine WP_call (m_go CX.t a1 (fun i e => by injection e with e; omega)) (fun x10 h10 => ?_)
      obtain ⟨b1, b2⟩ := h10
      have b1 : MsQ u n N x10 (nxT u n j) := b1
      have c10 : ChW PDs S x10 := cx.tr b2 PG9_s
      have C10 := hC.ch c10
      refine WP_call (m_sign C10.t b1 (c := 256) (by omega)) (fun x11 h11 => ?_)
      obtain ⟨d1, d2⟩ := h11
      have c11 : ChW PDs S x11 := c10.tr d2 PG9_s
      have C11 := hC.ch c11
      -- behind a fault
      have tailF : ∀ {x11 : Sto} {f : Int × Int}, MsQ u n N x11 (.inr f) → ChW PDs S x11 → r = .inr f → WP (bX (mX23_isRight x11) fun x12 => bX (if ¬ w32 x12 = 0 then wrI 640 x11 2014 ((40 * (fs.length : Int)) + (fi : Int)) 1 fun S13 => some S13 else some x11) fun y14 => bX (mX23_expression y14) fun x15 => bX (mX23_isRight x15) fun x16 => bX (bX (if ¬ w32 x16 = 0 then rdI 1024 x15 2021 0 fun v17 => rdI 640 x15 2012 ((40 * (fs.length : Int)) + (fi : Int)) fun v18 => if ¬ w32 v17 = w32 v18 then some true else some false else some false) fun b => if b = true then bX (mX23_flawBefore x15 13 (gI x10 2000 9)) fun x19 => some x19 else some x15) fun y20 => bX (mX23_sign y20 59) fun x21 => some x21) (fun y => ChW (PDm fs.length) S y ∧ MItO u n N fs (oB r (fun t => .inl (t.1, t.2, cur, gv ++ [fi], [-1 - (fi : Int)]))) y) := fun {x11 f} q11 c11 er => by
        rw [m_isRight q11, bX_some, bIf, okQ_f, if_neg (by decide), bX_some]
        refine WP_call (m_exprF q11) (fun x5 h5 => ?_)
        rw [m_chkF h5.2 (A := fun x15 => rdI 1024 x15 2021 0 fun v17 => rdI 640 x15 2012 ((40 * (fs.length : Int)) + (fi : Int)) fun v18 => if ¬ w32 v17 = w32 v18 then some true else some false) (B := fun x15 => bX (mX23_flawBefore x15 13 (gI x10 2000 9)) fun x19 => some x19)]
        have c5 : ChW PDs S x5 := c11.tr h5.1 PAQ_s
        refine WP_call (m_sign (hC.t.pd c5) h5.2 (c := 59) (by omega)) (fun x21 h21 => WP_some.2 ⟨ChW.refl.tr (c5.tr h21.2 PG9_s) PDs_m, ?_⟩)
        rw [er]; exact h21.1
      rcases hR with ⟨f', h1, h2⟩ | ⟨bb, h1, hG⟩
      · rw [eH] at h1
        rw [h1] at d1
        exact tailF d1 c11 h2
      · rw [eH] at h1
        rw [h1] at b1 d1
        obtain ⟨r2, hB, hr⟩ := hG
        rcases hB with ⟨f, g1, g2⟩ | ⟨c, g1, g2⟩
        · rw [g1] at d1
          subst g2
          exact tailF d1 c11 hr
        · rw [g1] at d1
          have h9 : gI x10 2000 9 = (bb : Int) := b1.2.1
          have hbN : bb ≤ N := b1.2.2.1
          rw [m_isRight d1, bX_some, bIf, show okQ (.inl c) = true from rfl, if_pos rfl, ei, wrI_e (by omega), Int.toNat_natCast, bX_some, h9]
          obtain ⟨CM, cM⟩ := C11.mark hfi
          have d1 : MsQ u n N (sI x11 2014 (40 * fs.length + fi) 1) (.inl c) := d1.cg (fun i _ _ => hI_sI_a (by omega))
          generalize sI x11 2014 (40 * fs.length + fi) 1 = Y at CM cM d1 ⊢
          have cSM : ChW (PDm fs.length) S Y := (ChW.refl.tr c11 PDs_m).tr cM (fun _ _ q => q)
          rw [hfiv] at g2
          refine m_exW (A := fun x15 => rdI 1024 x15 2021 0 fun v17 => rdI 640 x15 2012 ((40 * fs.length + fi : Nat) : Int) fun v18 => if ¬ w32 v17 = w32 v18 then some true else some false) (fs := fs) CM.t CM.m CM.r d1 hbN g2 (fun y' w' cy' h21 hw' => ?_) (fun x5 f e q5 c5 => ?_) (fun x5 d k' e q5 c5 => ?_)
          · have e12 : gI y' 2012 (40 * fs.length + fi) = (cur.getD fi nm0).2.2.1 := (CM.ch cy').r.1.1.2 fi hfi |>.2.2.1
            have hwf := hC.2.1.2.2.1 fi hfi
            rw [rdI_e (by omega), show (0 : Int).toNat = 0 from rfl, h21, rdI_e (by omega), Int.toNat_natCast, e12, w32_id (x := w') (by omega), w32_id (by omega)]
            by_cases q : w' = (cur.getD fi nm0).2.2.1
            · rw [if_neg (fun z => z q), decide_eq_false (fun z => z q)]
            · rw [if_pos q, decide_eq_true q]
          · subst e
            refine WP_call (m_sign (CM.t.pd c5) q5 (c := 59) (by omega)) (fun x21 h21 => WP_some.2 ⟨cSM.tr (c5.tr h21.2 PG9_s) PDs_m, ?_⟩)
            rw [hr]; exact h21.1
          · subst e
            refine WP_call (m_sign (CM.t.pd c5) q5 (c := 59) (by omega)) (fun x21 h21 => WP_some.2 ⟨cSM.tr (c5.tr h21.2 PG9_s) PDs_m, ?_⟩)
            have h211 := h21.1
            rw [hr, oB_l]
            cases hT : tkT u n 59 (.inl d) with
            | inr f => rw [hT] at h211; exact h211
            | inl e => rw [hT] at h211; exact ⟨h211, CM.ch (c5.tr h21.2 PG9_s)⟩
    · rw [bool_f g]
      show WP (bX (if true = true then _ else some x) _) _
      rw [if_pos rfl]
      refine WP_bX.2 (WP_call (m_flawAt CX.t a1 hj (fun _ => by omega) (c := 11) (by omega)) (fun z hz => WP_some.2 ?_))
      have z1 : MsQ u n N z (.inr (11, (tkB u n j : Int))) := hz.1
      refine fin z1 (cx.tr hz.2 PF10_s) ?_
      have eH : neH u n cur gv j = .inr (11, (tkB u n j : Int)) := by unfold neH; rw [if_pos k1, if_neg g]; rfl
      rcases hR with ⟨f', h1, h2⟩ | ⟨bb, h1, _⟩
      · rw [eH] at h1; injection h1 with h1; rw [h2, ← h1]
      · rw [eH] at h1; cases h1
  · have a1 : MsQ u n N x (.inr (2, (tkB u n j : Int))) := by
      have : duT u n 1 (.inl j) = flT u n 2 j := if_neg k1
      rw [this] at a1; exact a1
    rw [m_isRight a1, bX_some, bIf, okQ_f, if_neg (by decide), bX_some, bX_some, bIf, if_neg (by decide), bX_some, if_neg (by decide), bX_some]
    refine fin a1 cx ?_
    have eH : neH u n cur gv j = .inr (2, (tkB u n j : Int)) := by unfold neH; rw [if_neg k1]; rfl
    rcases hR with ⟨f', h1, h2⟩ | ⟨bb, h1, _⟩
    · rw [eH] at h1; injection h1 with h1; rw [h2, ← h1]
    · rw [eH] at h1; cases h1
end MRN
