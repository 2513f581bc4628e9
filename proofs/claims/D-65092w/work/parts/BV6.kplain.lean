/-! the class reads items: inputs, values, registers -/
def IOut (u : Nat → Int) (n N : Nat) (fs : List Fin0) (its : List Itm) (S0 : Sto) (kl : Nat) (res : RIt ⊕ (Int × Int)) (y : Sto) : Prop := match res with
  | .inl r => CtI u n N fs r.2.2.1 r.2.2.2.1 (its ++ r.2.2.2.2.map (fun x => (x, kl, r.2.1.length))) S0 y ∧ ScQ u n y 4 (.inl r.1) ∧ RwK y 170 (flat3 r.2.1) ∧ gI y 4 10 = 0 ∧ r.1 ≤ N ∧ r.2.1.length ≤ r.1
  | .inr f => ScQ u n y 4 (.inr f) ∧ okCap (gI y 170 2)
def kPt (p1 w v fr : Int) (z : Sto) : Option Sto := bX (mX3_take z 4 59) fun x13 => bX (mX3_ok x13 4) fun x14 => if w32 x14 = 0 then some x13 else gk (gR x13 3 5) 7 fun g15 => bX (mX7_tell x13 g15 p1 w v) fun x16 => bX (if ¬ w32 p1 = 0 then gk (gR x16.2 3 5) 7 fun g17 => bX (mX7_item x16.2 g17 x16.1 fr (gI x16.2 170 1)) fun x18 => some x18 else some x16.2) fun y19 => some y19
def kMi (p1 w : Int) (y : Sto) : Option (Int × Int × Sto) := bX (if w32 p1 = 3 then bX (mX3_is y 4 61) fun x4 => if ¬ w32 x4 = 0 then some true else some false else some false) fun b => if b = true then bX (mX3_next y 4) fun x5 => bX (mX2_number x5 0 ((aShl 1 w) - 1)) fun x6 => some (x6.1, gI y 170 1, x6.2) else bX (if ¬ w32 p1 = 1 then if w32 p1 = 2 then some true else some false else some true) fun b => if b = true then bX (mX3_is y 4 61) fun x7 => bX (mX3_must y 4 x7) fun x8 => bX (mX3_ok x8 4) fun x9 => bX (if ¬ w32 x9 = 0 then bX (mX2_given x8 w) fun x10 => some (x10.1, x10.2) else some (0, x8)) fun y11 => some (0, y11.1, y11.2) else some (0, gI y 170 1, y)
section KPL
variable {S S0 x z y : Sto} {u : Nat → Int} {n N M : Nat} {fs : List Fin0} {ms : List Mdl} {cur m : Mdl} {gv : List Nat} {its its' : List Itm} {k k' : List Row3} {j b jn kl : Nat} {s w v fr : Int}
theorem CtD.cgM (h : CtD u n N ms cur S0 S) (g : ChIt (9 + 10 * ms.length) S z) (e : ∀ a i, 9 + 10 * ms.length + 1 ≤ a → a ≤ 9 + 10 * ms.length + 6 → gI z a i = gI S a i) : CtD u n N ms cur S0 z := by
  obtain ⟨h1, h2, h3, h4, h5, h6, h7⟩ := h
  have hm := h3.2
  have e2 : ∀ a i, a ≠ 4 → a < 9 + 10 * ms.length → gI z a i = gI S a i := fun a i q1 q2 => g.1 a i (by omega) (by omega) (fun w => by unfold PDx at w; omega) (by omega)
  exact ⟨h1.cg (g.2.2.1 _ _ (by omega)) (g.1 _ _ (by omega) (by omega) (fun w => by unfold PDx at w; omega) (by omega)) (fun i => e2 _ _ (by omega) (by omega)), h2, ⟨(g.2.2.1 _ _ (by omega)).trans h3.1, h3.2⟩, ⟨h4.1.cg e, h4.2⟩, fun i hi => ⟨(h5 i hi).1.cg (fun a i q1 q2 => e2 a i (by omega) (by omega)), (h5 i hi).2⟩, h6, h7.tr g.2.2.2⟩
theorem MdX.item {rg ins : Int} (h : MdX S M m its rg ins) (r : RwK z (M + 8) (flat3 (fIt its'))) (g : ChW (PIm M) S z) : MdX z M m its' rg ins := by
  obtain ⟨h1, h2, h3, h4, h5, h6⟩ := h
  have p : ∀ i, gI z M i = gI S M i := fun i => g.1 _ _ (fun w => by unfold PIm at w; omega)
  refine ⟨r, ?_, ?_, ?_, ?_, ?_⟩
  · rw [p]; exact h2
  · rw [p]; exact h3
  · rw [p]; exact h4
  · rw [p]; exact h5
  · rw [p]; exact h6
theorem PTl_i {c : Nat} (hM : M ≤ 160) : ∀ a i, PTl M c a i → PDx a i ∨ (M ≤ a ∧ a ≤ M + 9 ∧ a ≤ 169 ∧ (a ≠ M + 8 ∨ i = 1)) := fun a i w => by
  unfold PTl at w
  omega
theorem PIm_i (hM : M ≤ 160) : ∀ a i, PIm M a i → PDx a i ∨ (M ≤ a ∧ a ≤ M + 9 ∧ a ≤ 169 ∧ (a ≠ M + 8 ∨ i = 1)) := fun a i w => by
  unfold PIm at w
  omega
theorem RwK.i {l : List Int} {P : Nat → Nat → Prop} (h : RwK S 170 l) (g : ChW P S z) (e : ∀ a i, P a i → a ≠ 170 ∧ a ≠ 171) : RwK z 170 l := h.x (g.1 _ _ (fun w => (e _ _ w).1 rfl)) (g.1 _ _ (fun w => (e _ _ w).1 rfl)) (fun i => g.1 _ _ (fun w => (e _ _ w).2 rfl))
/-- behind a fault: nothing but the semicolon -/
theorem k_pt_f {f : Int × Int} (t : TpK z 4 u n) (hq : ScQ u n z 4 (.inr f)) (hc : okCap (gI z 170 2)) : WP (kPt s w v fr z) (fun y => ChIt M z y ∧ ScQ u n y 4 (.inr f) ∧ okCap (gI y 170 2)) := by
  unfold kPt
  refine WP_call (k_take3 t hq (by decide)) (fun y hy => ?_)
  obtain ⟨y1, y2⟩ := hy
  have y1 : ScQ u n y 4 (.inr f) := y1
  rw [k_ok y1, bX_some, bIf2, okQ_f, if_neg (by decide)]
  refine WP_some.2 ⟨(ChXd.refl.p y2).i, y1, ?_⟩
  rw [y2.1 _ _ (fun q => by unfold PSc at q; omega)]; exact hc
/-- a name is told and its item is kept -/
theorem k_pt (hC : CtI u n N fs cur gv its S0 z) (hq : ScQ u n z 4 (.inl b)) (hb : b ≤ N) (hE : NmE u n z (9 + 10 * fs.length + 1) cur.length jn) (hk1 : tkK u n jn = 1) (hin : inNm u n (mTk cur) jn = false) (hc : cur.length < 40) (hs : 0 ≤ s ∧ s ≤ 3) (hw : 1 ≤ w ∧ w ≤ 8) (hv : 0 ≤ v ∧ v < 256) (hR : RwK z 170 (flat3 k')) (hl : k'.length ≤ b) (h10 : gI z 4 10 = 0) (hfr : fr = ((3 * kl : Nat) : Int)) (hkl : kl ≤ 10000) :
    WP (kPt s w v fr z) (fun y => ChIt (9 + 10 * fs.length) z y ∧ IOut u n N fs its S0 kl (oB (tkT u n 59 (.inl b)) (fun e => .inl (e, k', cur ++ [(jn, s, w, v)], gv, if s = 0 then [] else [(cur.length : Int)]))) y) := by
  have hfs := hC.b
  have hn := hC.d.t.b
  have hNn : N ≤ n := by
    have := hC.d.l
    exact Classical.byContradiction (fun q => by
      have h1 := tkB_ge (u := u) (n := n) N (fun i hi => (this.1 i hi).2)
      have h2 := tkB_le (u := u) (n := n) N
      omega)
  unfold kPt
  refine WP_call (k_take3 hC.d.t hq (by decide)) (fun x hx => ?_)
  obtain ⟨a1, a2⟩ := hx
  have kx := hR.p a2
  cases hA : tkT u n 59 (.inl b) with
  | inr f =>
    rw [hA] at a1
    rw [k_ok a1, bX_some, bIf2, okQ_f, if_neg (by decide)]
    exact WP_some.2 ⟨(ChXd.refl.p a2).i, a1, kx.2.2.1⟩
  | inl e =>
    rw [hA] at a1
    obtain ⟨e1, e2, e3⟩ := tkT_ok hA
    have hlt : b < N := lt3 hC.d.l e3 hb
    have cx := hC.x (ChXd.refl.p a2)
    obtain ⟨c1, ⟨c2, c3, c4, c5⟩, c6⟩ := cx
    have eM : 9 + 10 * fs.length = 9 + 10 * (fMs fs).length := by rw [fMs_len]
    rw [k_ok a1, bX_some, bIf2, show okQ (.inl e) = true from rfl, if_pos rfl, c1.r.1, fMs_len, gk_M hfs]
    have hEx : NmE u n x (9 + 10 * fs.length + 1) cur.length jn := hE.cg (a2.1 _ _ (fun q => by unfold PSc at q; omega)) (fun t => a2.1 _ _ (fun q => by unfold PSc at q; omega))
    refine WP_call (k_told7 (by rw [fMs_len]; exact hfs) eM c1 c2 c3 c4 c5 hEx hk1 hin hc (s := s) (w := w) (v := v) ⟨by show 0 ≤ s ∧ s ≤ 4; omega, fun _ => hw, fun q => by have q : s = 4 := q; omega⟩ (by omega) (by omega)) (fun y hy => ?_)
    obtain ⟨y1, y2, y3, y4, y5, y6, y7, y8⟩ := hy
    have ey : ChIt (9 + 10 * fs.length) z y.2 := (ChXd.i (ChXd.refl.p a2)).tr (y2.i (PTl_i (by omega)))
    have erg : rgT (totS [] (fMs fs)) (cur ++ [(jn, s, w, v)]) = rgT (totS [] (fMs fs)) cur + if s = 3 then w else 0 := by
      rw [rgT_app]
      show _ + (if s = 3 then w else if s = 4 then _ else 0) = _
      by_cases q : s = 3
      · rw [if_pos q, if_pos q]
      · rw [if_neg q, if_neg q, if_neg (show ¬ s = 4 by omega)]
    have ein : inT (totS [] (fMs fs)) (cur ++ [(jn, s, w, v)]) = inT (totS [] (fMs fs)) cur := by
      rw [inT_app]
      show _ + (if s = 4 then _ else (0 : Int)) = _
      rw [if_neg (show ¬ s = 4 by omega), Int.add_zero]
    have sy : ScQ u n y.2 4 (.inl e) := a1.ch y2 (fun i q1 q2 w => by unfold PTl at w; omega)
    have ky : RwK y.2 170 (flat3 k') := kx.i y2 (fun a i w => by unfold PTl at w; omega)
    have h10y : gI y.2 4 10 = 0 := by rw [y2.1 _ _ (fun w => by unfold PTl at w; omega), a2.1 _ _ (fun q => by unfold PSc at q; omega)]; exact h10
    have oy := hC.oth ey
    by_cases q : s = 0
    · rw [w32_id (x := s) (by omega), if_neg (fun g => g q), bX_some]
      refine WP_some.2 ⟨ey, ⟨y3, ⟨?_, y5, y6, ?_⟩, oy⟩, sy, ky, h10y, by show e ≤ N; omega, by show k'.length ≤ e; omega⟩
      · show MdX y.2 _ _ (its ++ (if s = 0 then [] else [(cur.length : Int)]).map _) _ _
        rw [if_pos q, erg, ein]
        show MdX y.2 _ _ (its ++ []) _ _
        rw [List.append_nil]; exact y4
      · show ItN _ gv (its ++ (if s = 0 then [] else [(cur.length : Int)]).map _)
        rw [if_pos q]
        show ItN _ gv (its ++ [])
        rw [List.append_nil]
        refine ⟨?_, fun g hg => ?_⟩
        · rw [List.length_append] at y7 ⊢
          have : ([(jn, s, w, v)] : Mdl).length = 1 := rfl
          omega
        · have := y8 g hg
          rw [List.length_append]; omega
    · rw [w32_id (x := s) (by omega), if_pos q, y3.r.1, fMs_len, gk_M hfs, y1, hfr]
      have kl3 : gI y.2 170 1 = ((3 * k'.length : Nat) : Int) := by rw [ky.1, flat3_len]
      rw [kl3]
      have b1 : smN (gvC gv) (cur ++ [(jn, s, w, v)]).length ≤ 40 := by
        have := smN_le (f := gvC gv) (n := (cur ++ [(jn, s, w, v)]).length) (b := 1) (fun _ _ => gvC_le)
        rw [List.length_append] at this ⊢
        have : ([(jn, s, w, v)] : Mdl).length = 1 := rfl
        omega
      refine WP_bX.2 (WP_call (k_item7 y4.1 (by omega) (x := (cur.length : Int)) (a := kl) (b := k'.length) (by omega) (by omega) (by omega)) (fun g hg => WP_some.2 (WP_some.2 ?_)))
      obtain ⟨g1, g2⟩ := hg
      have eg : ChIt (9 + 10 * fs.length) y.2 g := g2.i (PIm_i (by omega))
      refine ⟨ey.tr eg, ⟨?_, ⟨?_, ?_, y6, ?_⟩, hC.oth (ey.tr eg)⟩, sy.ch g2 (fun i q1 q2 w => by unfold PIm at w; omega), ky.i g2 (fun a i w => by unfold PIm at w; omega), ?_, by show e ≤ N; omega, by show k'.length ≤ e; omega⟩
      · refine y3.cgM ?_ (fun a i q1 q2 => g2.1 _ _ (fun w => by unfold PIm at w; rw [fMs_len] at q2; omega))
        rw [fMs_len]; exact eg
      · show MdX g _ _ (its ++ (if s = 0 then [] else [(cur.length : Int)]).map _) _ _
        rw [if_neg q, erg, ein]
        exact y4.item g1 g2
      · exact y5.cg (fun i => g2.1 _ _ (fun w => by unfold PIm at w; omega))
      · show ItN _ gv (its ++ (if s = 0 then [] else [(cur.length : Int)]).map _)
        rw [if_neg q]
        refine ⟨?_, fun g hg => ?_⟩
        · rw [List.length_append (as := its), List.length_append (as := cur)] 
          rw [List.length_append] at y7
          have : ([(jn, s, w, v)] : Mdl).length = 1 := rfl
          show its.length + 1 ≤ _
          omega
        · have := y8 g hg
          rw [List.length_append]; omega
      · show gI g 4 10 = 0
        rw [g2.1 _ _ (fun w => by unfold PIm at w; omega)]; exact h10y
/-- a head's end -/
theorem hdD_ok {t : Nat × Int} (hL : LstT u n N) (h : hdD u n cur j = .inl t) (hj : j < N) : nxT u n j = .inl (j + 1) ∧ newT u n 40 (mTk cur) (.inl (j + 1)) = .inl (j + 2) ∧ tkK u n (j + 1) = 1 ∧ inNm u n (mTk cur) (j + 1) = false ∧ cur.length ≠ 40 ∧ j + 2 ≤ t.1 ∧ t.1 ≤ N ∧ tkK u n t.1 ≠ 4 ∧ (1 ≤ t.2 ∧ t.2 ≤ 8) ∧ widD u n (j + 2) = .inl t := by
  unfold hdD at h
  obtain ⟨c, h1, h2⟩ := oB_inv h
  obtain ⟨i, g1, g2, g3, g4, g5⟩ := newT_inl h1
  obtain ⟨n1, n2⟩ := nxT_ok g1
  subst n1
  subst g2
  rw [g1] at h1
  rw [mTk_len] at g5
  have l1 : j + 1 < N := lt1 hL g3 (by omega)
  have k4 : tkK u n (j + 2) ≠ 4 := by
    obtain ⟨jj, q1, q2⟩ := bq_inl h1
    exact (nxT_ok q2).2
  have h2' := h2
  unfold widD at h2
  split at h2
  · rename_i g
    obtain ⟨a, q1, h2⟩ := oB_inv h2
    obtain ⟨d, q2, h2⟩ := oB_inv h2
    injection h2 with h2; subst h2
    obtain ⟨a1, a2⟩ := nxT_ok q1
    obtain ⟨d1, d2, d3, d4, d5⟩ := nuT_ok q2
    have := lt3 hL (isS_K g) (by omega)
    have := lt2 hL d1 (by omega)
    refine ⟨g1, h1, g3, g4, g5, by show j + 2 ≤ d; omega, by show d ≤ N; omega, d3, ⟨d4, d5⟩, h2'⟩
  · injection h2 with h2; subst h2
    exact ⟨g1, h1, g3, g4, g5, Nat.le_refl _, by show j + 2 ≤ N; omega, k4, ⟨by show (1 : Int) ≤ 1; omega, by show (1 : Int) ≤ 8; omega⟩, h2'⟩
/-- a new name and its width -/
theorem k_hd {τ : Type} {K : Int → Sto → Option τ} {P : τ → Prop} (hC : CtI u n N fs cur gv its S0 S) (hq : ScQ u n S 4 (.inl j)) (hj : j < N) (hR : RwK S 170 (flat3 k)) (h10 : gI S 4 10 = 0)
    (hf : ∀ w y f, hdD u n cur j = .inr f → ScQ u n y 4 (.inr f) → ChIt (9 + 10 * fs.length) S y → TpK y 4 u n → okCap (gI y 170 2) → WP (K w y) P)
    (hk : ∀ y t, hdD u n cur j = .inl t → ScQ u n y 4 (.inl t.1) → ChIt (9 + 10 * fs.length) S y → CtI u n N fs cur gv its S0 y → NmE u n y (9 + 10 * fs.length + 1) cur.length (j + 1) → RwK y 170 (flat3 k) → gI y 4 10 = 0 → WP (K t.2 y) P) :
    WP (bX (mX3_next S 4) fun x1 => bX (mX2_newName x1) fun x2 => bX (mX2_width x2) fun x3 => K x3.1 x3.2) P := by
  have hfs := hC.b
  have eM : 9 + 10 * (fMs fs).length = 9 + 10 * fs.length := by rw [fMs_len]
  refine WP_call (k_next3 hC.d.t hq) (fun x hx => ?_)
  obtain ⟨a1, a2⟩ := hx
  have a1 : ScQ u n x 4 (nxT u n j) := a1
  have cx := hC.x (ChXd.refl.p a2)
  refine WP_call (k_newD cx.d a1) (fun z hz => ?_)
  obtain ⟨z1, z2, z3, z4⟩ := hz
  rw [eM] at z2 z4
  refine WP_call (k_widD z3.t z1) (fun y hy => ?_)
  obtain ⟨y1, y2⟩ := hy
  have cI : ChIt (9 + 10 * fs.length) S y.2 := ((ChXd.refl.p a2).i.tr (z2.i (PNn_i (by omega)))).tr (ChXd.refl.p y2).i
  have ky : RwK y.2 170 (flat3 k) := ((hR.p a2).i z2 (fun a i w => by unfold PNn PSc at w; omega)).p y2
  have h10y : gI y.2 4 10 = 0 := by rw [opnP y2, z2.1 _ _ (fun w => by unfold PNn PSc at w; omega), opnP a2]; exact h10
  have y1 : kWd u n (hdD u n cur j) y := y1
  cases hA : hdD u n cur j with
  | inr f =>
    rw [hA] at y1
    exact hf _ _ f hA y1 cI (z3.t.chS y2) ky.2.2.1
  | inl t =>
    rw [hA] at y1
    obtain ⟨b1, b2, b3⟩ := y1
    obtain ⟨n1, n2, _⟩ := hdD_ok hC.d.l hA hj
    rw [b2]
    refine hk y.2 t hA b1 cI ((cx.n z2 z3).x (ChXd.refl.p y2)) ?_ ky h10y
    have e := z4 (j + 1) (j + 2) n1 (by rw [n1]; exact n2)
    exact e.cg (y2.1 _ _ (fun q => by unfold PSc at q; omega)) (fun t => y2.1 _ _ (fun q => by unfold PSc at q; omega))
theorem plain_eq2 {p1 : Int} : mX2_plain S p1 = bX (mX3_next S 4) fun x1 => bX (mX2_newName x1) fun x2 => bX (mX2_width x2) fun x3 => bX (kMi p1 x3.1 x3.2) fun y12 => kPt p1 x3.1 y12.1 y12.2.1 y12.2.2 := rfl
theorem kMi_0 : kMi 0 w y = some (0, gI y 170 1, y) := by
  unfold kMi
  rw [w32_0, if_neg (by decide), bX_some, if_neg (by decide), if_pos (by decide), if_neg (by decide), bX_some, if_neg (by decide)]
theorem kMi_v (h : s = 1 ∨ s = 2) : kMi s w y = bX (mX3_is y 4 61) fun x7 => bX (mX3_must y 4 x7) fun x8 => bX (mX3_ok x8 4) fun x9 => bX (if ¬ w32 x9 = 0 then bX (mX2_given x8 w) fun x10 => some (x10.1, x10.2) else some (0, x8)) fun y11 => some (0, y11.1, y11.2) := by
  unfold kMi
  rcases h with h | h <;> subst h
  · rw [w32_id (x := 1) (by omega), if_neg (by decide), bX_some, if_neg (by decide), if_neg (by decide), bX_some, if_pos rfl]
  · rw [w32_id (x := 2) (by omega), if_neg (by decide), bX_some, if_neg (by decide), if_pos (by decide), if_pos rfl, bX_some, if_pos rfl]
theorem kMi_3 : kMi 3 w y = bX (bX (mX3_is y 4 61) fun x4 => if ¬ w32 x4 = 0 then some true else some false) fun b => if b = true then bX (mX3_next y 4) fun x5 => bX (mX2_number x5 0 ((aShl 1 w) - 1)) fun x6 => some (x6.1, gI y 170 1, x6.2) else some (0, gI y 170 1, y) := by
  unfold kMi
  rw [w32_id (x := 3) (by omega), if_pos rfl]
  congr 1
/-- an input -/
theorem k_plainI (hC : CtI u n N fs cur gv its S0 S) (hq : ScQ u n S 4 (.inl j)) (hj : j < N) (hR : RwK S 170 (flat3 k)) (hl : k.length ≤ j) (h10 : gI S 4 10 = 0) (hN : N ≤ 1500) :
    WP (mX2_plain S 0) (fun y => ChIt (9 + 10 * fs.length) S y ∧ IOut u n N fs its S0 k.length (oB (inD u n cur j) (fun t => .inl (t.1, k, cur ++ [(j + 1, 0, t.2, 0)], gv, []))) y) := by
  rw [plain_eq2]
  refine k_hd hC hq hj hR h10 (K := fun w y => bX (kMi 0 w y) fun y12 => kPt 0 w y12.1 y12.2.1 y12.2.2) (fun w y f e1 e2 e3 e4 e5 => ?_) (fun y t e1 e2 e3 e4 e5 e6 e7 => ?_)
  · rw [kMi_0, bX_some]
    refine (k_pt_f e4 e2 e5).mono (fun z hz => ⟨e3.tr hz.1, ?_⟩)
    unfold inD
    rw [e1]
    exact hz.2
  · rw [kMi_0, bX_some]
    obtain ⟨n1, n2, n3, n4, n5, n6, n7, n8, n9, n10⟩ := hdD_ok hC.d.l e1 hj
    have hlen := hC.d.m.2.1
    refine (k_pt e4 e2 n7 e5 n3 n4 (by omega) (s := 0) (w := t.2) (v := 0) (by omega) n9 (by omega) e6 (by omega) e7 (fr := gI y 170 1) (kl := k.length) (by rw [e6.1, flat3_len]) (by omega)).mono (fun z hz => ⟨e3.tr hz.1, ?_⟩)
    have hz2 := hz.2
    unfold inD
    rw [e1, oB_l]
    cases hT : tkT u n 59 (.inl t.1) with
    | inr f => rw [hT] at hz2; exact hz2
    | inl e => rw [hT] at hz2; exact hz2
/-- an output or a value between -/
theorem k_plainV (hs : s = 1 ∨ s = 2) (hC : CtI u n N fs cur gv its S0 S) (hq : ScQ u n S 4 (.inl j)) (hj : j < N) (hR : RwK S 170 (flat3 k)) (hl : k.length ≤ j) (h10 : gI S 4 10 = 0) (hN : N ≤ 1500) :
    WP (mX2_plain S s) (fun y => ChIt (9 + 10 * fs.length) S y ∧ ∃ r, vaR u n (fMs fs) cur j k r ∧ IOut u n N fs its S0 k.length (oB r (fun t => .inl (t.1, t.2.1, cur ++ [(j + 1, s, t.2.2, 0)], gv, [(cur.length : Int)]))) y) := by
  rw [plain_eq2]
  refine k_hd hC hq hj hR h10 (K := fun w y => bX (kMi s w y) fun y12 => kPt s w y12.1 y12.2.1 y12.2.2) (fun w y f e1 e2 e3 e4 e5 => ?_) (fun y t e1 e2 e3 e4 e5 e6 e7 => ?_)
  · rw [kMi_v hs, k_is e2 e4.u (by decide), bX_some]
    have hb := e4.b
    refine WP_bX.2 (WP_call (k_must e2 hb) (fun x hx => ?_))
    obtain ⟨x1, x2⟩ := hx
    have x1 : ScQ u n x 4 (.inr f) := x1
    rw [k_ok x1, bX_some, bIf, okQ_f, if_neg (by decide), bX_some]
    refine WP_some.2 ?_
    refine (k_pt_f (e4.ch x2 (fun q => by unfold PF89 at q; omega) (fun i q => by unfold PF89 at q; omega)) x1 (by rw [x2.1 _ _ (fun q => by unfold PF89 at q; omega)]; exact e5)).mono (fun z hz => ⟨(e3.tr (ChXd.refl.f x2).i).tr hz.1, .inr f, Or.inl ⟨f, e1, rfl⟩, hz.2⟩)
  · obtain ⟨n1, n2, n3, n4, n5, n6, n7, n8, n9, n10⟩ := hdD_ok hC.d.l e1 hj
    have hlen := hC.d.m.2.1
    have hb := e4.d.t.b
    rw [kMi_v hs, k_is e2 e4.d.t.u (by decide), bX_some]
    refine WP_bX.2 (WP_call (k_must e2 hb) (fun x hx => ?_))
    obtain ⟨x1, x2⟩ := hx
    have cx := e4.x (ChXd.refl.f x2)
    have kx := e6.f x2
    have h10x : gI x 4 10 = 0 := (opnF x2).trans e7
    by_cases g : isS u n 61 t.1 = true
    · have x1 : ScQ u n x 4 (.inl t.1) := by
        have : muT u n (isSq u n 61 (.inl t.1)) (.inl t.1) = .inl t.1 := by unfold muT bq isSq; dsimp only; rw [if_pos g]
        rw [this] at x1; exact x1
      rw [k_ok x1, bX_some, bIf, show okQ (.inl t.1) = true from rfl, if_pos rfl]
      refine WP_bX.2 (WP_call (k_given hN cx.d g x1 n7 h10x kx (by omega) n9) (fun z hz => WP_some.2 (WP_some.2 ?_)))
      obtain ⟨z1, z2, r, z3, z4⟩ := hz
      have cI : ChIt (9 + 10 * fs.length) S z.2 := (e3.tr (ChXd.refl.f x2).i).tr z1.i
      cases r with
      | inr f =>
        obtain ⟨z5, z6⟩ := z4
        refine (k_pt_f (cx.x z1).d.t z5 z6).mono (fun v hv => ⟨cI.tr hv.1, .inr f, Or.inr ⟨t, e1, .inr f, ⟨.inr f, z3, rfl⟩, rfl⟩, hv.2⟩)
      | inl dk =>
        obtain ⟨d, k'⟩ := dk
        obtain ⟨z5, z6, z7, z8, z9⟩ := z4
        have hE : NmE u n z.2 (9 + 10 * fs.length + 1) cur.length (j + 1) := by
          have hfs := hC.b
          refine (e5.cg (x2.1 _ _ (fun q => by unfold PF89 at q; omega)) (fun t => x2.1 _ _ (fun q => by unfold PF89 at q; omega))).cg ?_ (fun t => ?_)
          · exact z1.1 _ _ (by omega) (by omega) (fun w => by unfold PDx at w; omega)
          · exact z1.1 _ _ (by omega) (by omega) (fun w => by unfold PDx at w; omega)
        refine (k_pt (cx.x z1) z5 z8 hE n3 n4 (by omega) (s := s) (w := t.2) (v := 0) (by omega) n9 (by omega) z6 z9 z7 (fr := z.1) (kl := k.length) (by rw [z2]; omega) (by omega)).mono (fun v hv => ⟨cI.tr hv.1, oB (oB (tkT u n 59 (.inl d)) fun e => .inl (e, k')) (fun s => .inl (s.1, s.2, t.2)), Or.inr ⟨t, e1, _, ⟨.inl (d, k'), z3, rfl⟩, rfl⟩, ?_⟩)
        have hv2 := hv.2
        rw [if_neg (show ¬ s = 0 by omega)] at hv2
        cases hT : tkT u n 59 (.inl d) with
        | inr f => rw [hT] at hv2; exact hv2
        | inl e => rw [hT] at hv2; exact hv2
    · have em : muT u n (isSq u n 61 (.inl t.1)) (.inl t.1) = flT u n 2 t.1 := by unfold muT bq isSq; dsimp only; rw [if_neg g]
      rw [em] at x1
      have x1 : ScQ u n x 4 (.inr (2, (tkB u n t.1 : Int))) := x1
      rw [k_ok x1, bX_some, bIf, okQ_f, if_neg (by decide), bX_some]
      refine WP_some.2 ?_
      refine (k_pt_f cx.d.t x1 kx.2.2.1).mono (fun z hz => ⟨(e3.tr (ChXd.refl.f x2).i).tr hz.1, .inr (2, (tkB u n t.1 : Int)), Or.inr ⟨t, e1, .inr (2, (tkB u n t.1 : Int)), ⟨.inr (2, (tkB u n t.1 : Int)), Or.inl ⟨_, ?_, rfl⟩, rfl⟩, rfl⟩, hz.2⟩)
      unfold tkT bq; dsimp only; rw [if_neg g]; rfl
theorem pw8 {w : Int} (h : 1 ≤ w ∧ w ≤ 8) : aShl 1 w = (2 : Int) ^ w.toNat ∧ (2 : Int) ^ w.toNat ≤ 256 ∧ 2 ≤ (2 : Int) ^ w.toNat := by
  have e : w = 1 ∨ w = 2 ∨ w = 3 ∨ w = 4 ∨ w = 5 ∨ w = 6 ∨ w = 7 ∨ w = 8 := by omega
  rcases e with e | e | e | e | e | e | e | e <;> subst e <;> decide
/-- a register -/
theorem k_plainR (hC : CtI u n N fs cur gv its S0 S) (hq : ScQ u n S 4 (.inl j)) (hj : j < N) (hR : RwK S 170 (flat3 k)) (hl : k.length ≤ j) (h10 : gI S 4 10 = 0) (hN : N ≤ 1500) :
    WP (mX2_plain S 3) (fun y => ChIt (9 + 10 * fs.length) S y ∧ IOut u n N fs its S0 k.length (oB (rgD u n cur j) (fun t => .inl (t.1, k, cur ++ [(j + 1, 3, t.2.1, t.2.2)], gv, [(cur.length : Int)]))) y) := by
  rw [plain_eq2]
  refine k_hd hC hq hj hR h10 (K := fun w y => bX (kMi 3 w y) fun y12 => kPt 3 w y12.1 y12.2.1 y12.2.2) (fun w y f e1 e2 e3 e4 e5 => ?_) (fun y t e1 e2 e3 e4 e5 e6 e7 => ?_)
  · rw [kMi_3, k_is e2 e4.u (by decide), bX_some, bIf]
    show WP (bX (bX (if false = true then some true else some false) _) _) _
    rw [if_neg (by decide), bX_some, if_neg (by decide), bX_some]
    refine (k_pt_f e4 e2 e5).mono (fun z hz => ⟨e3.tr hz.1, ?_⟩)
    unfold rgD
    rw [e1]
    exact hz.2
  · obtain ⟨n1, n2, n3, n4, n5, n6, n7, n8, n9, n10⟩ := hdD_ok hC.d.l e1 hj
    have hlen := hC.d.m.2.1
    have hfs := hC.b
    have hp := pw8 n9
    have e170 : gI y 170 1 = ((3 * k.length : Nat) : Int) := by rw [e6.1, flat3_len]
    rw [kMi_3, k_is e2 e4.d.t.u (by decide), bX_some, bIf]
    show WP (bX (bX (if isS u n 61 t.1 = true then some true else some false) _) _) _
    by_cases g : isS u n 61 t.1 = true
    · have hlt : t.1 < N := lt3 hC.d.l (isS_K g) n7
      rw [if_pos g, bX_some, if_pos rfl]
      refine WP_bX.2 (WP_call (k_next3 e4.d.t e2) (fun x hx => ?_))
      obtain ⟨x1, x2⟩ := hx
      have x1 : ScQ u n x 4 (nxT u n t.1) := x1
      have cx := e4.x (ChXd.refl.p x2)
      refine WP_call (k_numD cx.d.t x1 (lo := 0) (hi := (aShl 1 t.2) - 1) (by rw [hp.1]; omega)) (fun z hz => WP_some.2 ?_)
      obtain ⟨z1, z2, z3, z4⟩ := hz
      rw [hp.1] at z1 z4
      have cz := cx.x (ChXd.refl.p z2)
      have kz := (e6.p x2).p z2
      have cI : ChIt (9 + 10 * fs.length) S z.2 := (e3.tr (ChXd.refl.p x2).i).tr (ChXd.refl.p z2).i
      have hE : NmE u n z.2 (9 + 10 * fs.length + 1) cur.length (j + 1) := (e5.cg (x2.1 _ _ (fun q => by unfold PSc at q; omega)) (fun t => x2.1 _ _ (fun q => by unfold PSc at q; omega))).cg (z2.1 _ _ (fun q => by unfold PSc at q; omega)) (fun t => z2.1 _ _ (fun q => by unfold PSc at q; omega))
      have h10z : gI z.2 4 10 = 0 := by rw [opnP z2, opnP x2]; exact e7
      have eR : rgD u n cur j = oB (bq (nxT u n t.1) (nuT u n 0 ((2 : Int) ^ t.2.toNat - 1))) (fun c => oB (tkT u n 59 (.inl c)) fun e => .inl (e, t.2, tkV u n (t.1 + 1))) := by
        unfold rgD rgV
        rw [e1, oB_l, if_pos g]
        cases hA : nxT u n t.1 with
        | inr f => rfl
        | inl a =>
          obtain ⟨a1, _⟩ := nxT_ok hA
          subst a1
          rw [oB_l]
          show _ = oB (nuT u n 0 ((2 : Int) ^ t.2.toNat - 1) (t.1 + 1)) _
          cases nuT u n 0 ((2 : Int) ^ t.2.toNat - 1) (t.1 + 1) with
          | inr f => rfl
          | inl c => rfl
      rw [eR]
      cases hA : bq (nxT u n t.1) (nuT u n 0 ((2 : Int) ^ t.2.toNat - 1)) with
      | inr f =>
        rw [hA] at z1
        exact (k_pt_f cz.d.t z1 kz.2.2.1).mono (fun v hv => ⟨cI.tr hv.1, hv.2⟩)
      | inl c =>
        rw [hA] at z1
        obtain ⟨a, q1, q2⟩ := bq_inl hA
        obtain ⟨a1, a2⟩ := nxT_ok q1
        subst a1
        obtain ⟨d1, d2, d3, d4, d5⟩ := nuT_ok q2
        have hlt2 : t.1 + 1 < N := lt2 hC.d.l d1 (by omega)
        have ez : z.1 = tkV u n (t.1 + 1) := z4 _ _ q1 q2
        refine (k_pt cz z1 (by omega) hE n3 n4 (by omega) (s := 3) (w := t.2) (v := z.1) (by omega) n9 (by rw [ez]; omega) kz (by omega) h10z (fr := gI y 170 1) (kl := k.length) e170 (by omega)).mono (fun v hv => ⟨cI.tr hv.1, ?_⟩)
        have hv2 := hv.2
        rw [if_neg (show ¬ (3 : Int) = 0 by decide), ez] at hv2
        rw [oB_l]
        cases hT : tkT u n 59 (.inl c) with
        | inr f => rw [hT] at hv2; exact hv2
        | inl e => rw [hT] at hv2; exact hv2
    · rw [if_neg g, bX_some, if_neg (by decide), bX_some]
      refine (k_pt e4 e2 n7 e5 n3 n4 (by omega) (s := 3) (w := t.2) (v := 0) (by omega) n9 (by omega) e6 (by omega) e7 (fr := gI y 170 1) (kl := k.length) e170 (by omega)).mono (fun z hz => ⟨e3.tr hz.1, ?_⟩)
      have hz2 := hz.2
      rw [if_neg (show ¬ (3 : Int) = 0 by decide)] at hz2
      unfold rgD rgV
      rw [e1, oB_l, if_neg g, oB_l]
      cases hT : tkT u n 59 (.inl t.1) with
      | inr f => rw [hT] at hz2; exact hz2
      | inl e => rw [hT] at hz2; exact hz2
end KPL
