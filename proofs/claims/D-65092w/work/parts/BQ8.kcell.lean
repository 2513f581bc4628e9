/-! cells of a library: the class -/
def kChk {τ : Type} (a0 : Nat) (fnd cnt : Sto → Option Bool) (S : Sto) (k : Sto → Option τ) : Option τ := bX (mX3_isName S a0) fun x1 => bX (mX3_must S a0 x1) fun x2 => bX (mX3_ok x2 a0) fun x3 => bX (bX (if ¬ w32 x3 = 0 then fnd x2 else some false) fun b => if b = true then bX (mX3_fail x2 a0 10 (gI x2 a0 4)) fun x5 => some x5 else some x2) fun y6 => bX (mX3_ok y6 a0) fun x7 => bX (bX (if ¬ w32 x7 = 0 then cnt y6 else some false) fun b => if b = true then bX (mX3_fail y6 a0 15 (gI y6 a0 4)) fun x8 => some x8 else some y6) fun y9 => k y9
def PCi (a i : Nat) : Prop := (a = 185 ∧ 2 ≤ i ∧ i ≤ 10) ∨ (189 ≤ a ∧ a ≤ 191)
section KCL
variable {S : Sto} {a0 : Nat} {u : Nat → Int} {n N : Nat} {ps : List Nat} {q : Qq}
theorem k_chkN {τ : Type} {fnd cnt : Sto → Option Bool} {k : Sto → Option τ} {P : τ → Prop} {lim : Nat} (hn : n ≤ 4000) (h : ScQ u n S a0 q)
    (hf : ∀ y j, q = .inl j → tkK u n j = 1 → ScQ u n y a0 (.inl j) → ChW (PF89 a0) S y → fnd y = some (inNm u n ps j))
    (hc : ∀ y, ChW (PF89 a0) S y → cnt y = some (decide (ps.length = lim)))
    (hk : ∀ y, ScQ u n y a0 (chT u n lim ps q) → ChW (PF89 a0) S y → WP (k y) P) : WP (kChk a0 fnd cnt S k) P := by
  have p89 : ∀ a i, PF89 a0 a i → PF89 a0 a i := fun _ _ z => z
  unfold kChk
  rw [k_isName h, bX_some]
  refine WP_call (k_must h hn) (fun y hy => ?_)
  obtain ⟨y1, y2⟩ := hy
  have fin : ∀ f : Int × Int, ScQ u n y a0 (.inr f) → chT u n lim ps q = .inr f → WP (bX (mX3_ok y a0) fun x3 => bX (bX (if ¬ w32 x3 = 0 then fnd y else some false) fun b => if b = true then bX (mX3_fail y a0 10 (gI y a0 4)) fun x5 => some x5 else some y) fun y6 => bX (mX3_ok y6 a0) fun x7 => bX (bX (if ¬ w32 x7 = 0 then cnt y6 else some false) fun b => if b = true then bX (mX3_fail y6 a0 15 (gI y6 a0 4)) fun x8 => some x8 else some y6) fun y9 => k y9) P := by
    intro f hy hq
    rw [k_ok hy, bX_some, bIf, if_neg (fun z => by cases z), bX_some, if_neg (fun z => by cases z), bX_some, k_ok hy, bX_some, bIf, if_neg (fun z => by cases z), bX_some, if_neg (fun z => by cases z), bX_some]
    exact hk y (by rw [hq]; exact hy) y2
  cases q with
  | inr e => exact fin e y1 rfl
  | inl j =>
    by_cases eK : tkK u n j = 1
    · have y1 : ScQ u n y a0 (.inl j) := by
        have e : muT u n (isK u n 1 (.inl j)) (.inl j) = .inl j := by unfold muT bq isK; dsimp only; rw [if_pos (decide_eq_true eK)]
        rw [e] at y1; exact y1
      rw [k_ok y1, bX_some, bIf, show okQ (.inl j) = true from rfl, if_pos rfl, hf y j rfl eK y1 y2, bX_some]
      by_cases eI : inNm u n ps j = true
      · rw [if_pos eI]
        have ec : chT u n lim ps (.inl j) = flT u n 10 j := by unfold chT bq; dsimp only; rw [if_pos eK, if_pos eI]
        refine WP_call (R := fun z => ScQ u n z a0 (flT u n 10 j) ∧ ChW (PF89 a0) y z) ?_ (fun z hz => ?_)
        · exact WP_call (k_fail y1 (by omega) hn) (fun z hz => WP_some.2 hz)
        obtain ⟨z1, z2⟩ := hz
        rw [k_ok z1, bX_some, bIf, if_neg (fun z => by cases z), bX_some, if_neg (fun z => by cases z), bX_some]
        exact hk z (by rw [ec]; exact z1) (y2.tr z2 p89)
      · rw [if_neg eI, bX_some, k_ok y1, bX_some, bIf, show okQ (.inl j) = true from rfl, if_pos rfl, hc y y2, bX_some]
        by_cases eL : ps.length = lim
        · rw [if_pos (decide_eq_true eL)]
          have ec : chT u n lim ps (.inl j) = flT u n 15 j := by unfold chT bq; dsimp only; rw [if_pos eK, if_neg eI, if_pos eL]
          refine WP_call (R := fun z => ScQ u n z a0 (flT u n 15 j) ∧ ChW (PF89 a0) y z) ?_ (fun z hz => ?_)
          · exact WP_call (k_fail y1 (by omega) hn) (fun z hz => WP_some.2 hz)
          exact hk z (by rw [ec]; exact hz.1) (y2.tr hz.2 p89)
        · rw [if_neg (fun z => eL (of_decide_eq_true z)), bX_some]
          have ec : chT u n lim ps (.inl j) = .inl j := by unfold chT bq; dsimp only; rw [if_pos eK, if_neg eI, if_neg eL]
          exact hk y (by rw [ec]; exact y1) y2
    · have e : muT u n (isK u n 1 (.inl j)) (.inl j) = flT u n 2 j := by unfold muT bq isK; dsimp only; rw [if_neg (fun q => eK (of_decide_eq_true q))]
      rw [e] at y1
      exact fin _ y1 (by unfold chT bq; dsimp only; rw [if_neg eK]; rfl)
theorem find_b {y : Sto} {a j M : Nat} (t : TpK y a0 u n) (h : ScQ u n y a0 (.inl j)) (hj : tkK u n j = 1) (nm : NmK u n y a ps) (hp : ps.length ≤ M) (hM : M ≤ 1000) (e1 : aN (kK (a + 1)) = 12 * M) (e2 : aN (kK (a + 2)) = M) : (bX (mX4_find y a a0) fun x4 => if ¬ w32 x4 = (-1) then some true else some false) = some (inNm u n ps j) := by
  obtain ⟨r, h1, h2⟩ := k_findN t h hj nm hp hM e1 e2
  rw [h1, bX_some]
  rcases h2 with ⟨h2, h3⟩ | ⟨i, hi, h2, h3, h4⟩
  · subst h2; rw [h3]; rfl
  · subst h2; rw [h4, w32_id (by omega), if_pos (by omega)]
theorem PF_PCi : ∀ a i, PF89 185 a i → PCi a i := fun a i q => by unfold PF89 at q; unfold PCi; omega
theorem PS_PCi : ∀ a i, PSc 185 a i → PCi a i := fun a i q => by unfold PSc at q; unfold PCi; omega
theorem TpK.ci (t : TpK S 185 u n) {y : Sto} (g : ChW PCi S y) : TpK y 185 u n := t.ch g (fun q => by unfold PCi at q; omega) (fun i q => by unfold PCi at q; omega)
theorem k_pin (t : TpK S 185 u n) (h : ScQ u n S 185 q) (nm : NmK u n S 189 ps) (hp : ps.length ≤ 3) : WP (mX10_pin S) (fun y => ScQ u n y 185 (newT u n 3 ps q) ∧ ChW PCi S y ∧ gI y 185 10 = gI S 185 10 ∧ ∀ j j', q = .inl j → newT u n 3 ps q = .inl j' → NmK u n y 189 (ps ++ [j])) := by
  have hn := t.b
  refine k_chkN (ps := ps) (lim := 3) (fnd := fun x2 => bX (mX4_find x2 189 185) fun x4 => if ¬ w32 x4 = (-1) then some true else some false) (cnt := fun y => if w32 (gI y 189 2) = 3 then some true else some false) (k := fun y9 => bX (mX3_ok y9 185) fun x10 => if w32 x10 = 0 then some y9 else bX (mX4_hold y9 189 185) fun x11 => wf x11 189 2 ((gI x11 189 2) + 1) fun S12 => bX (mX3_next S12 185) fun x13 => some x13) hn h (fun y j e1 e2 e3 e4 => ?_) (fun y e4 => ?_) (fun y e3 e4 => ?_)
  · exact find_b (t.ci (ChW.refl.tr e4 PF_PCi)) e3 e2 (nm.ch e4 (fun q => by unfold PF89 at q; omega) (fun i q => by unfold PF89 at q; omega) (fun i q => by unfold PF89 at q; omega)) (M := 4) (Nat.le_succ_of_le hp) (by omega) (by decide) (by decide)
  · rw [e4.1 189 2 (fun q => by unfold PF89 at q; omega), nm.c, w32_id (by omega)]
    by_cases e : ps.length = 3
    · rw [if_pos (by omega), decide_eq_true e]
    · rw [if_neg (by omega), decide_eq_false e]
  · have cy : ChW PCi S y := ChW.refl.tr e4 PF_PCi
    have y10 : gI y 185 10 = gI S 185 10 := e4.1 _ _ (fun q => by unfold PF89 at q; omega)
    have ty := t.ci cy
    have nmy : NmK u n y 189 ps := nm.ch e4 (fun q => by unfold PF89 at q; omega) (fun i q => by unfold PF89 at q; omega) (fun i q => by unfold PF89 at q; omega)
    rw [k_ok e3, bX_some, bIf2]
    cases hq : chT u n 3 ps q with
    | inr f =>
      rw [hq] at e3
      have en : newT u n 3 ps q = .inr f := by unfold newT; rw [hq]; rfl
      rw [if_neg (fun z => by cases z)]
      exact WP_some.2 ⟨by rw [en]; exact e3, cy, y10, fun j j' _ e => by rw [en] at e; cases e⟩
    | inl j =>
      rw [hq] at e3
      obtain ⟨c1, c2, c3, c4⟩ := chT_inl hq
      have en : newT u n 3 ps q = nxT u n j := by unfold newT; rw [hq]; rfl
      rw [show okQ (.inl j) = true from rfl, if_pos rfl]
      refine WP_call (k_holdN ty e3 c2 nmy (N := 4) (by omega) (by omega) (by decide) (by decide) (by omega)) (fun z hz => ?_)
      obtain ⟨z1, z2, z3⟩ := hz
      have zc : gI z 189 2 = (ps.length : Int) := by rw [z3.1 _ _ (fun q => by unfold PNm at q; omega)]; exact nmy.c
      rw [wf_eq, zc]
      generalize hw : sI z 189 2 ((ps.length : Int) + 1) = w
      have cw : ChW PCi S w := by rw [← hw]; exact (cy.tr z3 (fun a i q => by unfold PNm at q; unfold PCi; omega)).sI (Or.inr ⟨by omega, by omega⟩)
      have w10 : gI w 185 10 = gI S 185 10 := by rw [← hw, hI_sI_a (by omega), z3.1 _ _ (fun q => by unfold PNm at q; omega)]; exact y10
      have sw : ScQ u n w 185 (.inl j) := by rw [← hw]; exact (e3.ch z3 (fun i _ _ q => by unfold PNm at q; omega)).cg (fun i _ _ => hI_sI_a (by omega))
      have nw : NmK u n w 189 (ps ++ [j]) := by
        refine nmy.put c2 (fun i hi => (z1 i hi).cg ?_ (fun t => ?_)) (z2.cg ?_ (fun t => ?_)) ?_
        · rw [← hw, hI_sI_a (by omega)]
        · rw [← hw, hI_sI_a (by omega)]
        · rw [← hw, hI_sI_a (by omega)]
        · rw [← hw, hI_sI_a (by omega)]
        · rw [← hw, gI_sI_eq, w32_id (by omega)]; omega
      refine WP_call (k_next3 (t.ci cw) sw) (fun v hv => WP_some.2 ⟨by rw [en]; exact hv.1, cw.tr hv.2 PS_PCi, ?_, fun j2 j' e _ => ?_⟩)
      · rw [hv.2.1 _ _ (fun q => by unfold PSc at q; omega)]; exact w10
      · rw [c1] at e; injection e with e; subst e
        exact nw.ch hv.2 (fun q => by unfold PSc at q; omega) (fun i q => by unfold PSc at q; omega) (fun i q => by unfold PSc at q; omega)
theorem k_pins {j : Nat} (hL : LstT u n N) (t : TpK S 185 u n) (h : ScQ u n S 185 (.inl j)) (hj : j ≤ N) (nm : NmK u n S 189 ps) (hp : ps.length ≤ 3) : WP (lpF (mX10_cell_L179) S) (fun y => ChW PCi S y ∧ gI y 185 10 = gI S 185 10 ∧ ((∃ j' ps', PinsR u n ps j (.inl (j', ps')) ∧ ScQ u n y 185 (.inl j') ∧ NmK u n y 189 ps' ∧ ps'.length ≤ 3) ∨ ∃ f, PinsR u n ps j (.inr f) ∧ ScQ u n y 185 (.inr f))) := by
  have hu := t.u
  refine WP_lpF (fun s => ChW PCi S s ∧ gI s 185 10 = gI S 185 10 ∧ ((∃ j' ps', ScQ u n s 185 (.inl j') ∧ j' ≤ N ∧ NmK u n s 189 ps' ∧ ps'.length ≤ 3 ∧ ∀ res, PinsR u n ps' j' res → PinsR u n ps j res) ∨ ∃ f, ScQ u n s 185 (.inr f) ∧ PinsR u n ps j (.inr f))) (fun s => if gI s 185 8 = 0 then 1 + (n - (gI s 185 4).toNat) else 0) ⟨ChW.refl, rfl, Or.inl ⟨j, ps, h, hj, nm, hp, fun _ q => q⟩⟩ ?_ (fun s hs => ?_)
  · have := t.b
    exact ite_lt (show 1 + (n - _) < 1000000000000 by omega) (show 0 < 1000000000000 by omega)
  obtain ⟨s1, s10, s2⟩ := hs
  unfold mX10_cell_L179
  rcases s2 with ⟨j', ps', a1, a4, a2, a3, a5⟩ | ⟨f, a1, a2⟩
  · rw [k_is a1 hu (by decide), bX_some, bIf]
    show WP (if isS u n 44 j' = true then _ else _) _
    cases e : isS u n 44 j' with
    | false =>
      rw [if_neg (by decide)]
      exact WP_some.2 ⟨s1, s10, Or.inl ⟨j', ps', a5 _ (.st e), a1, a2, a3⟩⟩
    | true =>
      rw [if_pos rfl]
      have hlt := hL.le (i := j') (by rw [isS_K e]; decide) a4
      have hBl := hL.lt hlt
      have m8 : gI s 185 8 = 0 := a1.1
      have m4 : gI s 185 4 = (tkB u n j' : Nat) := a1.2.2.1
      refine WP_call (k_next3 (t.ci s1) a1) (fun y hy => ?_)
      obtain ⟨y1, y2⟩ := hy
      have y1 : ScQ u n y 185 (nxT u n j') := y1
      have cy : ChW PCi S y := s1.tr y2 PS_PCi
      have nmy : NmK u n y 189 ps' := a2.ch y2 (fun q => by unfold PSc at q; omega) (fun i q => by unfold PSc at q; omega) (fun i q => by unfold PSc at q; omega)
      have y10 : gI y 185 10 = gI S 185 10 := by rw [y2.1 _ _ (fun q => by unfold PSc at q; omega)]; exact s10
      refine WP_call (k_pin (t.ci cy) y1 nmy a3) (fun z hz => WP_some.2 ?_)
      obtain ⟨z1, z2, z10, z3⟩ := hz
      have cz : ChW PCi S z := cy.tr z2 (fun _ _ q => q)
      cases eN : newT u n 3 ps' (nxT u n j') with
      | inr f =>
        rw [eN] at z1
        refine ⟨⟨cz, by rw [z10]; exact y10, Or.inr ⟨f, z1, a5 _ (.pf e eN)⟩⟩, ?_⟩
        rw [m8, m4, if_pos rfl, if_neg (by rw [z1.1]; exact z1.2.1)]; omega
      | inl j3 =>
        rw [eN] at z1
        obtain ⟨i, i1, i2, i3, i4, i5⟩ := newT_inl eN
        have i6 := nxT_inl i1
        have l2 := lt_of hL (j := i) (by omega) (by omega)
        rw [i1] at eN
        refine ⟨⟨cz, by rw [z10]; exact y10, Or.inl ⟨j3, ps' ++ [i], z1, by omega, z3 i j3 i1 (by rw [i1]; exact eN), by rw [List.length_append]; simp only [List.length]; omega, fun res q => a5 _ (.pc e i1 eN q)⟩⟩, ?_⟩
        have z4' : gI z 185 4 = (tkB u n j3 : Nat) := z1.2.2.1
        have z48 : gI z 185 8 = 0 := z1.1
        have := tkB_slt (j := j3) hBl (by omega)
        have := tkB_le (u := u) (n := n) j3
        rw [m8, m4, z48, z4', if_pos rfl, if_pos rfl, Int.toNat_natCast, Int.toNat_natCast]; omega
  · rw [k_is a1 hu (by decide), bX_some, bIf]
    rw [if_neg (fun z => by cases z)]
    exact WP_some.2 ⟨s1, s10, Or.inr ⟨f, a2, a1⟩⟩
theorem k_pins_f {f : Int × Int} (hu : ∀ i, i < n → 0 ≤ u i ∧ u i < 256) (h : ScQ u n S 185 (.inr f)) : WP (lpF (mX10_cell_L179) S) (fun y => y = S) := by
  refine WP_lpF (fun s => s = S) (fun _ => 0) rfl (by decide) (fun s hs => ?_)
  subst hs
  unfold mX10_cell_L179
  rw [k_is h hu (by decide), bX_some, bIf, if_neg (fun z => by cases z)]
  exact WP_some.2 rfl
theorem k_number3 (t : TpK S 185 u n) (h : ScQ u n S 185 q) {hi : Int} (hh : 1 ≤ hi ∧ hi ≤ 1000000) : WP (mX10_number S hi) (fun y => ScQ u n y.2 185 (numT u n hi q) ∧ ChW (PSc 185) S y.2 ∧ ∀ j j', q = .inl j → numT u n hi q = .inl j' → y.1 = tkV u n (j + 1)) := by
  have hn := t.b
  have ps : ∀ a i, PSc 185 a i → PSc 185 a i := fun _ _ q => q
  have pf : ∀ a i, PF89 185 a i → PSc 185 a i := fun a i q => by unfold PF89 at q; unfold PSc; omega
  unfold mX10_number
  refine WP_call (k_take3 t h (by decide)) (fun x hx => ?_)
  obtain ⟨x1, x2⟩ := hx
  rw [k_isNumber x1, bX_some]
  refine WP_call (k_must x1 hn) (fun y hy => ?_)
  obtain ⟨y1, y2⟩ := hy
  have cy : ChW (PSc 185) S y := x2.tr y2 pf
  have fin : ∀ z f, ChW (PSc 185) S z → ScQ u n z 185 (.inr f) → numT u n hi q = .inr f → WP (bX (mX3_next z 185) fun x7 => some (gI z 185 6, x7)) (fun y => ScQ u n y.2 185 (numT u n hi q) ∧ ChW (PSc 185) S y.2 ∧ ∀ j j', q = .inl j → numT u n hi q = .inl j' → y.1 = tkV u n (j + 1)) := by
    intro z f cz sz e
    refine WP_call (k_next3 (t.chS cz) sz) (fun w hw => WP_some.2 ⟨by rw [e]; exact hw.1, cz.tr hw.2 ps, fun j j' _ g => by rw [e] at g; cases g⟩)
  have bad : ∀ f, ScQ u n y 185 (.inr f) → numT u n hi q = .inr f → WP (bX (mX3_ok y 185) fun x4 => bX (bX (if ¬ w32 x4 = 0 then if 1 ≤ w32 (gI y 185 6) then if w32 hi < w32 (gI y 185 6) then some true else some false else some true else some false) fun b => if b = true then bX (mX3_fail y 185 12 (gI y 185 4)) fun x5 => some x5 else some y) fun y6 => bX (mX3_next y6 185) fun x7 => some (gI y6 185 6, x7)) (fun y => ScQ u n y.2 185 (numT u n hi q) ∧ ChW (PSc 185) S y.2 ∧ ∀ j j', q = .inl j → numT u n hi q = .inl j' → y.1 = tkV u n (j + 1)) := by
    intro f sy e
    rw [k_ok sy, bX_some, bIf, if_neg (fun z => by cases z), bX_some, if_neg (fun z => by cases z), bX_some]
    exact fin y f cy sy e
  cases eT : tkT u n 44 q with
  | inr f =>
    rw [eT] at y1
    exact bad f y1 (by unfold numT; rw [eT]; rfl)
  | inl j =>
    rw [eT] at y1
    by_cases eK : tkK u n j = 2
    · have e : muT u n (isK u n 2 (.inl j)) (.inl j) = .inl j := by unfold muT bq isK; dsimp only; rw [if_pos (decide_eq_true eK)]
      rw [e] at y1
      have hv := tK_2 eK
      have y6 : gI y 185 6 = tkV u n j := (y1.2.2.2.2.2.2.2.2.1 eK).2
      have hv' : 0 ≤ tkV u n j ∧ tkV u n j < 1000000 := hv.2
      rw [k_ok y1, bX_some, bIf, show okQ (.inl j) = true from rfl, if_pos rfl, y6, w32_id (by omega), w32_id (by omega)]
      by_cases er : 1 ≤ tkV u n j ∧ tkV u n j ≤ hi
      · rw [if_pos er.1, if_neg (by omega), bX_some, if_neg (by decide), bX_some]
        have en : numT u n hi q = nxT u n j := by unfold numT; rw [eT]; show (if _ then _ else _) = _; rw [if_pos eK, if_pos er]
        refine WP_call (k_next3 (t.chS cy) y1) (fun w hw => WP_some.2 ⟨by rw [en]; exact hw.1, cy.tr hw.2 ps, fun i j' e1 g => ?_⟩)
        obtain ⟨i', e2, e3, e4⟩ := tkT_inq eT
        rw [e1] at e2; injection e2 with e2
        dsimp only
        rw [y6, e4, e2]
      · have en : numT u n hi q = flT u n 12 j := by unfold numT; rw [eT]; show (if _ then _ else _) = _; rw [if_pos eK, if_neg er]
        have eb : (if 1 ≤ tkV u n j then if hi < tkV u n j then some true else some false else some true) = some true := by
          by_cases g1 : 1 ≤ tkV u n j
          · rw [if_pos g1, if_pos (by omega)]
          · rw [if_neg g1]
        rw [eb, bX_some, if_pos rfl]
        refine WP_call (R := fun z => ScQ u n z 185 (flT u n 12 j) ∧ ChW (PF89 185) y z) ?_ (fun z hz => fin z _ (cy.tr hz.2 pf) hz.1 en)
        exact WP_call (k_fail y1 (by omega) hn) (fun z hz => WP_some.2 hz)
    · have e : muT u n (isK u n 2 (.inl j)) (.inl j) = flT u n 2 j := by unfold muT bq isK; dsimp only; rw [if_neg (fun q => eK (of_decide_eq_true q))]
      rw [e] at y1
      exact bad _ y1 (by unfold numT; rw [eT]; show (if _ then _ else _) = _; rw [if_neg eK]; rfl)
end KCL
