/-! the reference: a cell -/
def mT3 (x5 : Int) (x28 : Sto) : Option Sto := gnz 12 (rdI 8192 x28 2022 0 fun v29 => wrI 12 x28 2063 (aRem (gI x28 2000 83) 12) (aAnd v29 ((aShl 1 (aShl 1 (gI x28 2000 80))) - 1)) fun S30 => wrI 12 S30 2062 (aRem (gI x28 2000 83) 12) (gI S30 2000 80) fun S31 => bX (mX23_bounded S31 1000) fun x32 => wrI 12 x32.2 2064 (aRem (gI x28 2000 83) 12) x32.1 fun S33 => bX (mX23_bounded S33 100) fun x34 => wrI 12 x34.2 2065 (aRem (gI x28 2000 83) 12) x34.1 fun S35 => bX (mX23_sign S35 59) fun x36 => wrI 12 x36 2061 (aRem (gI x28 2000 83) 12) x5 fun S37 => bX (mX23_isRight S37) fun x38 => wf S37 2000 83 ((gI S37 2000 83) + (if ¬ w32 x38 = 0 then 1 else 0)) fun S39 => some S39)
def MCs (cs : List Nat) (rs : List Row4) (S : Sto) : Prop := MPn 2061 83 cs S ∧ cs.length = rs.length ∧ rs.length ≤ 12 ∧ ∀ i, i < rs.length → gI S 2062 i = (rs.getD i (0, 0, 0, 0)).1 ∧ gI S 2063 i = (rs.getD i (0, 0, 0, 0)).2.1 ∧ gI S 2064 i = (rs.getD i (0, 0, 0, 0)).2.2.1 ∧ gI S 2065 i = (rs.getD i (0, 0, 0, 0)).2.2.2
def PTw3 (k a i : Nat) : Prop := PG9 a i ∨ (2061 ≤ a ∧ a ≤ 2065 ∧ i = k) ∨ (a = 2000 ∧ i = 83)
section MCE
variable {S z y : Sto} {u : Nat → Int} {n N : Nat} {q : Qq} {ps cs : List Nat} {rs : List Row4} {j j0 : Nat} {f : Int × Int}
theorem gnz_12 {τ : Type} {K : Option τ} : gnz 12 K = K := if_neg (by decide)
theorem numT_r {hi : Int} : numT u n hi (.inr f) = .inr f := rfl
theorem posT_r : posT u n (.inr f) = .inr f := rfl
theorem m_T3 (t : MTk u n N S) (h : MsQ u n N S q) {c : Nat} (h83 : gI S 2000 83 = (c : Int)) (hc : c ≤ 12) {x5 : Int} (hx5 : w32 x5 = x5) :
    WP (mT3 x5 S) (fun y => MsQ u n N y (posT u n q) ∧ ChW (PTw3 (c % 12)) S y ∧ (∀ f, posT u n q = .inr f → gI y 2000 83 = (c : Int)) ∧ (∀ j5 j8, q = .inl j5 → posT u n q = .inl j8 → gI y 2061 (c % 12) = x5 ∧ gI y 2062 (c % 12) = gI S 2000 80 ∧ gI y 2063 (c % 12) = w32 (aAnd (gI S 2022 0) ((aShl 1 (aShl 1 (gI S 2000 80))) - 1)) ∧ gI y 2064 (c % 12) = tkV u n (j5 + 1) ∧ gI y 2065 (c % 12) = tkV u n (j5 + 3) ∧ gI y 2000 83 = (c : Int) + 1)) := by
  have hr : aRem (gI S 2000 83) 12 = ((c % 12 : Nat) : Int) := by rw [h83, aRem_nn (by omega) (by omega)]; omega
  have hk : c % 12 < 12 := Nat.mod_lt _ (by omega)
  unfold mT3
  rw [gnz_12, hr]
  generalize c % 12 = k at hk ⊢
  rw [rdI_e (by omega), show ((0 : Int)).toNat = 0 from rfl, wrI_e (by omega), Int.toNat_natCast, hI_sI_a (by decide), wrI_e (by omega), Int.toNat_natCast]
  generalize hv : aAnd (gI S 2022 0) ((aShl 1 (aShl 1 (gI S 2000 80))) - 1) = vv
  generalize ha : sI (sI S 2063 k vv) 2062 k (gI S 2000 80) = a
  have ca : ChW (PTw3 k) S a := by rw [← ha]; exact (ChW.refl.sI (Or.inr (Or.inl ⟨by omega, by omega, rfl⟩))).sI (Or.inr (Or.inl ⟨by omega, by omega, rfl⟩))
  have a62 : gI a 2062 k = gI S 2000 80 := by rw [← ha, gI_sI_eq, w32_gI]
  have a63 : gI a 2063 k = w32 vv := by rw [← ha, hI_sI_a (by decide), gI_sI_eq]
  have tk : ∀ {w : Sto}, ChW (PTw3 k) S w → MTk u n N w := fun g => t.ch g (fun a i h1 h2 z => by unfold PTw3 PG9 at z; omega)
  have row : ∀ {w : Sto} {a : Nat} {v : Int} {q' : Qq}, MsQ u n N w q' → 2061 ≤ a → MsQ u n N (sI w a k v) q' := fun g h1 => g.cg (fun i _ _ => hI_sI_a (by omega))
  have qa : MsQ u n N a q := by rw [← ha]; exact row (row h (by omega)) (by omega)
  have g9 : ∀ {v w : Sto}, ChW PG9 v w → ∀ a i, 2061 ≤ a → gI w a i = gI v a i := fun g a i h1 => g.1 _ _ (fun z => by unfold PG9 at z; omega)
  have g83 : ∀ {v w : Sto}, ChW PG9 v w → gI w 2000 83 = gI v 2000 83 := fun g => g.1 _ _ (fun z => by unfold PG9 at z; omega)
  refine WP_call (m_bounded (tk ca) qa (hi := 1000) (by omega)) (fun b hb => ?_)
  obtain ⟨b1, b⟩ := b
  obtain ⟨p1, p2, p3⟩ := hb
  dsimp only at p1 p2 p3 ⊢
  rw [wrI_e (by omega), Int.toNat_natCast]
  generalize hb : sI b 2064 k b1 = b'
  have cb : ChW (PTw3 k) S b' := by rw [← hb]; exact (ca.tr p2 (fun _ _ z => Or.inl z)).sI (Or.inr (Or.inl ⟨by omega, by omega, rfl⟩))
  have qb : MsQ u n N b' (numT u n 1000 q) := by rw [← hb]; exact row p1 (by omega)
  refine WP_call (m_bounded (tk cb) qb (hi := 100) (by omega)) (fun d hd => ?_)
  obtain ⟨d1, d⟩ := d
  obtain ⟨r1, r2, r3⟩ := hd
  dsimp only at r1 r2 r3 ⊢
  rw [wrI_e (by omega), Int.toNat_natCast]
  generalize hd : sI d 2065 k d1 = d'
  have cd : ChW (PTw3 k) S d' := by rw [← hd]; exact (cb.tr r2 (fun _ _ z => Or.inl z)).sI (Or.inr (Or.inl ⟨by omega, by omega, rfl⟩))
  have qd : MsQ u n N d' (numT u n 100 (numT u n 1000 q)) := by rw [← hd]; exact row r1 (by omega)
  refine WP_call (m_sign (tk cd) qd (c := 59) (by omega)) (fun e he => ?_)
  obtain ⟨e1, e2⟩ := he
  have e1 : MsQ u n N e (posT u n q) := e1
  rw [wrI_e (by omega), Int.toNat_natCast]
  generalize hg : sI e 2061 k x5 = g
  have cg : ChW (PTw3 k) S g := by rw [← hg]; exact (cd.tr e2 (fun _ _ z => Or.inl z)).sI (Or.inr (Or.inl ⟨by omega, by omega, rfl⟩))
  have qg : MsQ u n N g (posT u n q) := by rw [← hg]; exact row e1 (by omega)
  have f83 : gI g 2000 83 = (c : Int) := by
    rw [← hg, hI_sI_a (by decide), g83 e2, ← hd, hI_sI_a (by decide), g83 r2, ← hb, hI_sI_a (by decide), g83 p2, ← ha, hI_sI_a (by decide), hI_sI_a (by decide)]; exact h83
  rw [m_isRight qg, bX_some, f83, wf_eq]
  have cz : ∀ v, ChW (PTw3 k) S (sI g 2000 83 v) := fun v => cg.sI (Or.inr (Or.inr ⟨rfl, rfl⟩))
  have qz : ∀ v, MsQ u n N (sI g 2000 83 v) (posT u n q) := fun v => qg.cg (fun i h1 h2 => hI_sI_i (by omega))
  refine WP_some.2 ⟨qz _, cz _, fun f ef => ?_, fun j5 j8 e5 e8 => ?_⟩
  · rw [gI_sI_eq, ef]
    show w32 ((c : Int) + 0) = _
    rw [w32_id (by omega)]; omega
  · rw [e8]
    obtain ⟨jj, k1, k2, k3, k4, k5, k6, k7, k8, k9, k10, k11⟩ := posT_inl e8
    rw [e5] at k1
    injection k1 with k1
    subst k1
    have n1 : ∃ j', numT u n 1000 q = .inl j' ∧ j' = j5 + 2 := by
      obtain ⟨x, h1, h2, h3⟩ := tkT_inq e8
      obtain ⟨x2, l1, l2, l3, l4, l5, l6⟩ := numT_inl h1
      obtain ⟨x3, l7, l8, l9, _⟩ := numT_inl l1
      rw [e5] at l7
      injection l7 with l7
      exact ⟨x2, l1, by omega⟩
    obtain ⟨j', n1, n2⟩ := n1
    have n3 : ∃ j'', numT u n 100 (numT u n 1000 q) = .inl j'' := by
      obtain ⟨x, h1, _⟩ := tkT_inq e8
      exact ⟨x, h1⟩
    obtain ⟨j'', n3⟩ := n3
    have v1 := p3 j5 j' e5 n1
    have v2 := r3 j' j'' n1 n3
    subst n2
    rw [show j5 + 2 + 1 = j5 + 3 by omega] at v2
    refine ⟨?_, ?_, ?_, ?_, ?_, ?_⟩
    · rw [hI_sI_a (by decide), ← hg, gI_sI_eq, hx5]
    · rw [hI_sI_a (by decide), ← hg, hI_sI_a (by decide), g9 e2 _ _ (by omega), ← hd, hI_sI_a (by decide), g9 r2 _ _ (by omega), ← hb, hI_sI_a (by decide), g9 p2 _ _ (by omega), a62]
    · rw [hI_sI_a (by decide), ← hg, hI_sI_a (by decide), g9 e2 _ _ (by omega), ← hd, hI_sI_a (by decide), g9 r2 _ _ (by omega), ← hb, hI_sI_a (by decide), g9 p2 _ _ (by omega), a63]
    · rw [hI_sI_a (by decide), ← hg, hI_sI_a (by decide), g9 e2 _ _ (by omega), ← hd, hI_sI_a (by decide), g9 r2 _ _ (by omega), ← hb, gI_sI_eq, v1, w32_id (by omega)]
    · rw [hI_sI_a (by decide), ← hg, hI_sI_a (by decide), g9 e2 _ _ (by omega), ← hd, gI_sI_eq, v2, w32_id (by omega)]
    · rw [gI_sI_eq]
      show w32 ((c : Int) + 1) = _
      rw [w32_id (by omega)]
/-- pins -/
theorem PinsR.inv {res : (Nat × List Nat) ⊕ (Int × Int)} (h : PinsR u n ps j res) : (isS u n 44 j = false ∧ res = .inl (j, ps)) ∨ (∃ f, isS u n 44 j = true ∧ newT u n 3 ps (nxT u n j) = .inr f ∧ res = .inr f) ∨ (∃ j1 j2, isS u n 44 j = true ∧ nxT u n j = .inl j1 ∧ newT u n 3 ps (.inl j1) = .inl j2 ∧ PinsR u n (ps ++ [j1]) j2 res) := by
  have key := h (fun ps j res => PinsR u n ps j res ∧ ((isS u n 44 j = false ∧ res = .inl (j, ps)) ∨ (∃ f, isS u n 44 j = true ∧ newT u n 3 ps (nxT u n j) = .inr f ∧ res = .inr f) ∨ (∃ j1 j2, isS u n 44 j = true ∧ nxT u n j = .inl j1 ∧ newT u n 3 ps (.inl j1) = .inl j2 ∧ PinsR u n (ps ++ [j1]) j2 res))) ⟨?_, ?_, ?_⟩
  · exact key.2
  · intro ps j h1; exact ⟨PinsR.st h1, Or.inl ⟨h1, rfl⟩⟩
  · intro ps j f h1 h2; exact ⟨PinsR.pf h1 h2, Or.inr (Or.inl ⟨f, h1, h2, rfl⟩)⟩
  · intro ps j j1 j2 res h1 h2 h3 ih; exact ⟨PinsR.pc h1 h2 h3 ih.1, Or.inr (Or.inr ⟨j1, j2, h1, h2, h3, ih.1⟩)⟩
theorem PinsR.kn (hL : LstT u n N) {res : (Nat × List Nat) ⊕ (Int × Int)} (h : PinsR u n ps j res) : j ≤ N → KnM u n N ps → Dst u n ps → ∀ j' ps', res = .inl (j', ps') → KnM u n N ps' ∧ Dst u n ps' := by
  refine h (fun ps j res => j ≤ N → KnM u n N ps → Dst u n ps → ∀ j' ps', res = .inl (j', ps') → KnM u n N ps' ∧ Dst u n ps') ⟨?_, ?_, ?_⟩
  · intro ps j _ g k d j' ps' e; injection e with e; injection e with e1 e2; subst e2; exact ⟨k, d⟩
  · intro ps j f _ _ _ _ _ j' ps' e; cases e
  · intro ps j j1 j2 res h1 h2 h3 ih g k d j' ps' e
    have a1 := nxT_inl h2
    obtain ⟨i, b1, b2, b3, b4, b5⟩ := newT_inl h3
    injection b1 with b1
    subst b1
    have l1 := lt_of hL (by rw [isS_K h1]; decide) g
    have l2 := lt_of hL (j := j1) (by rw [b3]; decide) (by omega)
    exact ih (by omega) (k.add b3 (by omega)) (d.add b4) _ _ e
def mPo (u : Nat → Int) (n N : Nat) (res : (Nat × List Nat) ⊕ (Int × Int)) (y : Sto) : Prop := match res with
  | .inl r => MsQ u n N y (.inl r.1) ∧ MPn 2060 80 r.2 y
  | .inr f => MsQ u n N y (.inr f)
theorem pins_f (h : MsQ u n N S (.inr f)) : WP (lpF mX23_tellCell_L114 S) (fun y => y = S) := by
  refine WP_lpF (fun s => s = S) (fun _ => 1) rfl (by show 1 < 1000000000000; omega) (fun s hs => ?_)
  subst hs
  unfold mX23_tellCell_L114
  rw [m_isRight h, bX_some, bIf]
  show WP (bX (if false = true then _ else some false) _) _
  rw [if_neg (by decide), bX_some, if_neg (by decide)]
  exact WP_some.2 rfl
theorem m_pins (t : MTk u n N S) (h : MsQ u n N S (.inl j)) (hl : ps.length ≤ 3) (hk : KnM u n N ps) (hm : MPn 2060 80 ps S) {res : (Nat × List Nat) ⊕ (Int × Int)} (hR : PinsR u n ps j res) :
    WP (lpF mX23_tellCell_L114 S) (fun y => ChW PTi S y ∧ mPo u n N res y) := by
  have hb := t.b; have hbe := t.e
  refine WP_lpF (fun s => ChW PTi S s ∧ ((∃ j' ps', PinsR u n ps' j' res ∧ MsQ u n N s (.inl j') ∧ ps'.length ≤ 3 ∧ KnM u n N ps' ∧ MPn 2060 80 ps' s) ∨ ∃ f, res = .inr f ∧ MsQ u n N s (.inr f))) (fun s => if gI s 2000 10 = 0 then N + 1 - (gI s 2000 9).toNat else 0) ⟨ChW.refl, Or.inl ⟨j, ps, hR, h, hl, hk, hm⟩⟩ ?_ (fun s hs => ?_)
  · exact ite_lt (show N + 1 - _ < 1000000000000 by omega) (show 0 < 1000000000000 by omega)
  · obtain ⟨cs', hs⟩ := hs
    have ts : MTk u n N s := t.ch cs' (fun a i h1 h2 z => by unfold PTi PG9 at z; omega)
    unfold mX23_tellCell_L114
    rcases hs with ⟨j', ps', a1, a2, a3, a4, a5⟩ | ⟨f, a1, a2⟩
    · have z10 : gI s 2000 10 = 0 := a2.1
      have z9 : gI s 2000 9 = (j' : Int) := a2.2.1
      have hj : j' ≤ N := a2.2.2.1
      rw [m_isRight a2, bX_some, bIf]
      show WP (bX (if true = true then _ else some false) _) _
      rw [if_pos rfl, m_isAt ts hj z9 (by omega), bX_some, bIf]
      rcases a1.inv with ⟨b1, b2⟩ | ⟨f, b1, b2, b3⟩ | ⟨j1, j2, b1, b2, b3, b4⟩
      · rw [b1, if_neg (by decide), bX_some, if_neg (by decide)]
        refine WP_some.2 ⟨cs', ?_⟩
        subst b2
        exact ⟨a2, a5⟩
      · rw [b1, if_pos rfl, bX_some, if_pos rfl]
        have hlt := ts.l.le (i := j') (by rw [isS_K b1]; decide) hj
        refine WP_call (m_go ts a2 (fun i e => by injection e with e; omega)) (fun x hx => ?_)
        have x1 : MsQ u n N x (nxT u n j') := hx.1
        have cx : ChW PTi S x := cs'.tr hx.2 (fun _ _ z => Or.inl z)
        refine WP_call (m_tellInput (ts.g9 hx.2) x1 a3 a4 (a5.ch hx.2 (fun z => by unfold PG9 at z; omega) (fun i z => by unfold PG9 at z; omega))) (fun y hy => WP_some.2 ?_)
        obtain ⟨y1, y2, y3⟩ := hy
        rw [b2] at y1
        refine ⟨⟨cx.tr y2 (fun _ _ z => z), Or.inr ⟨f, b3, y1⟩⟩, ?_⟩
        have f0 : f.1 ≠ 0 := y1.2.1
        have y10 : gI y 2000 10 = f.1 := y1.1
        rw [if_neg (show ¬ gI y 2000 10 = 0 by omega), if_pos z10, z9, Int.toNat_natCast]; omega
      · rw [b1, if_pos rfl, bX_some, if_pos rfl]
        have hlt := ts.l.le (i := j') (by rw [isS_K b1]; decide) hj
        have n1 := nxT_inl b2
        obtain ⟨i, d1, d2, d3, d4, d5⟩ := newT_inl b3
        injection d1 with d1
        subst d1
        refine WP_call (m_go ts a2 (fun i e => by injection e with e; omega)) (fun x hx => ?_)
        have x1 : MsQ u n N x (nxT u n j') := hx.1
        rw [b2] at x1
        have cx : ChW PTi S x := cs'.tr hx.2 (fun _ _ z => Or.inl z)
        refine WP_call (m_tellInput (ts.g9 hx.2) x1 a3 a4 (a5.ch hx.2 (fun z => by unfold PG9 at z; omega) (fun i z => by unfold PG9 at z; omega))) (fun y hy => WP_some.2 ?_)
        obtain ⟨y1, y2, y3⟩ := hy
        rw [b3] at y1
        have y10 : gI y 2000 10 = 0 := y1.1
        have y9 : gI y 2000 9 = (j2 : Int) := y1.2.1
        have hl2 : (ps' ++ [j1]).length ≤ 3 := by rw [List.length_append]; simp only [List.length]; omega
        refine ⟨⟨cx.tr y2 (fun _ _ z => z), Or.inl ⟨j2, ps' ++ [j1], b4, y1, hl2, a4.add d3 (by omega), y3 _ _ rfl b3⟩⟩, ?_⟩
        rw [if_pos y10, if_pos z10, z9, y9, Int.toNat_natCast, Int.toNat_natCast]; omega
    · rw [m_isRight a2, bX_some, bIf]
      show WP (bX (if false = true then _ else some false) _) _
      rw [if_neg (by decide), bX_some, if_neg (by decide)]
      refine WP_some.2 ⟨cs', ?_⟩
      subst a1
      exact a2
theorem expr_f (h : MsQ u n N S (.inr f)) : WP (mX23_expression S) (fun z => ChW (PAq QL) S z ∧ MsQ u n N z (.inr f)) := by
  unfold mX23_expression
  rw [wf_eq, wf_eq, wf_eq]
  generalize hw : sI (sI (sI S 2000 32 0) 2000 33 0) 2000 34 0 = w
  have cw0 : ChW (fun a i => a = 2000 ∧ (i = 32 ∨ i = 33 ∨ i = 34)) S w := by rw [← hw]; exact ((ChW.refl.sI ⟨rfl, Or.inl rfl⟩).sI ⟨rfl, Or.inr (Or.inl rfl)⟩).sI ⟨rfl, Or.inr (Or.inr rfl)⟩
  have qw : MsQ u n N w (.inr f) := h.ch cw0 (fun i h1 h2 z => by omega)
  have cw : ChW (PAq QL) S w := ChW.refl.tr cw0 (fun a i z => by
    obtain ⟨q1, q2⟩ := z
    subst q1
    rcases q2 with q2 | q2 | q2
    · exact Or.inl ⟨rfl, Or.inr (Or.inl q2)⟩
    · exact Or.inl ⟨rfl, Or.inr (Or.inr q2)⟩
    · exact Or.inr (Or.inr (Or.inr (Or.inr (Or.inr ⟨rfl, q2⟩)))))
  refine WP_call (R := fun z => z = w) ?_ (fun z hz => ?_)
  · refine WP_lpF (fun s => s.2 = w) (fun _ => 1) rfl (by show 1 < 1000000000000; omega) (fun s hs => ?_)
    obtain ⟨s1, s2⟩ := s
    have hs : s2 = w := hs
    subst hs
    unfold mX23_expression_L17
    dsimp only
    rw [m_isRight qw, bX_some, bIf]
    show WP (bX (if false = true then _ else some false) _) _
    rw [if_neg (by decide), bX_some, if_neg (by decide)]
    exact WP_some.2 rfl
  · subst hz; exact WP_some.2 ⟨cw, qw⟩
end MCE
