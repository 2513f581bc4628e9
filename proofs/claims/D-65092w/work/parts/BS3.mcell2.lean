/-! the reference: a whole cell and a whole library -/
def PTc (a i : Nat) : Prop := PAq QL a i ∨ (2060 ≤ a ∧ a ≤ 2065) ∨ (a = 2000 ∧ (i = 80 ∨ i = 83))
section MC2
variable {S z y : Sto} {u : Nat → Int} {n N : Nat} {q : Qq} {ps cs : List Nat} {rs : List Row4} {j j0 : Nat} {f : Int × Int}
theorem PG9_c : ∀ a i, PG9 a i → PTc a i := fun a i q => Or.inl (Or.inl ⟨q.1, Or.inl q.2⟩)
theorem PTi_c : ∀ a i, PTi a i → PTc a i := fun a i q => by
  rcases q with q | q | q
  · exact PG9_c a i q
  · exact Or.inr (Or.inr ⟨q.1, Or.inl q.2⟩)
  · exact Or.inr (Or.inl (by omega))
theorem PTc_n {a i : Nat} (q : PTc a i) : (a = 2000 ∧ ((9 ≤ i ∧ i ≤ 11) ∨ i = 32 ∨ i = 33 ∨ i = 34 ∨ i = 80 ∨ i = 83)) ∨ (2019 ≤ a ∧ a ≤ 2022) ∨ (2060 ≤ a ∧ a ≤ 2065) := by
  rcases q with q | q | q
  · rcases q with q | q | q | q
    · omega
    · omega
    · omega
    · unfold QL at q; omega
  · omega
  · omega
theorem MTk.c (t : MTk u n N S) (g : ChW PTc S z) : MTk u n N z := t.ch g (fun a i h1 h2 q => by have := PTc_n q; omega)
theorem c_27 (h : gI S 2000 27 = 2) (g : ChW PTc S z) : gI z 2000 27 = 2 := (g.1 _ _ (fun q => by have := PTc_n q; omega)).trans h
theorem m_tcore {q3 q5 : Qq} {w : Int} (t : MTk u n N S) (h27 : gI S 2000 27 = 2) (h : MsQ u n N S (.inl j0)) (hm : MCs cs rs S) (hkn : KnM u n N cs)
    (H0 : ∀ j5, q5 = .inl j5 → ∃ j1 j3, preT u n cs (.inl j0) = .inl j1 ∧ q3 = .inl j3 ∧ 1 ≤ ps.length ∧ ps.length ≤ 3)
    (H1 : ∀ T, MTk u n N T → MsQ u n N T (newT u n 3 [] (preT u n cs (.inl j0))) → (∀ j1 j2, preT u n cs (.inl j0) = .inl j1 → newT u n 3 [] (.inl j1) = .inl j2 → MPn 2060 80 [j1] T) → WP (lpF mX23_tellCell_L114 T) (fun y => ChW PTi T y ∧ MsQ u n N y q3 ∧ (∀ j3, q3 = .inl j3 → MPn 2060 80 ps y)))
    (H2 : ∀ T, MTk u n N T → gI T 2000 27 = 2 → MsQ u n N T (midT u n q3) → (∀ j3, q3 = .inl j3 → MPn 2060 80 ps T) → WP (mX23_expression T) (fun y => ChW (PAq QL) T y ∧ MsQ u n N y q5 ∧ (∀ j5, q5 = .inl j5 → gI y 2022 0 = w ∧ 0 ≤ w ∧ w < 256))) :
    WP (mX23_tellCell S) (fun y => ChW PTc S y ∧ MsQ u n N y (posT u n q5) ∧ (∀ f, posT u n q5 = .inr f → gI y 2000 83 = (cs.length : Int)) ∧ (∀ j5 j8, q5 = .inl j5 → posT u n q5 = .inl j8 → MCs (cs ++ [j0 + 1]) (rs ++ [rowC u n ps w j5]) y)) := by
  have hb := t.b; have hbe := t.e
  have hj : j0 ≤ N := h.2.2.1
  have h9 : gI S 2000 9 = (j0 : Int) := h.2.1
  obtain ⟨hm1, hm2, hm3, hm4⟩ := hm
  unfold mX23_tellCell
  rw [m_isWord t hj h9 (w := 7) (by omega), bX_some, bIf2]
  refine WP_call (R := fun y3 => MsQ u n N y3 (if tkK u n j0 = 6 ∧ tkV u n j0 = 7 then .inl j0 else .inr (2, (tkB u n j0 : Int))) ∧ ChW PG9 S y3) ?_ (fun y3 hy3 => ?_)
  · by_cases g : tkK u n j0 = 6 ∧ tkV u n j0 = 7
    · rw [decide_eq_true g, if_pos rfl, if_pos g]
      exact WP_some.2 ⟨h, ChW.refl⟩
    · rw [decide_eq_false g, if_neg (by decide), if_neg g]
      exact WP_call (m_flaw t h (c := 2) (by omega)) (fun x hx => WP_some.2 ⟨hx.1, ChW.refl.tr hx.2 PF10_G9⟩)
  obtain ⟨y31, y32⟩ := hy3
  have hwT : bq (if tkK u n j0 = 6 ∧ tkV u n j0 = 7 then .inl j0 else .inr (2, (tkB u n j0 : Int))) (nxT u n) = wT u n 7 (.inl j0) := by
    unfold wT
    by_cases g : tkK u n j0 = 6 ∧ tkV u n j0 = 7
    · rw [if_pos g]; show nxT u n j0 = if _ then _ else _; rw [if_pos g]
    · rw [if_neg g]; show _ = if _ then _ else _; rw [if_neg g]; rfl
  refine WP_call (m_go (t.g9 y32) y31 (fun i e => ?_)) (fun x4 hx4 => ?_)
  · by_cases g : tkK u n j0 = 6 ∧ tkV u n j0 = 7
    · rw [if_pos g] at e
      injection e with e
      subst e
      exact t.l.le (by rw [g.1]; decide) hj
    · rw [if_neg g] at e; cases e
  obtain ⟨x41, x42⟩ := hx4
  rw [hwT] at x41
  have c4 : ChW PTc S x4 := (ChW.refl.tr y32 PG9_c).tr x42 PG9_c
  have m4 : MPn 2061 83 cs x4 := (hm1.ch y32 (fun q => by unfold PG9 at q; omega) (fun i q => by unfold PG9 at q; omega)).ch x42 (fun q => by unfold PG9 at q; omega) (fun i q => by unfold PG9 at q; omega)
  refine m_new (lim := 12) (fld := 83) (lab := 2061) (K := fun x5 x16 => bX (mX23_sign x16 40) fun x17 => wf x17 2000 80 0 fun S18 => bX (mX23_tellInput S18) fun x19 => bX (lpF mX23_tellCell_L114 x19) fun y25 => bX (mX23_sign y25 41) fun x26 => bX (mX23_sign x26 61) fun x27 => bX (mX23_expression x27) fun x28 => mT3 x5 x28) (t.c c4) x41 (by omega) (by omega) hkn m4 (Or.inr rfl) (Or.inr rfl) 12 rfl (fun x5 x16 e5 h16 c16 => ?_)
  have d16 : ChW PTc S x16 := c4.tr c16 PG9_c
  refine WP_call (m_sign (t.c d16) h16 (c := 40) (by omega)) (fun x17 hx => ?_)
  obtain ⟨h17, c17⟩ := hx
  have h17 : MsQ u n N x17 (preT u n cs (.inl j0)) := h17
  have d17 : ChW PTc S x17 := d16.tr c17 PG9_c
  rw [wf_eq]
  have c18 : ChW (fun a i => a = 2000 ∧ i = 80) x17 (sI x17 2000 80 0) := ChW.refl.sI ⟨rfl, rfl⟩
  have d18 : ChW PTc S (sI x17 2000 80 0) := d17.tr c18 (fun a i q => Or.inr (Or.inr ⟨q.1, Or.inl q.2⟩))
  have h18 : MsQ u n N (sI x17 2000 80 0) (preT u n cs (.inl j0)) := h17.ch c18 (fun i h1 h2 q => by omega)
  have m18 : MPn 2060 80 [] (sI x17 2000 80 0) := ⟨by rw [gI_sI_eq]; rfl, fun i hi => absurd hi (by show ¬ i < 0; omega)⟩
  refine WP_call (m_tellInput (ps := []) (t.c d18) h18 (show 0 ≤ 3 by omega) (fun i hi => absurd hi (by show ¬ i < 0; omega)) m18) (fun x19 hx => ?_)
  obtain ⟨h19, c19, m19⟩ := hx
  have d19 : ChW PTc S x19 := d18.tr c19 PTi_c
  refine WP_call (H1 x19 (t.c d19) h19 (fun j1 j2 e1 e2 => m19 j1 j2 e1 (by rw [e1]; exact e2))) (fun y25 hx => ?_)
  obtain ⟨c25, h25, m25⟩ := hx
  have d25 : ChW PTc S y25 := d19.tr c25 PTi_c
  refine WP_call (m_sign (t.c d25) h25 (c := 41) (by omega)) (fun x26 hx => ?_)
  obtain ⟨h26, c26⟩ := hx
  have d26 : ChW PTc S x26 := d25.tr c26 PG9_c
  refine WP_call (m_sign (t.c d26) h26 (c := 61) (by omega)) (fun x27 hx => ?_)
  obtain ⟨h27', c27⟩ := hx
  have h27' : MsQ u n N x27 (midT u n q3) := h27'
  have d27 : ChW PTc S x27 := d26.tr c27 PG9_c
  have m27 : ∀ j3, q3 = .inl j3 → MPn 2060 80 ps x27 := fun j3 e => ((m25 j3 e).ch c26 (fun q => by unfold PG9 at q; omega) (fun i q => by unfold PG9 at q; omega)).ch c27 (fun q => by unfold PG9 at q; omega) (fun i q => by unfold PG9 at q; omega)
  refine WP_call (H2 x27 (t.c d27) (c_27 h27 d27) h27' m27) (fun x28 hx => ?_)
  obtain ⟨c28, h28, v28⟩ := hx
  have d28 : ChW PTc S x28 := d27.tr c28 (fun a i q => Or.inl q)
  have n83 : ∀ {v w : Sto} {P : Nat → Nat → Prop}, ChW P v w → ¬ P 2000 83 → gI w 2000 83 = gI v 2000 83 := fun g e => g.1 _ _ e
  have f83 : gI x28 2000 83 = (cs.length : Int) := by
    rw [n83 c28 (fun q => by have := PTc_n (Or.inl q); rcases q with q | q | q | q; · omega
                             · omega
                             · omega
                             · unfold QL at q; omega), n83 c27 (fun q => by unfold PG9 at q; omega), n83 c26 (fun q => by unfold PG9 at q; omega), n83 c25 (fun q => by unfold PTi PG9 at q; omega), n83 c19 (fun q => by unfold PTi PG9 at q; omega), n83 c18 (fun q => by omega), n83 c17 (fun q => by unfold PG9 at q; omega), n83 c16 (fun q => by unfold PG9 at q; omega)]
    exact m4.c
  have hx5 : w32 x5 = x5 := by rw [e5]; exact w32_gI _ _ _
  refine (m_T3 (t.c d28) h28 f83 (by omega) hx5).mono (fun y hy => ?_)
  obtain ⟨z1, z2, z3, z4⟩ := hy
  refine ⟨d28.tr z2 (fun a i q => ?_), z1, z3, fun j5 j8 e1 e2 => ?_⟩
  · rcases q with q | q | q
    · exact PG9_c a i q
    · exact Or.inr (Or.inl (by omega))
    · exact Or.inr (Or.inr ⟨q.1, Or.inr q.2⟩)
  · obtain ⟨j1, j3, p1, p2, p3, p4⟩ := H0 j5 e1
    obtain ⟨jj, k1, k2, k3, k4, k5, k6, k7⟩ := preT_inl p1
    injection k1 with k1
    subst k1
    obtain ⟨r1, r2, r3, r4, r5, r6⟩ := z4 j5 j8 e1 e2
    have hc : cs.length % 12 = cs.length := Nat.mod_eq_of_lt (by omega)
    rw [hc] at r1 r2 r3 r4 r5 z2
    have s80 : gI x28 2000 80 = (ps.length : Int) := by
      rw [c28.1 _ _ (fun q => by
        rcases q with q | q | q | q
        · omega
        · omega
        · omega
        · unfold QL at q; omega)]
      exact (m27 j3 p2).c
    obtain ⟨w1, w2, w3⟩ := v28 j5 e1
    rw [s80] at r2 r3
    rw [w1, mask_k ⟨p3, p4⟩] at r3
    have hpos : (0 : Int) < ((2 ^ (2 ^ ps.length) : Nat) : Int) := Int.natCast_pos.2 (Nat.two_pow_pos _)
    have m1 := Int.emod_nonneg w (show ((2 ^ (2 ^ ps.length) : Nat) : Int) ≠ 0 by omega)
    have m2 := Int.emod_lt_of_pos w hpos
    have m3 : 2 ^ (2 ^ ps.length) ≤ 2 ^ (2 ^ 3) := Nat.pow_le_pow_right (by omega) (Nat.pow_le_pow_right (by omega) p4)
    have m4 : 2 ^ (2 ^ 3) = 256 := by decide
    rw [w32_id (by omega)] at r3
    have hx5' : x5 = ((j0 + 1 : Nat) : Int) := by
      have e : wT u n 7 (.inl j0) = .inl (j0 + 1) := by
        obtain ⟨x, h1, h2, h3⟩ := tkT_inq p1
        obtain ⟨x2, l1, l2, l3, l4, l5⟩ := newT_inl h1
        obtain ⟨x3, l6, l7, _⟩ := wT_inl l1
        injection l6 with l6
        rw [l1]; congr 1; omega
      rw [e] at x41
      rw [e5]; exact x41.2.1
    have rowsS : ∀ a i, 2061 ≤ a → a ≤ 2065 → i < cs.length → gI y a i = gI S a i := fun a i h1 h2 h3 => by
      have g9n : ∀ {v w : Sto}, ChW PG9 v w → gI w a i = gI v a i := fun g => g.1 _ _ (fun q => by unfold PG9 at q; omega)
      rw [z2.1 _ _ (fun q => by unfold PTw3 PG9 at q; omega), c28.1 _ _ (fun q => by
        rcases q with q | q | q | q
        · omega
        · omega
        · omega
        · unfold QL at q; omega), g9n c27, g9n c26, c25.1 _ _ (fun q => by unfold PTi PG9 at q; omega), c19.1 _ _ (fun q => by unfold PTi PG9 at q; omega), c18.1 _ _ (fun q => by omega), g9n c17, g9n c16, g9n x42, g9n y32]
    have hlen : (rs ++ [rowC u n ps w j5]).length = rs.length + 1 := by rw [List.length_append]; rfl
    refine ⟨⟨?_, fun i hi => ?_⟩, ?_, by omega, fun i hi => ?_⟩
    · rw [r6, List.length_append]; rfl
    · rw [List.length_append] at hi
      simp only [List.length] at hi
      by_cases g : i < cs.length
      · rw [getD_app g, rowsS _ _ (by omega) (by omega) g]; exact hm1.t i g
      · have ei : i = cs.length := by omega
        subst ei
        rw [getD_last, r1]; exact hx5'
    · rw [List.length_append, List.length_append, hm2]; rfl
    · rw [hlen] at hi
      by_cases g : i < rs.length
      · rw [getD_appR g, rowsS _ _ (by omega) (by omega) (by omega), rowsS _ _ (by omega) (by omega) (by omega), rowsS _ _ (by omega) (by omega) (by omega), rowsS _ _ (by omega) (by omega) (by omega)]
        exact hm4 i g
      · have ei : i = rs.length := by omega
        subst ei
        rw [getD_lastR, ← hm2]
        exact ⟨r2, r3, r4, r5⟩
def mCo (u : Nat → Int) (n N : Nat) (cs : List Nat) (rs : List Row4) (j0 : Nat) (res : (Nat × Row4) ⊕ (Int × Int)) (y : Sto) : Prop := match res with
  | .inl r => MsQ u n N y (.inl r.1) ∧ MCs (cs ++ [j0 + 1]) (rs ++ [r.2]) y
  | .inr f => MsQ u n N y (.inr f) ∧ gI y 2000 83 = (cs.length : Int)
theorem m_tellCell (t : MTk u n N S) (h27 : gI S 2000 27 = 2) (h : MsQ u n N S (.inl j0)) (hm : MCs cs rs S) (hkn : KnM u n N cs) {res : (Nat × Row4) ⊕ (Int × Int)} (hR : CellR u n cs j0 res) :
    WP (mX23_tellCell S) (fun y => ChW PTc S y ∧ mCo u n N cs rs j0 res y) := by
  have hj : j0 ≤ N := h.2.2.1
  have pf : ∀ {T : Sto} {f : Int × Int}, MsQ u n N T (.inr f) → WP (lpF mX23_tellCell_L114 T) (fun y => ChW PTi T y ∧ MsQ u n N y (.inr f) ∧ (∀ j3 : Nat, (.inr f : Qq) = .inl j3 → MPn 2060 80 ([] : List Nat) y)) := fun g => (pins_f g).mono (fun y hy => by subst hy; exact ⟨ChW.refl, g, fun j3 e => by cases e⟩)
  have ef : ∀ {T : Sto} {f : Int × Int}, MsQ u n N T (.inr f) → WP (mX23_expression T) (fun y => ChW (PAq QL) T y ∧ MsQ u n N y (.inr f) ∧ (∀ j5 : Nat, (.inr f : Qq) = .inl j5 → gI y 2022 0 = 0 ∧ (0 : Int) ≤ 0 ∧ (0 : Int) < 256)) := fun g => (expr_f g).mono (fun y hy => ⟨hy.1, hy.2, fun j5 e => by cases e⟩)
  have no5 : ∀ {f : Int × Int} {P : Nat → Prop}, ∀ j5, (.inr f : Qq) = .inl j5 → P j5 := fun j5 e => by cases e
  have fin : ∀ {f : Int × Int} {y : Sto}, ChW PTc S y ∧ MsQ u n N y (posT u n (.inr f)) ∧ (∀ g, posT u n (.inr f) = .inr g → gI y 2000 83 = (cs.length : Int)) → ChW PTc S y ∧ mCo u n N cs rs j0 (.inr f) y := fun hy => ⟨hy.1, hy.2.1, hy.2.2 _ rfl⟩
  -- the loop of pins
  have p1 : ∀ {j1 j2 : Nat} {res : (Nat × List Nat) ⊕ (Int × Int)}, preT u n cs (.inl j0) = .inl j1 → newT u n 3 [] (.inl j1) = .inl j2 → PinsR u n [j1] j2 res → ∀ T, MTk u n N T → MsQ u n N T (newT u n 3 [] (preT u n cs (.inl j0))) → (∀ j1 j2, preT u n cs (.inl j0) = .inl j1 → newT u n 3 [] (.inl j1) = .inl j2 → MPn 2060 80 [j1] T) → WP (lpF mX23_tellCell_L114 T) (fun y => ChW PTi T y ∧ mPo u n N res y) := fun {j1 j2 res} a b c T hT hq hp => by
    obtain ⟨a1, a2, a3, a4, a5, a6, a7, a8⟩ := preT_inl a
    injection a2 with a2
    subst a2
    obtain ⟨b1, b2, b3, b4, b5, b6⟩ := newT_inl b
    injection b2 with b2
    have l1 := lt_of t.l (j := j0) (by omega) hj
    have l2 := lt_of t.l (j := j0 + 1) (by omega) (by omega)
    have l3 := lt_of t.l (j := j0 + 2) (by omega) (by omega)
    rw [a, b] at hq
    exact m_pins (ps := [j1]) hT hq (show 1 ≤ 3 by omega) (fun i hi => by
      have ei : i = 0 := by have hi : i < 1 := hi; omega
      subst ei
      show tkK u n j1 = 1 ∧ j1 ≤ N
      rw [b2]; exact ⟨b4, by omega⟩) (hp _ _ a b) c
  have kn : ∀ {j1 j2 j3 : Nat} {ps : List Nat}, preT u n cs (.inl j0) = .inl j1 → newT u n 3 [] (.inl j1) = .inl j2 → PinsR u n [j1] j2 (.inl (j3, ps)) → KnM u n N ps ∧ Dst u n ps ∧ ps.length ≤ 3 ∧ 1 ≤ ps.length := fun {j1 j2 j3 ps} a b c => by
    obtain ⟨a1, a2, a3, a4, a5, a6, a7, a8⟩ := preT_inl a
    injection a2 with a2
    subst a2
    obtain ⟨b1, b2, b3, b4, b5, b6⟩ := newT_inl b
    injection b2 with b2
    have l1 := lt_of t.l (j := j0) (by omega) hj
    have l2 := lt_of t.l (j := j0 + 1) (by omega) (by omega)
    have l3 := lt_of t.l (j := j0 + 2) (by omega) (by omega)
    have l4 := lt_of t.l (j := b1) (by omega) (by omega)
    obtain ⟨k1, k2⟩ := c.kn t.l (by omega) (fun i hi => by
      have ei : i = 0 := by have hi : i < 1 := hi; omega
      subst ei
      show tkK u n j1 = 1 ∧ j1 ≤ N
      rw [b2]; exact ⟨b4, by omega⟩) (fun a b ha hb _ => by
        have ha : a < 1 := ha
        have hb : b < 1 := hb
        omega) _ _ rfl
    have k3 := c.le t.l (by omega) (show 1 ≤ 3 by omega) _ _ rfl
    exact ⟨k1, k2, k3.2.2.1, k3.2.2.2⟩
  refine hR (fun res => WP (mX23_tellCell S) (fun y => ChW PTc S y ∧ mCo u n N cs rs j0 res y)) ?_ ?_ ?_ ?_ ?_ ?_ ?_
  · intro f a
    refine (m_tcore (q3 := .inr f) (q5 := .inr f) (ps := []) (w := 0) t h27 h hm hkn no5 (fun T _ hq _ => pf (by rw [a] at hq; exact hq)) (fun T _ _ hq _ => ef hq)).mono (fun y hy => fin ⟨hy.1, hy.2.1, hy.2.2.1⟩)
  · intro j1 f a b
    refine (m_tcore (q3 := .inr f) (q5 := .inr f) (ps := []) (w := 0) t h27 h hm hkn no5 (fun T _ hq _ => pf (by rw [a, b] at hq; exact hq)) (fun T _ _ hq _ => ef hq)).mono (fun y hy => fin ⟨hy.1, hy.2.1, hy.2.2.1⟩)
  · intro j1 j2 f a b c
    refine (m_tcore (q3 := .inr f) (q5 := .inr f) (ps := []) (w := 0) t h27 h hm hkn no5 (fun T hT hq hp => (p1 a b c T hT hq hp).mono (fun y hy => ⟨hy.1, hy.2, fun j3 e => by cases e⟩)) (fun T _ _ hq _ => ef hq)).mono (fun y hy => fin ⟨hy.1, hy.2.1, hy.2.2.1⟩)
  · intro j1 j2 j3 ps f a b c d
    obtain ⟨k1, k2, k3, k4⟩ := kn a b c
    refine (m_tcore (q3 := .inl j3) (q5 := .inr f) (ps := ps) (w := 0) t h27 h hm hkn no5 (fun T hT hq hp => (p1 a b c T hT hq hp).mono (fun y hy => ⟨hy.1, hy.2.1, fun j e => hy.2.2⟩)) (fun T _ _ hq _ => ef (by rw [d] at hq; exact hq))).mono (fun y hy => fin ⟨hy.1, hy.2.1, hy.2.2.1⟩)
  · intro j1 j2 j3 j4 ps f a b c d e
    obtain ⟨k1, k2, k3, k4⟩ := kn a b c
    refine (m_tcore (q3 := .inl j3) (q5 := .inr f) (ps := ps) (w := 0) t h27 h hm hkn no5 (fun T hT hq hp => (p1 a b c T hT hq hp).mono (fun y hy => ⟨hy.1, hy.2.1, fun j e => hy.2.2⟩)) (fun T hT t27 hq hp => ?_)).mono (fun y hy => fin ⟨hy.1, hy.2.1, hy.2.2.1⟩)
    rw [d] at hq
    exact (m_cellExpr hT t27 hq k2 k3 k1 (hp j3 rfl).c (hp j3 rfl).t e).mono (fun y hy => ⟨hy.1, hy.2, fun j e => by cases e⟩)
  · intro j1 j2 j3 j4 j5 ps v f a b c d e g
    obtain ⟨k1, k2, k3, k4⟩ := kn a b c
    refine (m_tcore (q3 := .inl j3) (q5 := .inl j5) (ps := ps) (w := v) t h27 h hm hkn (fun j _ => ⟨j1, j3, a, rfl, k4, k3⟩) (fun T hT hq hp => (p1 a b c T hT hq hp).mono (fun y hy => ⟨hy.1, hy.2.1, fun j e => hy.2.2⟩)) (fun T hT t27 hq hp => ?_)).mono (fun y hy => ⟨hy.1, by have := hy.2.1; rw [g] at this; exact ⟨this, hy.2.2.1 f g⟩⟩)
    rw [d] at hq
    exact (m_cellExpr hT t27 hq k2 k3 k1 (hp j3 rfl).c (hp j3 rfl).t e).mono (fun y hy => ⟨hy.1, hy.2.1, fun j _ => hy.2.2⟩)
  · intro j1 j2 j3 j4 j5 j8 ps v a b c d e g
    obtain ⟨k1, k2, k3, k4⟩ := kn a b c
    refine (m_tcore (q3 := .inl j3) (q5 := .inl j5) (ps := ps) (w := v) t h27 h hm hkn (fun j _ => ⟨j1, j3, a, rfl, k4, k3⟩) (fun T hT hq hp => (p1 a b c T hT hq hp).mono (fun y hy => ⟨hy.1, hy.2.1, fun j e => hy.2.2⟩)) (fun T hT t27 hq hp => ?_)).mono (fun y hy => ⟨hy.1, by have := hy.2.1; rw [g] at this; exact ⟨this, hy.2.2.2 j5 j8 rfl g⟩⟩)
    rw [d] at hq
    exact (m_cellExpr hT t27 hq k2 k3 k1 (hp j3 rfl).c (hp j3 rfl).t e).mono (fun y hy => ⟨hy.1, hy.2.1, fun j _ => hy.2.2⟩)
end MC2
