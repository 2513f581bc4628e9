/-! the reference connects a net -/
section MCON
variable {S z : Sto} {k n : Nat} {C R : Chp} {dear : Bool}
theorem m_first5 (h : MRt S k C) (hp : MPp S C) (w : WFC C) (wp : WFP C) (h0 : C 16 0 ≠ 0) (g : GSz C) (hn : n < kN C) (h1 : pPrev (kPf C) n (kPn C) ≠ -1) : WP (lpF (mX23_connect_L5 S (n : Int)) ((-1), 0)) (fun z => z = sP C n) := by
  have g5 := g.2.2.2.2.1
  have g7 := g.2.2.2.2.2.2.1
  have g8 := g.2.2.2.2.2.2.2
  have pn : gI S 2000 159 = (kPn C : Int) := hp.1
  refine WP_cnt (kPn C) (fun i s => s.2 = (i : Int) ∧ ((s.1 = -1 ∧ pPrev (kPf C) n i = -1) ∨ (0 ≤ s.1 ∧ s.1 < 10000 ∧ pPrev (kPf C) n i ≠ -1 ∧ s.1 = pLo (fun i => (pp C i : Int)) (kPf C) n i))) (by unfold cFU; omega) ⟨rfl, .inl ⟨rfl, rfl⟩⟩ (fun i s hi hI => ?_) (fun s hI => ?_)
  · obtain ⟨z1, z2⟩ := s
    obtain ⟨b1, b2⟩ := hI
    dsimp only at b1 b2
    subst b1
    obtain ⟨m1, m2, m3⟩ := mp_at hp h0 hi
    have pl := (pp_lt w wp h0 hi).1
    have ow := ((kPins_ok w).1 i (show i < kPn C from hi)).1
    have ow : (kPf C i).1 < kN C := ow
    have ep : pPrev (kPf C) n (i + 1) = if (kPf C i).1 = n then (i : Int) else pPrev (kPf C) n i := rfl
    have el : pLo (fun i => (pp C i : Int)) (kPf C) n (i + 1) = if (kPf C i).1 = n then min (pLo (fun i => (pp C i : Int)) (kPf C) n i) (pp C i : Int) else pLo (fun i => (pp C i : Int)) (kPf C) n i := rfl
    unfold mX23_connect_L5
    dsimp only
    rw [pn, w32_id (x := (i : Int)) (by omega), w32_id (x := (kPn C : Int)) (by omega), if_pos (by omega), rdI_e (by omega), rdI_e (by omega), Int.toNat_natCast, m2, m3, m_point h w wp h0 hi, bX_some, rdI_e (by omega), Int.toNat_natCast, m1, w32_id (x := ((kPf C i).1 : Int)) (by omega), w32_id (x := (n : Int)) (by omega)]
    by_cases q : (kPf C i).1 = n
    · rw [if_pos q] at ep el
      rw [if_pos (by omega)]
      rcases b2 with ⟨rfl, f⟩ | ⟨c1, c2, c3, c4⟩
      · rw [if_neg (by decide), bX_some, if_pos rfl, bX_some]
        have e0 := (pLo_none (v := fun i => (pp C i : Int)) f).1
        refine WP_some.2 ⟨by show (i : Int) + 1 = _; omega, .inr ⟨by dsimp only; omega, by dsimp only; omega, by rw [ep]; omega, ?_⟩⟩
        dsimp only
        rw [el, e0]; omega
      · rw [w32_id (x := z1) (by omega), if_pos (by omega), w32_id (x := ((pp C i : Nat) : Int)) (by omega)]
        by_cases q2 : (pp C i : Int) < z1
        · rw [if_pos q2, bX_some, if_pos rfl, bX_some]
          refine WP_some.2 ⟨by show (i : Int) + 1 = _; omega, .inr ⟨by dsimp only; omega, by dsimp only; omega, by rw [ep]; omega, ?_⟩⟩
          dsimp only
          rw [el, ← c4]; omega
        · rw [if_neg q2, bX_some, if_neg (by decide), bX_some]
          refine WP_some.2 ⟨by show (i : Int) + 1 = _; omega, .inr ⟨c1, c2, by rw [ep]; omega, ?_⟩⟩
          dsimp only
          rw [el, ← c4]; omega
    · rw [if_neg q] at ep el
      rw [if_neg (by omega), bX_some, if_neg (by decide), bX_some, ]
      refine WP_some.2 ⟨by show (i : Int) + 1 = _; omega, ?_⟩
      rw [ep, el]; exact b2
  · obtain ⟨z1, z2⟩ := s
    obtain ⟨b1, b2⟩ := hI
    dsimp only at b1 b2
    subst b1
    unfold mX23_connect_L5
    dsimp only
    rw [pn, if_neg (by omega)]
    refine WP_some.2 ?_
    rcases b2 with ⟨_, f⟩ | ⟨_, _, _, c4⟩
    · exact absurd f h1
    · exact c4
theorem MOw.set (o : MOw S k C R) (hk : k < 4) {p : Nat} (hp : p < 2 * kLy C) (hn : n < 1000) : MOw (sI S 2135 (4712 * k + p) (n : Int)) k C (rSet R p n) := by
  refine ⟨fun x hx => ?_, fun x hx => ?_⟩
  · have ox := o.1 x hx
    have e : ∀ f, f ≠ 20 → rSet R p n f x = R f x := fun f hf => if_neg (fun z => hf z.1)
    rw [hI_sI_a (a := 2135) (b := 2136) (by omega), hI_sI_a (a := 2135) (b := 2137) (by omega), hI_sI_a (a := 2135) (b := 2138) (by omega), e 21 (by omega), e 31 (by omega), e 32 (by omega)]
    refine ⟨?_, ox.2⟩
    by_cases q : x = p
    · have : rSet R p n 20 x = (n : Int) := if_pos ⟨rfl, q⟩
      rw [this, q, gI_set, w32_id (by omega)]
    · have : rSet R p n 20 x = R 20 x := if_neg (fun z => q z.2)
      rw [this, hI_sI_i (by omega)]; exact ox.1
  · have e : rSet R p n 22 x = R 22 x := if_neg (by omega)
    rw [hI_sI_a (by omega), e]; exact o.2 x hx
theorem MOw.op (o : MOw S k C R) : MOw (sI S 2139 (256 * k + n) 0) k C (rOp R n) := by
  refine ⟨fun x hx => ?_, fun x hx => ?_⟩
  · have e : ∀ f, f ≠ 22 → rOp R n f x = R f x := fun f hf => if_neg (fun z => hf z.1)
    rw [hI_sI_a (by omega), hI_sI_a (by omega), hI_sI_a (by omega), hI_sI_a (by omega), e 20 (by omega), e 21 (by omega), e 31 (by omega), e 32 (by omega)]; exact o.1 x hx
  · by_cases q : x = n
    · have : rOp R n 22 x = 0 := if_pos ⟨rfl, q⟩
      rw [this, q, gI_set]; rfl
    · have : rOp R n 22 x = R 22 x := if_neg (fun z => q z.2)
      rw [this, hI_sI_i (by omega)]; exact o.2 x hx
theorem m_co127 (h : MRt S k C) (o : MOw S k C R) (rr : RRg C R) (hk : k < 4) (g : GSz C) (hn : n < kN C) {f : Nat → Nat} {m : Nat} (hm : m < 4712) (hf : ∀ i, i < m → f i < 2 * kLy C) (hw : ∀ i, i ≤ m → gI S 2144 i = (f i : Int)) {T : Sto} :
    WP (lpF (mX23_connect_L127 ((m : Int), T) (n : Int)) (0, S)) (fun z => MOw z k C (rQ C R n f 0 m 0) ∧ CM k S z ∧ ∀ i, gI z 2144 i = gI S 2144 i) := by
  have g5 := g.2.2.2.2.1
  have g7 := g.2.2.2.2.2.2.1
  refine WP_cnt m (fun i s => s.1 = (i : Int) ∧ MOw s.2 k C (rQ C R n f 0 i 0) ∧ CM k S s.2 ∧ ∀ j, gI s.2 2144 j = gI S 2144 j) (by unfold cFU; omega) ⟨rfl, o.eq rQ_0, CM.refl, fun _ => rfl⟩ (fun i s hi hI => ?_) (fun s hI => ?_)
  · obtain ⟨z1, z2⟩ := s
    obtain ⟨b1, b2, b3, b4⟩ := hI
    dsimp only at b1 b2 b3 b4
    subst b1
    have hz := h.cm b3
    have rq : RRg C (rQ C R n f 0 i 0) := rr.q hn
    have fi := hf i hi
    have r0 := rq.1 (f i) fi
    have rob := rQ_rob (C := C) (R := R) (n := n) (f := f) (a := 0) (b := i) (c := 0) (by omega) ⟨by omega, .inl rfl⟩
    unfold mX23_connect_L127
    dsimp only
    rw [w32_id (by omega), w32_id (by omega), if_pos (by omega), rdI_e (by omega), Int.toNat_natCast, b4, hw i (by omega), m_own hz b2 hk g fi, bX_some, w32_id (x := rQ C R n f 0 i 0 20 (f i)) (by omega), w32_id (x := (n : Int)) (by omega)]
    generalize hQ : rQ C R n f 0 i 0 = Q at *
    have skip : (Q 20 (f i) = -1 ∨ Q 20 (f i) = (n : Int)) → WP (some (Sum.inl ((i : Int) + 1, z2)) : Option ((Int × Sto) ⊕ Sto)) (WE (fun s => s.1 = ((i + 1 : Nat) : Int) ∧ MOw s.2 k C (rQ C R n f 0 (i + 1) 0) ∧ CM k S s.2 ∧ ∀ j, gI s.2 2144 j = gI S 2144 j) (fun z => MOw z k C (rQ C R n f 0 m 0) ∧ CM k S z ∧ ∀ i, gI z 2144 i = gI S 2144 i)) := fun c => by
      have e : rRb Q n (f i) = Q := if_pos c
      rw [e] at rob
      exact WP_some.2 ⟨by show (i : Int) + 1 = _; omega, b2.eq rob, b3, b4⟩
    by_cases q : Q 20 (f i) = -1
    · rw [if_neg (fun g => g q), bX_some, if_neg (by decide), bX_some]
      exact skip (.inl q)
    · rw [if_pos q]
      by_cases q2 : Q 20 (f i) = (n : Int)
      · rw [if_neg (fun g => g q2), bX_some, if_neg (by decide), bX_some]
        exact skip (.inr q2)
      · obtain ⟨y, hy⟩ : ∃ y : Nat, Q 20 (f i) = (y : Int) := ⟨(Q 20 (f i)).toNat, by omega⟩
        have e : rRb Q n (f i) = rFr Q (Q 20 (f i)) := if_neg (fun c => c.elim q q2)
        rw [e, hy] at rob
        rw [if_pos q2, bX_some, if_pos rfl, hy]
        refine WP_call (R := fun z => MOw z k C (rFr Q (y : Int)) ∧ CM k z2 z ∧ ∀ i, gI z 2144 i = gI z2 2144 i) (WP_call (m_rob hz b2 rq hk g (y := y) (by omega)) (fun x hx => WP_some.2 hx)) (fun x hx => ?_)
        obtain ⟨x1, x2, x3⟩ := hx
        exact WP_some.2 ⟨by show (i : Int) + 1 = _; omega, x1.eq rob, b3.tr x2, fun j => (x3 j).trans (b4 j)⟩
  · obtain ⟨z1, z2⟩ := s
    obtain ⟨b1, b2, b3, b4⟩ := hI
    dsimp only at b1 b2 b3 b4
    subst b1
    unfold mX23_connect_L127
    dsimp only
    rw [if_neg (by omega)]
    exact WP_some.2 ⟨b2, b3, b4⟩
theorem m_co174 (h : MRt S k C) {f : Nat → Nat} {m : Nat} (o : MOw S k C (rQ C R n f 0 m 0)) (rr : RRg C R) (hk : k < 4) (g : GSz C) (hn : n < kN C) (hm : m < 4712) (hf : ∀ i, i < m → f i < 2 * kLy C ∧ ∃ j, j < 5 ∧ nxF C (f i) j = (f (i + 1) : Int)) (hw : ∀ i, i ≤ m → gI S 2144 i = (f i : Int)) {T : Sto} :
    WP (lpF (mX23_connect_L174 ((m : Int), T) (n : Int)) (0, S)) (fun z => MOw z k C (rQ C R n f m m m) ∧ CM k S z) := by
  have g5 := g.2.2.2.2.1
  have g7 := g.2.2.2.2.2.2.1
  refine WP_cnt m (fun i s => s.1 = (i : Int) ∧ MOw s.2 k C (rQ C R n f i m i) ∧ CM k S s.2 ∧ ∀ j, gI s.2 2144 j = gI S 2144 j) (by unfold cFU; omega) ⟨rfl, o, CM.refl, fun _ => rfl⟩ (fun i s hi hI => ?_) (fun s hI => ?_)
  · obtain ⟨z1, z2⟩ := s
    obtain ⟨b1, b2, b3, b4⟩ := hI
    dsimp only at b1 b2 b3 b4
    subst b1
    have hz := h.cm b3
    obtain ⟨fi, j, j1, j2⟩ := hf i hi
    have zt : (4712 * (k : Int) + (f i : Int)).toNat = 4712 * k + f i := by omega
    have s1 := (b2.set (n := n) hk fi (by omega)).eq rQ_set
    have c1 : CM k S (sI z2 2135 (4712 * k + f i) (n : Int)) := b3.sI (by omega)
    unfold mX23_connect_L174
    dsimp only
    rw [w32_id (by omega), w32_id (by omega), if_pos (by omega), rdI_e (by omega), Int.toNat_natCast, b4, hw i (by omega), hz.1.1, wrI_e (by omega), zt, rdI_e (by omega), rdI_e (by omega), Int.toNat_natCast, hI_sI_a (by omega), hI_sI_a (by omega), show ((i : Int) + 1).toNat = i + 1 by omega, b4, b4, hw i (by omega), hw (i + 1) (by omega)]
    refine WP_call (m_step (h.cm c1) s1 hk g fi j1 j2) (fun x hx => ?_)
    obtain ⟨x1, x2, x3⟩ := hx
    exact WP_some.2 ⟨by show (i : Int) + 1 = _; omega, x1.eq rQ_join, c1.tr x2, fun t => by dsimp only; rw [x3, hI_sI_a (by omega)]; exact b4 t⟩
  · obtain ⟨z1, z2⟩ := s
    obtain ⟨b1, b2, b3, b4⟩ := hI
    dsimp only at b1 b2 b3 b4
    subst b1
    unfold mX23_connect_L174
    dsimp only
    rw [if_neg (by omega)]
    exact WP_some.2 ⟨b2, b3⟩
/-- what the nearest pin is, behind a search -/
def NrM (C R : Chp) (n : Nat) (dear : Bool) (z : Int × Sto) : Prop := (z.1 = -1 ∧ whl C R n) ∨ (¬ whl C R n ∧ DOk C R n dear (dM z.2) ∧ (∀ p, p < 2 * kLy C → gI z.2 2141 p = 1000000000 ∨ (0 ≤ gI z.2 2141 p ∧ gI z.2 2141 p ≤ 60000)) ∧ NrR C R n (dM z.2) z.1)
theorem m_nearO (h : MRt S k C) (o : MOw S k C (rOp R n)) (hp : MPp S C) (hk : k < 4) (w : WFC C) (wp : WFP C) (h0 : C 16 0 ≠ 0) (g : GSz C) (hV : RInv C (rOp R n)) (hn : n < kN C) :
    WP (mX23_nearestPin S (n : Int) (dI dear)) (fun z => Ch 2141 2143 S z.2 ∧ NrM C R n dear z) := by
  refine (m_nearest (dear := dear) h o hp hk w wp h0 g hV hn).mono (fun z hz => ?_)
  rw [whl_cg rOp_20, DOk_cg rOp_20, NrR_cg4 rOp_20] at hz
  exact hz
theorem m_co109 (h : MRt S k C) (hp : MPp S C) (hk : k < 4) (w : WFC C) (wp : WFP C) (h0 : C 16 0 ≠ 0) (g : GSz C) (hn : n < kN C) {R1 : Chp} {y : Int × Sto} (ho : MOw y.2 k C (rOp R1 n)) (hc : CnI C R n dear R1) (cy : CM k S y.2) (hcn : cnF C n dear 700 R1 = conF C R n dear) (hy : NrM C R1 n dear y) :
    WP (lpF (mX23_connect_L109 (n : Int) (dI dear)) (y.1, y.2)) (fun z => ∃ R', MOw z.2 k C (rOp R' n) ∧ CnI C R n dear R' ∧ CM k S z.2 ∧ ((z.1 = -1 ∧ conF C R n dear = (rOp R' n, 1)) ∨ (z.1 = -2 ∧ conF C R n dear = (rFr R' (n : Int), 0)))) := by
  have g5 := g.2.2.2.2.1
  have g8 := g.2.2.2.2.2.2.2
  refine WP_lpM (fun s m => ∃ R', MOw s.2 k C (rOp R' n) ∧ CnI C R n dear R' ∧ CM k S s.2 ∧ cnF C n dear m R' = conF C R n dear ∧ ucn C R' n < m ∧ NrM C R' n dear s) (fun s m hI => ?_) (m := 700) ⟨R1, ho, hc, cy, hcn, by have := ucn_le (C := C) (R := R1) (n := n); omega, hy⟩ (by unfold cFU; omega)
  obtain ⟨z1, z2⟩ := s
  obtain ⟨R', b1, b2, b3, b4, b5, b6⟩ := hI
  obtain ⟨u, hu⟩ : ∃ u, m = u + 1 := ⟨m - 1, by omega⟩
  subst hu
  dsimp only at b1 b3
  have b4 : cG (whl C R' n) (rOp R' n, 1) (cG (∃ i, cand C R' n (dF C R' n dear) i) (cnF C n dear u (rWay C R' n dear)) (rFr R' (n : Int), 0)) = conF C R n dear := b4
  have hz := h.cm b3
  have pz := hp.cm b3
  unfold mX23_connect_L109
  dsimp only
  rcases b6 with ⟨e, q⟩ | ⟨q, d1, d2, r⟩
  · have e : z1 = -1 := e
    subst e
    rw [if_neg (by decide)]
    rw [cG_t q] at b4
    exact WP_some.2 ⟨R', b1, b2, b3, .inl ⟨rfl, b4.symm⟩⟩
  · rw [cG_f q] at b4
    have r2 : NrR C R' n (dM z2) z1 := r
    clear r
    have d1 : DOk C R' n dear (dM z2) := d1
    have hF := dF_ok d1
    have eqd : ∀ x, x < 2 * kLy C → dM z2 x = dF C R' n dear x := fun x hx => d1.eq hF hx
    rcases r2 with ⟨_, r⟩ | ⟨e, _, r⟩ | ⟨b, e, r⟩
    · exact absurd r q
    · subst e
      rw [if_neg (by decide)]
      rw [cG_f (fun ⟨i, hi⟩ => r i ((cand_cg w wp h0 eqd).2 hi))] at b4
      exact WP_some.2 ⟨R', b1, b2, b3, .inr ⟨rfl, b4.symm⟩⟩
    · subst e
      have q3 := NrB_cg w wp h0 eqd r
      obtain ⟨⟨i, i1, i2⟩, _⟩ := r
      have bl : b < 2 * kLy C := by have := (pp_lt w wp h0 i1.1).1; omega
      have nb : nrB C R' n (dF C R' n dear) = b := (Classical.epsilon_spec (p := NrB C R' n (dF C R' n dear)) ⟨b, q3⟩ : NrB C R' n (dF C R' n dear) (nrB C R' n (dF C R' n dear))).eq q3
      rw [cG_t ⟨i, (cand_cg w wp h0 eqd).1 i1⟩] at b4
      have hV := b2.fin.1.1
      rw [w32_id (by omega), if_pos (by omega)]
      refine WP_call (m_wayBack (dear := dear) hz b1 hV hk g w hn (by rw [DOk_cg rOp_20]; exact d1) d2 bl (by rw [← i2]; exact i1.2.2.2)) (fun x hx => ?_)
      obtain ⟨x1, x2⟩ := x
      obtain ⟨c1, m, c2, c3, c4, c5, c6⟩ := hx
      dsimp only at c1 c2 c6
      subst c2
      rw [fPr_cg rOp_20, rOp_20] at c4
      have c5 : ∀ i, i < m → R' 20 (fPr C R' n dear b i) ≠ (n : Int) := fun i hi => by have := c5 i hi; rw [fPr_cg rOp_20, rOp_20] at this; exact this
      have c6 : ∀ i, i ≤ m → gI x2 2144 i = (fPr C R' n dear b i : Int) := fun i hi => by have := c6 i hi; rw [fPr_cg rOp_20] at this; exact this
      have ew : rWay C R' n dear = rQ C R' n (fPr C R' n dear b) m m m := by
        unfold rWay
        rw [nb, wLen_eq ⟨c4, c5⟩]
      rw [ew] at b4
      have m0 : 0 < m := Nat.pos_of_ne_zero (fun e => by rw [e] at c4; exact i1.2.2.1 (by rw [i2]; exact c4))
      have uq := ucn_q (R := R') (f := fPr C R' n dear b) (b := m) (c := m) i1.1 i1.2.1 i1.2.2.1 i2.symm m0
      have wi := way_in hF bl (by rw [← eqd b bl, ← i2]; exact i1.2.2.2) c5
      have v3 := b2.way (f := fPr C R' n dear b) (m := m) hn c4 (fun i hi => ⟨(wi i (by omega)).1.1, (wi i (by omega)).2 hi⟩)
      have k2 := CM.of (k := k) c1 (by omega)
      have rr := hV.1
      refine WP_call (m_co127 (hz.cm k2) (b1.ch c1 (by omega)) rr hk g hn c3 (fun i hi => (wi i (by omega)).1.1) c6) (fun y1 h1 => ?_)
      obtain ⟨a1, a2, a3⟩ := h1
      refine WP_call (m_co174 (hz.cm (k2.tr a2)) a1 rr hk g hn c3 (fun i hi => ⟨(wi i (by omega)).1.1, ((wi i (by omega)).2 hi).2⟩) (fun i hi => (a3 i).trans (c6 i hi))) (fun y2 h2 => ?_)
      obtain ⟨e1, e2⟩ := h2
      have kc := (b3.tr k2).tr (a2.tr e2)
      have e1 := e1.eq rQ_op
      refine WP_call (m_nearO (dear := dear) (h.cm kc) e1 (hp.cm kc) hk w wp h0 g v3.fin.1.1 hn) (fun v hv => WP_some.2 ?_)
      exact ⟨u, by omega, _, e1.ch hv.1 (by omega), v3, kc.tr (CM.of hv.1 (by omega)), b4, by omega, hv.2⟩
theorem rFr_op : rEq (rFr (rOp R n) (n : Int)) (rFr R (n : Int)) := by
  have e := rFr_e4 (rOp_e4 (R := R) (n := n)) (y := (n : Int))
  intro g x q
  rcases q with rfl | rfl | rfl | rfl | rfl
  · exact congrFun e.1 x
  · exact congrFun e.2.1 x
  · show (if (x : Int) = (n : Int) then 1 else rOp R n 22 x) = (if (x : Int) = (n : Int) then 1 else R 22 x)
    by_cases t : (x : Int) = (n : Int)
    · rw [if_pos t, if_pos t]
    · rw [if_neg t, if_neg t]; exact if_neg (fun z => t (by omega))
  · exact congrFun e.2.2.1 x
  · exact congrFun e.2.2.2 x
theorem m_connect (h : MRt S k C) (hp : MPp S C) (o : MOw S k C R) (hk : k < 4) (w : WFC C) (wp : WFP C) (h0 : C 16 0 ≠ 0) (g : GSz C) (hn : n < kN C) (h1 : pPrev (kPf C) n (kPn C) ≠ -1) (hV : RInv C R) (hE : ∀ p, p < 2 * kLy C → R 20 p ≠ (n : Int)) :
    WP (mX23_connect S (n : Int) (dI dear)) (fun z => z.1 = (conF C R n dear).2 ∧ MOw z.2 k C (conF C R n dear).1 ∧ CnO C R n dear (conF C R n dear).1 (conF C R n dear).2 ∧ CM k S z.2) := by
  have g5 := g.2.2.2.2.1
  have g7 := g.2.2.2.2.2.2.1
  obtain ⟨i0, j1, j2, j3, j4⟩ := sP_at w wp h0 g h1
  have pL : pp C i0 < 2 * kLy C := by omega
  have kpp := kp_pin w wp h0 j1
  have hI := hV.2.1
  have cs : (conF C R n dear) = cnF C n dear 700 (rSet R (pp C i0) n) := by unfold conF; rw [j3, Int.toNat_natCast]
  have rm1 : R 20 (pp C i0) = -1 := (hI _ pL (by rw [kpp]; omega)).elim id (fun e => absurd (by rw [e, kpp, j2]) (hE _ pL))
  have rs : CnI C R n dear (rSet R (pp C i0) n) := CnI.start hV hn rm1 (by rw [kpp, j2])
  unfold mX23_connect
  refine WP_call (m_first5 h hp w wp h0 g hn h1) (fun y7 h7 => ?_)
  subst h7
  have z1 : (4712 * (k : Int) + (pp C i0 : Int)).toNat = 4712 * k + pp C i0 := by omega
  have z2 : (256 * (k : Int) + (n : Int)).toNat = 256 * k + n := by omega
  rw [j3, h.1.1, wrI_e (by omega), z1, hI_sI_a (by omega), h.1.1, wrI_e (by omega), z2]
  have o2 := (o.set (n := n) hk pL (by omega)).op (n := n)
  have c2 : CM k S (sI (sI S 2135 (4712 * k + pp C i0) (n : Int)) 2139 (256 * k + n) 0) := (CM.refl.sI (by omega)).sI (by omega)
  refine WP_call (m_nearO (dear := dear) (h.cm c2) o2 (hp.cm c2) hk w wp h0 g rs.fin.1.1 hn) (fun x hx => ?_)
  obtain ⟨x1, x2⟩ := hx
  refine WP_call (m_co109 (y := x) h hp hk w wp h0 g hn (o2.ch x1 (by omega)) rs (c2.tr (CM.of x1 (by omega))) cs.symm x2) (fun y hy => ?_)
  obtain ⟨R', y1, y2, y3, y4⟩ := hy
  rcases y4 with ⟨e, e2⟩ | ⟨e, e2⟩
  · rw [e, if_neg (by decide), bX_some, if_pos (by decide), e2]
    exact WP_some.2 ⟨rfl, y1, y2.fin, y3⟩
  · rw [e, if_pos (by decide), if_neg (by decide), e2]
    refine WP_call (R := fun z => MOw z k C (rFr (rOp R' n) (n : Int)) ∧ CM k y.2 z ∧ ∀ i, gI z 2144 i = gI y.2 2144 i) (WP_call (m_rob (h.cm y3) y1 y2.fin.1.1.1 hk g hn) (fun x hx => WP_some.2 hx)) (fun v hv => ?_)
    exact WP_some.2 ⟨rfl, hv.1.eq rFr_op, y2.fail, y3.tr hv.2.1⟩
end MCON
