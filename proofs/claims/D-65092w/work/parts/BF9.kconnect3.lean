/-! a net is connected: the class -/
theorem pLo_at {v : Nat → Int} {f : Nat → Nat × Int × Nat} {n : Nat} : ∀ m, (∀ i, i < m → v i < 1000000) → pPrev f n m ≠ -1 → ∃ i, i < m ∧ (f i).1 = n ∧ pLo v f n m = v i := by
  intro m
  induction m with
  | zero => intro _ h; exact absurd rfl h
  | succ m ih =>
    intro hv h
    have e : pPrev f n (m + 1) = if (f m).1 = n then (m : Int) else pPrev f n m := rfl
    have e2 : pLo v f n (m + 1) = if (f m).1 = n then min (pLo v f n m) (v m) else pLo v f n m := rfl
    rw [e] at h
    rw [e2]
    by_cases q : (f m).1 = n
    · rw [if_pos q]
      by_cases p : pPrev f n m = -1
      · have := hv m (by omega)
        rw [(pLo_none (v := v) p).1]
        exact ⟨m, by omega, q, by omega⟩
      · obtain ⟨i, i1, i2, i3⟩ := ih (fun i hi => hv i (by omega)) p
        rw [i3]
        rcases Int.le_total (v i) (v m) with l | l
        · exact ⟨i, by omega, i2, by omega⟩
        · exact ⟨m, by omega, q, by omega⟩
    · rw [if_neg q] at h ⊢
      obtain ⟨i, i1, i2, i3⟩ := ih (fun i hi => hv i (by omega)) h
      exact ⟨i, by omega, i2, i3⟩
theorem sP_at {C : Chp} (w : WFC C) (wp : WFP C) (h0 : C 16 0 ≠ 0) (g : GSz C) {n : Nat} (h1 : pPrev (kPf C) n (kPn C) ≠ -1) : ∃ i, i < kPn C ∧ (kPf C i).1 = n ∧ sP C n = (pp C i : Int) ∧ pp C i < kLy C :=
  have g5 := g.2.2.2.2.1
  (pLo_at (v := fun i => (pp C i : Int)) (kPn C) (fun i hi => by have := (pp_lt w wp h0 hi).1; show (pp C i : Int) < _; omega) h1).elim (fun i ⟨i1, i2, i3⟩ => ⟨i, i1, i2, i3, (pp_lt w wp h0 i1).1⟩)
theorem cand_cg {C R : Chp} {n : Nat} {d d' : Nat → Int} (w : WFC C) (wp : WFP C) (h0 : C 16 0 ≠ 0) (e : ∀ x, x < 2 * kLy C → d x = d' x) {i : Nat} : cand C R n d i ↔ cand C R n d' i := by
  constructor
  · rintro ⟨a, b, c, f⟩
    exact ⟨a, b, c, by rw [← e _ (by have := (pp_lt w wp h0 a).1; omega)]; exact f⟩
  · rintro ⟨a, b, c, f⟩
    exact ⟨a, b, c, by rw [e _ (by have := (pp_lt w wp h0 a).1; omega)]; exact f⟩
theorem NrB_cg {C R : Chp} {n b : Nat} {d d' : Nat → Int} (w : WFC C) (wp : WFP C) (h0 : C 16 0 ≠ 0) (e : ∀ x, x < 2 * kLy C → d x = d' x) (h : NrB C R n d b) : NrB C R n d' b := by
  obtain ⟨⟨i, i1, i2⟩, h2⟩ := h
  have bl : b < 2 * kLy C := by have := (pp_lt w wp h0 i1.1).1; omega
  refine ⟨⟨i, (cand_cg w wp h0 e).1 i1, i2⟩, fun j hj => ?_⟩
  have hj' := (cand_cg w wp h0 e).2 hj
  have := h2 j hj'
  rw [← e b bl, ← e (pp C j) (by have := (pp_lt w wp h0 hj.1).1; omega)]
  exact this
section KCON3
variable {S z : Sto} {k : Nat} {C R : Chp} {n : Nat} {dear : Bool}
theorem k_clear (h4 : gI S 229 4 = ((2 * kLy C : Nat) : Int)) (hl : kLy C ≤ 2356) : WP (lpF mX15_connect_L2 (0, S)) (fun z => Ch 233 233 S z ∧ ∀ p, p < 2 * kLy C → gI z 233 p = 0) := by
  refine WP_cnt (2 * kLy C) (fun i z => z.1 = (i : Int) ∧ Ch 233 233 S z.2 ∧ ∀ p, p < i → gI z.2 233 p = 0) (by unfold cFU; omega) ⟨rfl, Ch.refl, fun x hx => absurd hx (by omega)⟩ (fun i z hi hI => ?_) (fun z hI => ?_)
  · obtain ⟨z1, z2⟩ := z
    obtain ⟨b1, b2, b3⟩ := hI
    dsimp only at b1 b2 b3
    subst b1
    have e4 : gI z2 229 4 = ((2 * kLy C : Nat) : Int) := (b2.1 _ _ (by omega)).trans h4
    unfold mX15_connect_L2
    dsimp only
    rw [e4, w32_id (by omega), w32_id (by omega), if_pos (by omega), wrI_e (by omega), Int.toNat_natCast]
    refine WP_some.2 ⟨by show (i : Int) + 1 = _; omega, b2.sI (by omega), fun x hx => ?_⟩
    by_cases q : x = i
    · subst q
      show gI (sI z2 233 x 0) 233 x = _
      rw [gI_set, w32_id (by omega)]
    · show gI (sI z2 233 i 0) 233 x = _
      rw [hI_sI_i q]; exact b3 x (by omega)
  · obtain ⟨z1, z2⟩ := z
    obtain ⟨b1, b2, b3⟩ := hI
    dsimp only at b1 b2 b3
    subst b1
    have e4 : gI z2 229 4 = ((2 * kLy C : Nat) : Int) := (b2.1 _ _ (by omega)).trans h4
    unfold mX15_connect_L2
    dsimp only
    rw [e4, w32_id (by omega), if_neg (by omega)]
    exact WP_some.2 ⟨b2, b3⟩
theorem k_first37 (hp : KPp S k C) (hk : k < 4) (w : WFC C) (wp : WFP C) (h0 : C 16 0 ≠ 0) (g : GSz C) (hn : n < kN C) : WP (lpF (mX15_connect_L37 S) (1000000, pPrev (kPf C) n (kPn C))) (fun z => z = sP C n) := by
  have g5 := g.2.2.2.2.1
  have g8 := g.2.2.2.2.2.2.2
  have pr0 := pPrev_rng (f := kPf C) (n := n) (m := kPn C)
  have rgl : ∀ m, m ≤ kPn C → pLo (fun i => (pp C i : Int)) (kPf C) n m ≤ 1000000 ∧ 0 ≤ pLo (fun i => (pp C i : Int)) (kPf C) n m := fun m hm => by
    have := pLo_rng (v := fun i => (pp C i : Int)) (f := kPf C) (n := n) (m := m) (a := 0) (b := 5000) (fun p hp' => by have := (pp_lt w wp h0 (i := p) (by omega)).1; show (0 : Int) ≤ (pp C p : Int) ∧ (pp C p : Int) ≤ 5000; omega) (by omega) (by omega)
    omega
  refine WP_lpF (fun z => ∃ m, m ≤ kPn C ∧ z.2 = pPrev (kPf C) n m ∧ 0 ≤ z.1 ∧ z.1 ≤ 1000000 ∧ min z.1 (pLo (fun i => (pp C i : Int)) (kPf C) n m) = sP C n) (fun z => (z.2 + 1).toNat) ⟨kPn C, Nat.le_refl _, rfl, by show (0 : Int) ≤ 1000000; omega, by show (1000000 : Int) ≤ 1000000; omega, by have := rgl (kPn C) (Nat.le_refl _); show min (1000000 : Int) (sP C n) = _; unfold sP; omega⟩ (by unfold cFU; show (pPrev (kPf C) n (kPn C) + 1).toNat < _; omega) (fun z hI => ?_)
  obtain ⟨z1, z⟩ := z
  obtain ⟨m, b1, b2, b3, b4, b5⟩ := hI
  dsimp only at b2 b3 b4 b5
  have pr := pPrev_rng (f := kPf C) (n := n) (m := m)
  rw [← b2] at pr
  unfold mX15_connect_L37
  dsimp only
  rw [w32_id (by omega)]
  by_cases q : z = -1
  · rw [if_neg (fun g => g q)]
    refine WP_some.2 ?_
    show z1 = _
    rw [(pLo_none (v := fun i => (pp C i : Int)) (by rw [← b2]; exact q)).1] at b5
    omega
  · obtain ⟨y, rfl⟩ : ∃ y : Nat, z = (y : Int) := ⟨z.toNat, by omega⟩
    have nt : (kPf C y).1 = n := by have := pPrev_net (f := kPf C) (n := n) (m := m) (by rw [← b2]; exact q); rw [← b2, Int.toNat_natCast] at this; exact this
    have hy : y < kPn C := by omega
    have nx : gI S 225 y = pPrev (kPf C) n y := by have := (hp.1.2.1 y hy).2.2.2; rw [← nt]; exact this
    have pl := (pp_lt w wp h0 hy).1
    have pr2 := pPrev_rng (f := kPf C) (n := n) (m := y)
    have lp := (pLo_prev (v := fun i => (pp C i : Int)) (f := kPf C) (n := n) (m := m) (q := y) b2.symm).1
    have ry := rgl y (by omega)
    rw [lp] at b5
    rw [if_pos q, k_point hp hk w wp h0 hy, bX_some, min_e (by omega) (by omega), bX_some, rdI_e (by omega), Int.toNat_natCast, nx]
    refine WP_some.2 ⟨⟨y, by omega, rfl, ?_, ?_, ?_⟩, by show (pPrev (kPf C) n y + 1).toNat < ((y : Int) + 1).toNat; omega⟩
    · show 0 ≤ min z1 (pp C y : Int); omega
    · show min z1 (pp C y : Int) ≤ 1000000; omega
    · show min (min z1 (pp C y : Int)) (pLo (fun i => (pp C i : Int)) (kPf C) n y) = sP C n; omega
theorem KOw.chD' (h : KOw S k C R) (c : ChD S z) : KOw z k C R := h.chD c
theorem k_connect (h : KRt S k C) (hp : KPp S k C) (o : KOw S k C R) (hk : k < 4) (w : WFC C) (wp : WFP C) (h0 : C 16 0 ≠ 0) (g : GSz C) (hn : n < kN C) (h1 : pPrev (kPf C) n (kPn C) ≠ -1) (hV : RInv C R) (hE : ∀ p, p < 2 * kLy C → R 20 p ≠ (n : Int)) :
    WP (mX15_connect S (n : Int) (if dear = true then 1 else 0)) (fun z => z.1 = (conF C R n dear).2 ∧ KOw z.2 k C (conF C R n dear).1 ∧ CnO C R n dear (conF C R n dear).1 (conF C R n dear).2 ∧ ChC k S z.2) := by
  have rr := hV.1
  have hI := hV.2.1
  have g5 := g.2.2.2.2.1
  have g7 := g.2.2.2.2.2.2.1
  have g8 := g.2.2.2.2.2.2.2
  obtain ⟨i0, j1, j2, j3, j4⟩ := sP_at w wp h0 g h1
  unfold mX15_connect
  refine WP_call (k_clear h.1.2.2.2.1 g5) (fun y3 h3 => ?_)
  obtain ⟨c3, m3⟩ := h3
  have d3 : ChD S y3 := ChD.of c3 (by omega)
  have h3' := h.chD d3
  have p3 := hp.chC (ChC.ofD d3)
  have o3 := o.chD d3
  have fs : gI y3 224 n = pPrev (kPf C) n (kPn C) := (p3.1.2.2 n hn).1
  rw [rdI_e (by omega), Int.toNat_natCast, fs]
  refine WP_call (k_first37 p3 hk w wp h0 g hn) (fun y9 h9 => ?_)
  subst h9
  have pL : pp C i0 < 2 * kLy C := by omega
  have kpp := kp_pin w wp h0 j1
  have eR : rRb R n (pp C i0) = R := by
    unfold rRb
    rw [if_pos]
    rcases hI _ pL (by rw [kpp]; omega) with e | e
    · exact .inl e
    · exact .inr (by rw [e, kpp, j2])
  rw [j3]
  refine WP_call (k_own h3' o3 rr hk g pL hn) (fun x10 h10 => ?_)
  obtain ⟨a1, a2, a3⟩ := h10
  rw [eR] at a1
  have cs : (conF C R n dear) = cnF C n dear 700 (rSet R (pp C i0) n) := by unfold conF; rw [j3, Int.toNat_natCast]
  have rm1 : R 20 (pp C i0) = -1 := (hI _ pL (by rw [kpp]; omega)).elim id (fun e => absurd (by rw [e, kpp, j2]) (hE _ pL))
  have rs : CnI C R n dear (rSet R (pp C i0) n) := CnI.start hV hn rm1 (by rw [kpp, j2])
  have mk : KMk x10 C (rSet R (pp C i0) n) n := fun p hp => by
    rw [a3]
    by_cases e : p = pp C i0
    · rw [if_pos e, if_pos (show rSet R (pp C i0) n 20 p = (n : Int) from if_pos ⟨rfl, e⟩)]
    · have : rSet R (pp C i0) n 20 p = R 20 p := if_neg (fun g => e g.2)
      rw [if_neg e, this, if_neg (hE p hp)]; exact m3 p hp
  refine WP_bE.2 ?_
  have loop : WP (lpF (mX15_connect_L78 (n : Int) (if dear = true then 1 else 0)) x10) (WE (fun s => ∃ R', KOw s k C R' ∧ CnI C R n dear R' ∧ ChC k S s ∧ conF C R n dear = (rOp R' n, 1)) (fun z => z.1 = (conF C R n dear).2 ∧ KOw z.2 k C (conF C R n dear).1 ∧ CnO C R n dear (conF C R n dear).1 (conF C R n dear).2 ∧ ChC k S z.2)) := by
    refine WP_lpM (fun s m => ∃ R', KOw s k C R' ∧ CnI C R n dear R' ∧ KMk s C R' n ∧ ChC k S s ∧ cnF C n dear m R' = conF C R n dear ∧ ucn C R' n < m) (fun s m hI => ?_) (m := 700) ⟨_, a1, rs, mk, (ChC.ofD d3).tr (ChC.ofO a2), cs.symm, by have := ucn_le (C := C) (R := rSet R (pp C i0) n) (n := n); omega⟩ (by unfold cFU; omega)
    obtain ⟨R', b1, v2, b3, b4, b5, b6⟩ := hI
    have b2 := v2.1.1
    obtain ⟨u, hu⟩ : ∃ u, m = u + 1 := ⟨m - 1, by omega⟩
    subst hu
    have b5 : cG (whl C R' n) (rOp R' n, 1) (cG (∃ i, cand C R' n (dF C R' n dear) i) (cnF C n dear u (rWay C R' n dear)) (rFr R' (n : Int), 0)) = conF C R n dear := b5
    have hs := h.chC b4
    have ps := hp.chC b4
    unfold mX15_connect_L78
    refine WP_call (k_whole ps hk w wp h0 g hn b3) (fun x12 h12 => ?_)
    subst h12
    by_cases t : whl C R' n
    · rw [cG_t t] at b5
      rw [bo_t t, if_neg (by decide)]
      exact WP_some.2 ⟨R', b1, v2, b4, b5.symm⟩
    · rw [cG_f t] at b5
      rw [bo_f t, if_pos (by decide)]
      have sp : WP (if ¬ w32 (if dear = true then (1 : Int) else 0) = 0 then bX (mX15_spreadDear s (n : Int)) fun x13 => some x13 else bX (mX15_spread s (n : Int)) fun x14 => some x14) (fun z => ChD s z ∧ (∀ p, gI z 233 p = gI s 233 p) ∧ DOk C R' n dear (fun p => gI z 231 p) ∧ (∀ p, p < 2 * kLy C → gI z 231 p ≤ 60000) ∧ ∀ p, p < 2 * kLy C → R' 20 p ≠ (n : Int) → gI z 231 p ≠ -1 → gI z 232 p = (prF C R' n dear p : Int)) := by
        cases dear with
        | true =>
          rw [if_pos rfl, if_pos (by decide)]
          exact WP_call (k_dear hs b1 b2 hk g w hn b3) (fun z hz => WP_some.2 hz)
        | false =>
          rw [if_neg (by decide)]
          refine WP_call (k_spread hs b1 b2 hk g w hn b3) (fun z hz => WP_some.2 ?_)
          exact ⟨ChD.of hz.1 (by omega), hz.2.1, hz.2.2.1, fun p hp => by have := hz.2.2.2.1 p hp; omega, hz.2.2.2.2⟩
      refine WP_call sp (fun y15 h15 => ?_)
      obtain ⟨e1, e2, e3, e4, e5⟩ := h15
      have m15 : KMk y15 C R' n := fun p hp => (e2 p).trans (b3 p hp)
      have hF := dF_ok e3
      have eqd : ∀ x, x < 2 * kLy C → gI y15 231 x = dF C R' n dear x := fun x hx => e3.eq hF hx
      refine WP_call (k_nearest (ps.chC (ChC.ofD e1)) hk w wp h0 g hn m15 (fun x hx => ⟨(e3 x hx).1, e4 x hx⟩)) (fun x16 h16 => ?_)
      rcases h16 with ⟨q1, q2⟩ | ⟨q1, q2, q3⟩ | ⟨b, q1, q2⟩
      · exact absurd q2 t
      · rw [q1, if_pos (by decide)]
        rw [cG_f (fun ⟨i, hi⟩ => q3 i ((cand_cg w wp h0 eqd).2 hi))] at b5
        refine WP_call (k_free (hs.chD e1) (b1.chD e1) b2 hk g hn) (fun x17 h17 => WP_some.2 ?_)
        obtain ⟨f1, f2, f3⟩ := h17
        rw [← b5]
        exact ⟨rfl, f1, v2.fail, (b4.tr (ChC.ofD e1)).tr (ChC.ofO f2)⟩
      · have q3 := NrB_cg w wp h0 eqd q2
        obtain ⟨⟨i, i1, i2⟩, _⟩ := q2
        have bl : b < 2 * kLy C := by have := (pp_lt w wp h0 i1.1).1; omega
        have nb : nrB C R' n (dF C R' n dear) = b := (Classical.epsilon_spec (p := NrB C R' n (dF C R' n dear)) ⟨b, q3⟩ : NrB C R' n (dF C R' n dear) (nrB C R' n (dF C R' n dear))).eq q3
        rw [cG_t ⟨i, (cand_cg w wp h0 eqd).1 i1⟩] at b5
        rw [q1, w32_id (by omega), if_neg (by omega)]
        refine WP_call (k_back (hs.chD e1) (b1.chD e1) b2 hk g hn m15 e3 e4 e5 bl (by rw [← i2]; exact i1.2.2.2)) (fun x18 h18 => WP_some.2 ?_)
        obtain ⟨m, r1, r2, r3, r4, r5⟩ := h18
        have ew : rWay C R' n dear = rQ C R' n (fPr C R' n dear b) m m m := by
          unfold rWay
          rw [nb, wLen_eq ⟨r1, r2⟩]
        rw [ew] at b5
        have m0 : 0 < m := Nat.pos_of_ne_zero (fun e => by rw [e] at r1; exact i1.2.2.1 (by rw [i2]; exact r1))
        have uq := ucn_q (R := R') (f := fPr C R' n dear b) (b := m) (c := m) i1.1 i1.2.1 i1.2.2.1 i2.symm m0
        have wi := way_in hF bl (by rw [← eqd b bl, ← i2]; exact i1.2.2.2) r2
        have v3 := v2.way (f := fPr C R' n dear b) (m := m) hn r1 (fun i hi => ⟨(wi i (by omega)).1.1, (wi i (by omega)).2 hi⟩)
        exact ⟨u, by omega, _, r3, v3, r4, (b4.tr (ChC.ofD e1)).tr (ChC.ofO r5), b5, by omega⟩
  refine loop.mono (fun r hr => ?_)
  cases r with
  | inr v => exact hr
  | inl s =>
    obtain ⟨R', b1, b2, b3, b4⟩ := hr
    show WP (gk (gR s 229 1) 22 fun g20 => wrI 162 s (g20 + 14) (n : Int) 0 fun S21 => some (1, S21)) _
    rw [(h.chC b3).1.1, gk_chip hk, wrI_e (by omega), Int.toNat_natCast, b4]
    refine WP_some.2 ⟨rfl, ⟨fun p hp => ?_, fun y hy => ?_⟩, b2.fin, b3.tr (ChC.ofO (ChO.refl.sI (by omega)))⟩
    · have e : ∀ f, f ≠ 22 → rOp R' n f p = R' f p := fun f hf => if_neg (fun g => hf g.1)
      dsimp only
      rw [hI_sI_a (by omega), hI_sI_a (by omega), e 20 (by omega), e 21 (by omega), e 31 (by omega), e 32 (by omega)]; exact b1.1 p hp
    · dsimp only
      by_cases e : y = n
      · rw [e, gI_set]
        exact (show rOp R' n 22 n = 0 from if_pos ⟨rfl, rfl⟩).symm
      · rw [hI_sI_i e, b1.2 y hy]
        exact (show rOp R' n 22 y = R' 22 y from if_neg (fun g => e g.2)).symm
end KCON3
