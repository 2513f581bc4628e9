/-! ways back; the class goes them -/
abbrev mtc (C : Chp) (d : Nat → Int) (s : Int) (p j : Nat) : Prop := nxF C p j ≠ -1 ∧ d (nxF C p j).toNat ≠ -1 ∧ d (nxF C p j).toNat + s = d p
def bkF (C : Chp) (d : Nat → Int) (s : Int) (p : Nat) : Nat → Int
  | 0 => -1
  | j + 1 => if bkF C d s p j = -1 ∧ mtc C d s p j then nxF C p j else bkF C d s p j
def fP (C : Chp) (d : Nat → Int) (pr : Nat → Int) (p0 : Nat) : Nat → Nat
  | 0 => p0
  | i + 1 => (bkF C d (pr (fP C d pr p0 i)) (fP C d pr p0 i) 5).toNat
section BK
variable {C R : Chp} {d d' : Nat → Int} {s : Int} {p n : Nat} {dear : Bool}
theorem bkF_some : ∀ m, bkF C d s p m = -1 ∨ ∃ j, j < m ∧ mtc C d s p j ∧ bkF C d s p m = nxF C p j := by
  intro m
  induction m with
  | zero => exact .inl rfl
  | succ m ih =>
    have e : bkF C d s p (m + 1) = if bkF C d s p m = -1 ∧ mtc C d s p m then nxF C p m else bkF C d s p m := rfl
    rw [e]
    by_cases q : bkF C d s p m = -1 ∧ mtc C d s p m
    · rw [if_pos q]; exact .inr ⟨m, by omega, q.2, rfl⟩
    · rw [if_neg q]
      rcases ih with g | ⟨j, j1, j2, j3⟩
      · exact .inl g
      · exact .inr ⟨j, by omega, j2, j3⟩
theorem bkF_none : ∀ m, bkF C d s p m = -1 → ∀ j, j < m → ¬ mtc C d s p j := by
  intro m
  induction m with
  | zero => intro _ j hj; omega
  | succ m ih =>
    intro h j hj g
    have h : (if bkF C d s p m = -1 ∧ mtc C d s p m then nxF C p m else bkF C d s p m) = -1 := h
    by_cases q : bkF C d s p m = -1 ∧ mtc C d s p m
    · rw [if_pos q] at h; exact q.2.1 h
    · rw [if_neg q] at h
      by_cases e : j = m
      · subst e; exact q ⟨h, g⟩
      · exact ih h j (by omega) g
theorem bkF_stay {m : Nat} (h : bkF C d s p m ≠ -1) : ∀ i, bkF C d s p (m + i) = bkF C d s p m := by
  intro i
  induction i with
  | zero => rfl
  | succ i ih =>
    show (if bkF C d s p (m + i) = -1 ∧ mtc C d s p (m + i) then nxF C p (m + i) else bkF C d s p (m + i)) = _
    rw [if_neg (fun g => h (by rw [← ih]; exact g.1)), ih]
theorem bkF_cg (hp : p < 2 * kLy C) (e : ∀ x, x < 2 * kLy C → d x = d' x) : ∀ m, m ≤ 5 → bkF C d s p m = bkF C d' s p m := by
  intro m
  induction m with
  | zero => exact fun _ => rfl
  | succ m ih =>
    intro h
    have hm : mtc C d s p m ↔ mtc C d' s p m := by
      rcases nxF_rng hp (show m < 5 by omega) with g | ⟨q, q1, q2, _⟩
      · exact ⟨fun x => absurd g x.1, fun x => absurd g x.1⟩
      · unfold mtc; rw [q1, Int.toNat_natCast, e q q2, e p hp]
    show (if bkF C d s p m = -1 ∧ mtc C d s p m then nxF C p m else bkF C d s p m) = (if bkF C d' s p m = -1 ∧ mtc C d' s p m then nxF C p m else bkF C d' s p m)
    rw [ih (by omega)]
    by_cases q : bkF C d' s p m = -1 ∧ mtc C d' s p m
    · rw [if_pos q, if_pos ⟨q.1, hm.2 q.2⟩]
    · rw [if_neg q, if_neg (fun g => q ⟨g.1, hm.1 g.2⟩)]
/-- from a point with a cost that is not the net's own a way leads back -/
theorem way_st (h : DOk C R n dear d) (hp : p < 2 * kLy C) (hn : R 20 p ≠ (n : Int)) (hd : d p ≠ -1) :
    ∃ q j : Nat, j < 5 ∧ q < 2 * kLy C ∧ nxF C p j = (q : Int) ∧ bkF C d (prF C R n dear p : Int) p 5 = (q : Int) ∧ d q ≠ -1 ∧ d q + (prF C R n dear p : Int) = d p ∧ 0 < prF C R n dear p := by
  obtain ⟨a1, j, q, a2, a3, a4, a5, a6⟩ := (h p hp).2.2.1 hn hd
  obtain ⟨i, i1, i2⟩ := nxF_sym a3 a2 a4
  rcases bkF_some (C := C) (d := d) (s := (prF C R n dear p : Int)) (p := p) 5 with g | ⟨j', j1, j2, j3⟩
  · exact absurd ⟨by rw [i2]; omega, by rw [i2, Int.toNat_natCast]; exact a5, by rw [i2, Int.toNat_natCast]; exact a6.symm⟩ (bkF_none 5 g i i1)
  · rcases nxF_rng hp j1 with e | ⟨y, y1, y2, _⟩
    · exact absurd e j2.1
    · refine ⟨y, j', j1, y2, y1, by rw [j3, y1], ?_, ?_, a1⟩
      · have := j2.2.1; rw [y1, Int.toNat_natCast] at this; exact this
      · have := j2.2.2; rw [y1, Int.toNat_natCast] at this; exact this
end BK
abbrev prI (C R : Chp) (n : Nat) (dear : Bool) (p : Nat) : Int := (prF C R n dear p : Int)
noncomputable abbrev fPr (C R : Chp) (n : Nat) (dear : Bool) (p0 : Nat) : Nat → Nat := fP C (dF C R n dear) (prI C R n dear) p0
section KBK
variable {S z : Sto} {k : Nat} {C R : Chp} {n : Nat} {dear : Bool}
theorem k_back17 (h : KRt S k C) (hk : k < 4) (g : GSz C) {p : Nat} (hp : p < 2 * kLy C) (hd : ∀ x, x < 2 * kLy C → -1 ≤ gI S 231 x ∧ gI S 231 x ≤ 60000) (hs : 0 ≤ gI S 232 p ∧ gI S 232 p ≤ 11) :
    WP (lpF (mX15_back_L17 ((p : Int), S)) (-1, 0)) (fun z => z = bkF C (fun x => gI S 231 x) (gI S 232 p) p 5) := by
  have g5 := g.2.2.2.2.1
  refine WP_lpF (fun z => ∃ j : Nat, j ≤ 5 ∧ z.2 = (j : Int) ∧ z.1 = bkF C (fun x => gI S 231 x) (gI S 232 p) p j) (fun z => 5 - z.2.toNat) ⟨0, by omega, rfl, rfl⟩ (by unfold cFU; show 5 - _ < _; omega) (fun z hI => ?_)
  obtain ⟨z1, z2⟩ := z
  obtain ⟨j, j1, b2, b3⟩ := hI
  dsimp only at b2 b3
  subst b2
  have rb : z1 = -1 ∨ ∃ q : Nat, z1 = (q : Int) ∧ q < 2 * kLy C := by
    rcases bkF_some (C := C) (d := fun x => gI S 231 x) (s := gI S 232 p) (p := p) j with e | ⟨i, i1, i2, i3⟩
    · exact .inl (b3.trans e)
    · rcases nxF_rng hp (show i < 5 by omega) with e | ⟨y, y1, y2, _⟩
      · exact absurd e i2.1
      · exact .inr ⟨y, b3.trans (i3.trans y1), y2⟩
  have w1 : w32 z1 = z1 := w32_id (by rcases rb with e | ⟨q, q1, q2⟩ <;> omega)
  unfold mX15_back_L17
  dsimp only
  rw [w32_id (by omega), w1]
  by_cases q : j < 5
  · rw [if_pos (by omega)]
    by_cases q1 : z1 = -1
    · rw [if_pos q1, bX_some, if_pos rfl, k_next h hk g hp q, bX_some]
      have go : ∀ v : Int, v = bkF C (fun x => gI S 231 x) (gI S 232 p) p (j + 1) → WP (some (Sum.inl (v, (j : Int) + 1) : (Int × Int) ⊕ Int)) (WE (fun z => (∃ j : Nat, j ≤ 5 ∧ z.2 = (j : Int) ∧ z.1 = bkF C (fun x => gI S 231 x) (gI S 232 p) p j) ∧ (5 - z.2.toNat) < 5 - (j : Int).toNat) (fun z => z = bkF C (fun x => gI S 231 x) (gI S 232 p) p 5)) :=
        fun v hv => WP_some.2 ⟨⟨j + 1, by omega, by show (j : Int) + 1 = _; omega, hv⟩, by show 5 - ((j : Int) + 1).toNat < _; omega⟩
      have st : bkF C (fun x => gI S 231 x) (gI S 232 p) p (j + 1) = if mtc C (fun x => gI S 231 x) (gI S 232 p) p j then nxF C p j else -1 := by
        show (if bkF C (fun x => gI S 231 x) (gI S 232 p) p j = -1 ∧ mtc C (fun x => gI S 231 x) (gI S 232 p) p j then nxF C p j else bkF C (fun x => gI S 231 x) (gI S 232 p) p j) = _
        rw [← b3, q1]
        by_cases m : mtc C (fun x => gI S 231 x) (gI S 232 p) p j
        · rw [if_pos ⟨rfl, m⟩, if_pos m]
        · rw [if_neg (fun g => m g.2), if_neg m]
      rcases nxF_rng hp q with e | ⟨y, y1, y2, _⟩
      · rw [e, if_neg (by decide), bX_some, if_neg (by decide), bX_some]
        exact go _ (by rw [st, if_neg (fun m => m.1 e), q1])
      · have r1 := hd y y2
        have r2 := hd p hp
        rw [y1, w32_id (by omega), if_pos (by omega), rdI_e (by omega), Int.toNat_natCast, w32_id (by omega)]
        by_cases f : gI S 231 y = -1
        · rw [if_neg (fun g => g f), bX_some, if_neg (by decide), bX_some]
          exact go _ (by rw [st, if_neg (fun m => m.2.1 (by rw [y1, Int.toNat_natCast]; exact f)), q1])
        · rw [if_pos f, rdI_e (by omega), Int.toNat_natCast, rdI_e (by omega), Int.toNat_natCast, rdI_e (by omega), Int.toNat_natCast, w32_id (by omega), w32_id (by omega)]
          by_cases f2 : gI S 231 y + gI S 232 p = gI S 231 p
          · rw [if_pos f2, bX_some, if_pos rfl, bX_some]
            exact go _ (by rw [st, if_pos ⟨by rw [y1]; omega, by rw [y1, Int.toNat_natCast]; exact f, by rw [y1, Int.toNat_natCast]; exact f2⟩, y1])
          · rw [if_neg f2, bX_some, if_neg (by decide), bX_some]
            exact go _ (by rw [st, if_neg (fun m => f2 (by have := m.2.2; rw [y1, Int.toNat_natCast] at this; exact this)), q1])
    · rw [if_neg q1, bX_some, if_neg (by decide)]
      refine WP_some.2 ?_
      show z1 = _
      rw [b3] at q1 ⊢
      have := bkF_stay q1 (5 - j)
      rw [show j + (5 - j) = 5 by omega] at this
      exact this.symm
  · rw [if_neg (by omega), bX_some, if_neg (by decide)]
    refine WP_some.2 ?_
    show z1 = _
    rw [b3, show j = 5 by omega]
theorem k_back (h : KRt S k C) (o : KOw S k C R) (rr : RRg C R) (hk : k < 4) (g : GSz C) (hn : n < kN C) (hm : KMk S C R n) (hD : DOk C R n dear (fun p => gI S 231 p)) (hb : ∀ p, p < 2 * kLy C → gI S 231 p ≤ 60000) (hs : ∀ p, p < 2 * kLy C → R 20 p ≠ (n : Int) → gI S 231 p ≠ -1 → gI S 232 p = (prF C R n dear p : Int))
    {p0 : Nat} (hp0 : p0 < 2 * kLy C) (hd0 : gI S 231 p0 ≠ -1) :
    WP (mX15_back S (p0 : Int) (n : Int)) (fun z => ∃ m, R 20 (fPr C R n dear p0 m) = (n : Int) ∧ (∀ i, i < m → R 20 (fPr C R n dear p0 i) ≠ (n : Int)) ∧ KOw z k C (rQ C R n (fPr C R n dear p0) m m m) ∧ KMk z C (rQ C R n (fPr C R n dear p0) m m m) n ∧ ChO k S z) := by
  have g5 := g.2.2.2.2.1
  have hF := dF_ok hD
  have eqd : ∀ x, x < 2 * kLy C → gI S 231 x = dF C R n dear x := fun x hx => hD.eq hF hx
  have fS : ∀ i, fPr C R n dear p0 (i + 1) = (bkF C (dF C R n dear) (prI C R n dear (fPr C R n dear p0 i)) (fPr C R n dear p0 i) 5).toNat := fun i => rfl
  have f0 : fPr C R n dear p0 0 = p0 := rfl
  generalize hf : fPr C R n dear p0 = f at fS f0 ⊢
  have kmk : ∀ {b b' c c' a : Nat} {y : Sto}, KMk y C (rQ C R n f a b c) n → KMk y C (rQ C R n f a b' c') n := by
    intro b b' c c' a y hy p hp
    rw [hy p hp]
    by_cases e : rQ C R n f a b c 20 p = (n : Int)
    · rw [if_pos e, if_pos (rQ_n p |>.2 ((rQ_n p).1 e))]
    · rw [if_neg e, if_neg (fun x => e (rQ_n p |>.2 ((rQ_n p).1 x)))]
  unfold mX15_back
  refine WP_call (R := fun z => ∃ m, R 20 (f m) = (n : Int) ∧ (∀ i, i < m → R 20 (f i) ≠ (n : Int)) ∧ KOw z k C (rQ C R n f m m m) ∧ KMk z C (rQ C R n f m m m) n ∧ ChO k S z) ?_ (fun z hz => WP_some.2 hz)
  refine WP_lpM (fun s m => ∃ i, s.1 = (f i : Int) ∧ f i < 2 * kLy C ∧ dF C R n dear (f i) ≠ -1 ∧ m = (dF C R n dear (f i)).toNat ∧ (∀ j, j < i → R 20 (f j) ≠ (n : Int) ∧ dF C R n dear (f i) < dF C R n dear (f j)) ∧ KOw s.2 k C (rQ C R n f i (if i = 0 then 0 else i + 1) i) ∧ KMk s.2 C (rQ C R n f i (if i = 0 then 0 else i + 1) i) n ∧ ChO k S s.2) (fun s m hI => ?_) (m := (dF C R n dear (f 0)).toNat) ⟨0, by rw [f0], by rw [f0]; exact hp0, by rw [f0, ← eqd p0 hp0]; exact hd0, rfl, fun j hj => absurd hj (by omega), o.eq rQ_0, fun p hp => ?_, ChO.refl⟩ (by rw [f0, ← eqd p0 hp0]; have := hb p0 hp0; unfold cFU; omega)
  · obtain ⟨z1, z2⟩ := s
    obtain ⟨i, b1, b2, b3, b4, b5, b6, b7, b8⟩ := hI
    dsimp only at b1 b6 b7 b8
    subst b1
    have hz := h.chO b8
    have mk := b7 (f i) b2
    have nO : ¬ oPt f i (f i) := fun ⟨j, j1, j2⟩ => by have := (b5 j j1).2; rw [j2] at this; omega
    have e231 : ∀ x, gI z2 231 x = gI S 231 x := fun x => b8.1 _ _ (by omega) (by omega) (by omega) (by omega)
    have e232 : ∀ x, gI z2 232 x = gI S 232 x := fun x => b8.1 _ _ (by omega) (by omega) (by omega) (by omega)
    unfold mX15_back_L2
    dsimp only
    rw [rdZ_e (by omega), Int.toNat_natCast, mk]
    by_cases q : R 20 (f i) = (n : Int)
    · rw [if_pos (rQ_n _ |>.2 (.inr q)), if_neg (by decide)]
      refine WP_some.2 ⟨i, q, fun j hj => (b5 j hj).1, ?_, kmk b7, b8⟩
      by_cases i0 : i = 0
      · rw [i0] at b6 ⊢; exact b6
      · rw [if_neg i0] at b6
        exact b6.eq (rQ_last q)
    · have nq : ¬ rQ C R n f i (if i = 0 then 0 else i + 1) i 20 (f i) = (n : Int) := fun e => ((rQ_n _).1 e).elim nO q
      obtain ⟨y, j, j1, y1, y2, y3, y4, y5, y6⟩ := way_st hF b2 q b3
      have fi : f (i + 1) = y := by rw [fS]; show (bkF C (dF C R n dear) (prF C R n dear (f i) : Int) (f i) 5).toNat = y; rw [y3, Int.toNat_natCast]
      have stp : gI z2 232 (f i) = (prF C R n dear (f i) : Int) := by rw [e232]; exact hs _ b2 q (by rw [eqd _ b2]; exact b3)
      have pl := prF_le (C := C) (p := f i) (R := R) (n := n) (dear := dear)
      have rq := rr.q hn (f := f) (a := i) (b := if i = 0 then 0 else i + 1) (c := i)
      rw [if_neg nq, if_pos (by decide)]
      refine WP_call (k_back17 hz hk g b2 (fun x hx => by rw [e231]; have := hb x hx; have := (hD x hx).1; dsimp only at this; omega) (by omega)) (fun y10 h10 => ?_)
      have e10 : y10 = (y : Int) := by
        rw [h10, stp, bkF_cg b2 (fun x hx => (e231 x).trans (eqd x hx)) 5 (Nat.le_refl _), y3]
      subst e10
      refine WP_call (k_own hz b6 rq hk g b2 hn) (fun x11 h11 => ?_)
      obtain ⟨a1, a2, a3⟩ := h11
      have eq1 : rEq (rSet (rRb (rQ C R n f i (if i = 0 then 0 else i + 1) i) n (f i)) (f i) n) (rQ C R n f (i + 1) (i + 1) i) := by
        by_cases i0 : i = 0
        · subst i0
          rw [if_pos rfl]
          exact (rSet_eq (rQ_rob (a := 0) (b := 0) (c := 0) (by omega) ⟨by omega, .inl rfl⟩) _ _).tr rQ_set
        · rw [if_neg i0, rQ_robN ⟨i, by omega, rfl⟩]
          exact rQ_set
      have h11 := hz.chO a2
      refine WP_call (k_rob h11 (a1.eq eq1) (rr.q hn) hk g y1 hn) (fun x12 h12 => ?_)
      obtain ⟨c1, c2, c3⟩ := h12
      have eq2 : rEq (rRb (rQ C R n f (i + 1) (i + 1) i) n y) (rQ C R n f (i + 1) (i + 1 + 1) i) := by
        rw [← fi]
        exact rQ_rob (by omega) ⟨by omega, .inr (by omega)⟩
      refine WP_call (k_join (h11.chO c2) (c1.eq eq2) (rr.q hn) hk g b2 j1 y2) (fun x13 h13 => WP_some.2 ?_)
      obtain ⟨e1, e2, e3⟩ := h13
      have eq3 : rEq (rJn C (rQ C R n f (i + 1) (i + 1 + 1) i) (f i) y) (rQ C R n f (i + 1) (i + 1 + 1) (i + 1)) := by
        rw [← fi]
        exact rQ_join
      refine ⟨(dF C R n dear y).toNat, by have := (hF _ y1).1; omega, i + 1, by rw [fi], by rw [fi]; exact y1, by rw [fi]; exact y4, by rw [fi], fun j' hj' => ?_, e1.eq eq3, fun p hp => ?_, ((b8.tr a2).tr c2).tr e2⟩
      · rw [fi]
        by_cases e : j' = i
        · rw [e]; exact ⟨q, by omega⟩
        · have := b5 j' (by omega)
          exact ⟨this.1, by omega⟩
      · show gI x13 233 p = if rQ C R n f (i + 1) (i + 1 + 1) (i + 1) 20 p = (n : Int) then 1 else 0
        rw [e3, c3, a3, b7 p hp]
        by_cases e : p = f i
        · rw [if_pos e, if_pos ((rQ_n p).2 (.inl ⟨i, by omega, e.symm⟩))]
        · rw [if_neg e]
          have iff1 : rQ C R n f (i + 1) (i + 1 + 1) (i + 1) 20 p = (n : Int) ↔ rQ C R n f i (if i = 0 then 0 else i + 1) i 20 p = (n : Int) := by
            rw [rQ_n, rQ_n]
            exact ⟨fun g => g.elim (fun ⟨j', h1, h2⟩ => .inl ⟨j', by
              by_cases l : j' = i
              · rw [l] at h2; exact absurd h2.symm e
              · omega, h2⟩) .inr, fun g => g.elim (fun ⟨j', h1, h2⟩ => .inl ⟨j', by omega, h2⟩) .inr⟩
          by_cases e2 : rQ C R n f i (if i = 0 then 0 else i + 1) i 20 p = (n : Int)
          · rw [if_pos e2, if_pos (iff1.2 e2)]
          · rw [if_neg e2, if_neg (fun x => e2 (iff1.1 x))]
  · have e := rQ_0 (C := C) (R := R) (n := n) (f := f) 20 p (by omega)
    show gI S 233 p = if rQ C R n f 0 0 0 20 p = (n : Int) then 1 else 0
    rw [← e]; exact hm p hp
end KBK
