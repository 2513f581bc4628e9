/-! wires of a chip: what is meant, and the class -/
def R0 : Chp := fun g _ => if g = 20 then -1 else 0
abbrev rC (C : Chp) : Nat := (rowF C (kN C)).1
abbrev rO' (C : Chp) (i : Nat) : Nat := (rowF C (kN C)).2 i
noncomputable def p1F (C : Chp) : Nat → Chp
  | 0 => R0
  | i + 1 => (conF C (p1F C i) (rO' C i) false).1
noncomputable def cpF (C : Chp) : Nat → Chp → Chp
  | 0, R => R
  | i + 1, R => if cpF C i R 22 (rO' C i) = 0 then cpF C i R else (conF C (cpF C i R) (rO' C i) false).1
def opN (C R : Chp) (i : Nat) : Nat := smN (fun i => if R 22 (rO' C i) = 0 then 0 else 1) i
def fstO (C R : Chp) : Nat → Nat → Nat
  | 0, i => i
  | u + 1, i => if R 22 (rO' C i) = 0 then fstO C R u (i + 1) else i
noncomputable def rndF (C R : Chp) : Int × Chp :=
  if (conF C R (rO' C (fstO C R (rC C) 0)) true).2 = 0 then (0, (conF C R (rO' C (fstO C R (rC C) 0)) true).1) else (1, cpF C (rC C) (conF C R (rO' C (fstO C R (rC C) 0)) true).1)
noncomputable def rdF (C : Chp) : Nat → Int × Chp → Int × Chp
  | 0, s => s
  | u + 1, s => if s.1 ≠ 0 ∧ 0 < opN C s.2 (rC C) then rdF C u (rndF C s.2) else s
noncomputable def rtF (C : Chp) (u : Nat) : Chp := (rdF C u (1, p1F C (rC C))).2
/-- what holds between connections -/
def RV (C R : Chp) : Prop := RInv C R ∧ (∀ y : Nat, R 22 y = 1 → ∀ x, R 20 x ≠ (y : Int)) ∧ ∀ y : Nat, kMany C y < 2 → R 22 y = 0 ∧ ∀ x, R 20 x ≠ (y : Int)
theorem RV.con {C R R' : Chp} {n : Nat} {dear : Bool} {ok : Int} (h : RV C R) (hn : 2 ≤ kMany C n) (c : CnO C R n dear R' ok) : RV C R' := by
  obtain ⟨⟨c1, c2, c3, c4⟩, c5⟩ := c
  refine ⟨c1, fun y hy => ?_, fun y hy => ?_⟩
  · by_cases q : y = n
    · subst q
      rcases c5 with ⟨_, e⟩ | ⟨_, _, e⟩
      · rw [e] at hy; exact absurd hy (by decide)
      · exact e
    · rcases c3 y q hy with g | g
      · exact fun x hx => h.2.1 y g x (c2 _ x (by omega) (by omega) hx)
      · exact g
  · have q : y ≠ n := fun e => by rw [e] at hy; omega
    have o := h.2.2 y hy
    exact ⟨(c4 y q (.inr o.2)).trans o.1, fun x hx => o.2 x (c2 _ x (by omega) (by omega) hx)⟩
theorem kMany_pr {C : Chp} {n : Nat} (h : 2 ≤ kMany C n) : pPrev (kPf C) n (kPn C) ≠ -1 := by
  have key : ∀ m, pPrev (kPf C) n m = -1 → pMany (kPf C) n m = 0 := by
    intro m
    induction m with
    | zero => exact fun _ => rfl
    | succ m ih =>
      intro h
      have h : (if (kPf C m).1 = n then (m : Int) else pPrev (kPf C) n m) = -1 := h
      show pMany (kPf C) n m + (if (kPf C m).1 = n then 1 else 0) = 0
      by_cases q : (kPf C m).1 = n
      · rw [if_pos q] at h; omega
      · rw [if_neg q] at h ⊢
        rw [ih h]
  intro e
  have := key _ e
  unfold kMany at h
  omega
section KROUTE
variable {S z : Sto} {k : Nat} {C R : Chp} {n : Nat}
def KNw (S : Sto) (C : Chp) : Prop := gI S 229 16 = (rC C : Int) ∧ ∀ i, i < rC C → gI S 238 i = (rO' C i : Int)
/-- all that holds while wires are made: class -/
def KWr (S : Sto) (k : Nat) (C R : Chp) : Prop := KRt S k C ∧ KPp S k C ∧ KNw S C ∧ KOw S k C R
theorem k_con (h : KWr S k C R) (hk : k < 4) (w : WFC C) (wp : WFP C) (h0 : C 16 0 ≠ 0) (g : GSz C) (hn : n < kN C) (h2 : 2 ≤ kMany C n) (hV : RV C R) (hE : ∀ x, R 20 x ≠ (n : Int)) {dear : Bool} :
    WP (mX15_connect S (n : Int) (if dear = true then 1 else 0)) (fun z => z.1 = (conF C R n dear).2 ∧ KWr z.2 k C (conF C R n dear).1 ∧ CnO C R n dear (conF C R n dear).1 (conF C R n dear).2 ∧ RV C (conF C R n dear).1 ∧ ChC k S z.2) := by
  obtain ⟨h1, h3, h4, h5⟩ := h
  obtain ⟨z, gz, a1, a2, a3, a4⟩ := k_connect (dear := dear) h1 h3 h5 hk w wp h0 g hn (kMany_pr h2) hV.1 (fun p _ => hE p)
  have hf := fr_mX15_connect (b229_1 := 344 + 22 * k) h1.1.1 z gz
  have e1 : gI z.2 229 16 = gI S 229 16 ∧ ∀ i, gI z.2 238 i = gI S 238 i := by
    have kk : k = 0 ∨ k = 1 ∨ k = 2 ∨ k = 3 := by omega
    rcases kk with rfl | rfl | rfl | rfl <;> exact ⟨hf.ei rfl, fun i => hf.ei rfl⟩
  exact ⟨z, gz, a1, ⟨h1.chC a4, h3.chC a4, ⟨e1.1.trans h4.1, fun i hi => (e1.2 i).trans (h4.2 i hi)⟩, a2⟩, a3, hV.con h2 a3, a4⟩
theorem rO_lt {i : Nat} (hi : i < rC C) : rO' C i < kN C ∧ 2 ≤ kMany C (rO' C i) := row_lt hi
/-- the first pass: nets to come own nothing -/
def P1 (C R : Chp) (i : Nat) : Prop := RV C R ∧ ∀ j, i ≤ j → j < rC C → R 22 (rO' C j) = 0 ∧ ∀ x, R 20 x ≠ (rO' C j : Int)
theorem P1.con {R' : Chp} {i : Nat} {ok : Int} (h : P1 C R i) (hi : i < rC C) (c : CnO C R (rO' C i) false R' ok) : P1 C R' (i + 1) := by
  refine ⟨h.1.con (rO_lt hi).2 c, fun j h1 h2 => ?_⟩
  have o := h.2 j (by omega) h2
  have ne : rO' C j ≠ rO' C i := fun e => by have := row_inj h2 hi e; omega
  exact ⟨(c.1.2.2.2 _ ne (.inl rfl)).trans o.1, fun x hx => o.2 x (c.1.2.1 _ x (by omega) (by omega) hx)⟩
theorem P1_0 (g : GSz C) : P1 C R0 0 := by
  refine ⟨⟨⟨⟨fun p _ => ⟨by show (-1 : Int) ≤ -1; omega, by show (-1 : Int) < _; omega, .inl rfl, .inl rfl, .inl rfl⟩, fun _ _ => .inl rfl⟩, fun p _ _ => .inl rfl, fun p _ h => absurd (show (0 : Int) = 1 from h) (by decide), fun p _ h => absurd (show (0 : Int) = 1 from h) (by decide), fun p _ h => absurd (show (0 : Int) = 1 from h) (by decide)⟩, fun y h => absurd (show (0 : Int) = 1 from h) (by decide), fun y _ => ⟨rfl, fun x h => by have h : (-1 : Int) = (y : Int) := h; omega⟩⟩, fun j _ _ => ⟨rfl, fun x h => by have h : (-1 : Int) = (rO' C j : Int) := h; omega⟩⟩
/-- what the connections of the first pass keep -/
def P1all (C : Chp) (m : Nat) : Prop := ∀ i, i < m → CnO C (p1F C i) (rO' C i) false (conF C (p1F C i) (rO' C i) false).1 (conF C (p1F C i) (rO' C i) false).2
theorem k_rt144 (h : KWr S k C R0) (hk : k < 4) (w : WFC C) (wp : WFP C) (h0 : C 16 0 ≠ 0) (g : GSz C) : WP (lpF mX15_route_L144 (0, S)) (fun z => KWr z k C (p1F C (rC C)) ∧ RV C (p1F C (rC C)) ∧ ChC k S z ∧ P1all C (rC C)) := by
  have rl : rC C ≤ kN C := rowF_le (C := C) (kN C)
  have g7 := g.2.2.2.2.2.2.1
  refine WP_cnt (rC C) (fun i s => s.1 = (i : Int) ∧ KWr s.2 k C (p1F C i) ∧ P1 C (p1F C i) i ∧ ChC k S s.2 ∧ P1all C i) (by unfold cFU; omega) ⟨rfl, h, P1_0 g, ChC.refl, fun j hj => absurd hj (Nat.not_lt_zero _)⟩ (fun i s hi hI => ?_) (fun s hI => ?_)
  · obtain ⟨z1, z2⟩ := s
    obtain ⟨b1, b2, b3, b4, b5⟩ := hI
    dsimp only at b1 b2 b4
    subst b1
    have ol := rO_lt hi
    unfold mX15_route_L144
    dsimp only
    rw [b2.2.2.1.1, w32_id (by omega), w32_id (by omega), if_pos (by omega), rdI_e (by omega), Int.toNat_natCast, b2.2.2.1.2 i hi]
    refine WP_call (k_con (dear := false) b2 hk w wp h0 g ol.1 ol.2 b3.1 (b3.2 i (Nat.le_refl _) hi).2) (fun x hx => WP_some.2 ?_)
    obtain ⟨a1, a2, a3, a4, a5⟩ := hx
    exact ⟨by show (i : Int) + 1 = _; omega, a2, b3.con hi a3, b4.tr a5, fun j hj => by
      by_cases e : j = i
      · rw [e]; exact a3
      · exact b5 j (by omega)⟩
  · obtain ⟨z1, z2⟩ := s
    obtain ⟨b1, b2, b3, b4, b5⟩ := hI
    dsimp only at b1 b2 b4
    subst b1
    unfold mX15_route_L144
    dsimp only
    rw [b2.2.2.1.1, w32_id (by omega), if_neg (by omega)]
    exact WP_some.2 ⟨b2, b3.1, b4, b5⟩
theorem k_open (h : KWr S k C R) (hk : k < 4) (g : GSz C) (rr : RRg C R) : WP (mX15_open S) (fun z => z = (opN C R (rC C) : Int)) := by
  have rl : rC C ≤ kN C := rowF_le (C := C) (kN C)
  have g7 := g.2.2.2.2.2.2.1
  have ol : ∀ i, opN C R i ≤ i := fun i => by
    have := smN_le (f := fun i => if R 22 (rO' C i) = 0 then 0 else 1) (n := i) (b := 1) (fun x _ => by split <;> omega)
    unfold opN; omega
  unfold mX15_open
  refine WP_call (R := fun z => z = (opN C R (rC C) : Int)) ?_ (fun z hz => WP_some.2 hz)
  refine WP_cnt (rC C) (fun i s => s.2 = (i : Int) ∧ s.1 = (opN C R i : Int)) (by unfold cFU; omega) ⟨rfl, rfl⟩ (fun i s hi hI => ?_) (fun s hI => ?_)
  · obtain ⟨z1, z2⟩ := s
    obtain ⟨b1, b2⟩ := hI
    dsimp only at b1 b2
    subst b1 b2
    have rl2 := rO_lt hi
    unfold mX15_open_L4
    dsimp only
    rw [h.2.2.1.1, w32_id (by omega), w32_id (by omega), if_pos (by omega), h.1.1.1, gk_chip hk, rdI_e (by omega), Int.toNat_natCast, h.2.2.1.2 i hi, rdZ_e (by omega), Int.toNat_natCast, h.2.2.2.2 _ rl2.1]
    refine WP_some.2 ⟨by show (i : Int) + 1 = _; omega, ?_⟩
    show (opN C R i : Int) + (if ¬ w32 (bz (R 22 (rO' C i))) = 0 then 1 else 0) = ((opN C R i + (if R 22 (rO' C i) = 0 then 0 else 1) : Nat) : Int)
    by_cases q : R 22 (rO' C i) = 0
    · rw [q, if_neg (by decide), if_pos rfl]; omega
    · have : R 22 (rO' C i) = 1 := (rr.2 _ rl2.1).resolve_left q
      rw [this, if_pos (by decide), if_neg (by decide)]; omega
  · obtain ⟨z1, z2⟩ := s
    obtain ⟨b1, b2⟩ := hI
    dsimp only at b1 b2
    subst b1 b2
    unfold mX15_open_L4
    dsimp only
    rw [h.2.2.1.1, w32_id (by omega), if_neg (by omega)]
    exact WP_some.2 rfl
/-- where the first open net stands -/
theorem fstO_of : ∀ u i, (∃ j, i ≤ j ∧ j < i + u ∧ R 22 (rO' C j) ≠ 0) → i ≤ fstO C R u i ∧ fstO C R u i < i + u ∧ R 22 (rO' C (fstO C R u i)) ≠ 0 ∧ ∀ j, i ≤ j → j < fstO C R u i → R 22 (rO' C j) = 0 := by
  intro u
  induction u with
  | zero => rintro i ⟨j, h1, h2, _⟩; omega
  | succ u ih =>
    rintro i ⟨j, h1, h2, h3⟩
    show i ≤ (if R 22 (rO' C i) = 0 then fstO C R u (i + 1) else i) ∧ (if R 22 (rO' C i) = 0 then fstO C R u (i + 1) else i) < i + (u + 1) ∧ R 22 (rO' C (if R 22 (rO' C i) = 0 then fstO C R u (i + 1) else i)) ≠ 0 ∧ ∀ j, i ≤ j → j < (if R 22 (rO' C i) = 0 then fstO C R u (i + 1) else i) → R 22 (rO' C j) = 0
    by_cases q : R 22 (rO' C i) = 0
    · rw [if_pos q]
      obtain ⟨a, b, c, d⟩ := ih (i + 1) ⟨j, by
        by_cases e : j = i
        · rw [e] at h3; exact absurd q h3
        · omega, by omega, h3⟩
      exact ⟨by omega, by omega, c, fun j h1 h2 => by
        by_cases e : j = i
        · rw [e]; exact q
        · exact d j (by omega) h2⟩
    · rw [if_neg q]; exact ⟨by omega, by omega, q, fun j h1 h2 => by omega⟩
theorem fst_open (h : 0 < opN C R (rC C)) : fstO C R (rC C) 0 < rC C ∧ R 22 (rO' C (fstO C R (rC C) 0)) ≠ 0 ∧ ∀ j, j < fstO C R (rC C) 0 → R 22 (rO' C j) = 0 := by
  have ex : ∃ j, j < rC C ∧ R 22 (rO' C j) ≠ 0 := Classical.byContradiction (fun no => by
    have : opN C R (rC C) = 0 := smN_0 (fun x hx => if_pos (Classical.byContradiction (fun e => no ⟨x, hx, e⟩)))
    omega)
  obtain ⟨j, j1, j2⟩ := ex
  obtain ⟨a, b, c, d⟩ := fstO_of (C := C) (R := R) (rC C) 0 ⟨j, by omega, by omega, j2⟩
  exact ⟨by omega, c, fun j h => d j (by omega) h⟩
theorem k_rd45 (h : KWr S k C R) (hk : k < 4) (w : WFC C) (wp : WFP C) (h0 : C 16 0 ≠ 0) (g : GSz C) (hV : RV C R) : WP (lpF mX15_round_L45 (0, S)) (fun z => KWr z k C (cpF C (rC C) R) ∧ RV C (cpF C (rC C) R) ∧ ChC k S z) := by
  have rl : rC C ≤ kN C := rowF_le (C := C) (kN C)
  have g7 := g.2.2.2.2.2.2.1
  refine WP_cnt (rC C) (fun i s => s.1 = (i : Int) ∧ KWr s.2 k C (cpF C i R) ∧ RV C (cpF C i R) ∧ ChC k S s.2) (by unfold cFU; omega) ⟨rfl, h, hV, ChC.refl⟩ (fun i s hi hI => ?_) (fun s hI => ?_)
  · obtain ⟨z1, z2⟩ := s
    obtain ⟨b1, b2, b3, b4⟩ := hI
    dsimp only at b1 b2 b4
    subst b1
    have ol := rO_lt hi
    have r22 := b3.1.1.2 _ ol.1
    have es : cpF C (i + 1) R = if cpF C i R 22 (rO' C i) = 0 then cpF C i R else (conF C (cpF C i R) (rO' C i) false).1 := rfl
    unfold mX15_round_L45
    dsimp only
    rw [b2.2.2.1.1, w32_id (by omega), w32_id (by omega), if_pos (by omega), b2.1.1.1, gk_chip hk, rdI_e (by omega), Int.toNat_natCast, b2.2.2.1.2 i hi, rdZ_e (by omega), Int.toNat_natCast, b2.2.2.2.2 _ ol.1]
    by_cases q : cpF C i R 22 (rO' C i) = 0
    · rw [if_pos q] at es
      rw [q, if_neg (by decide), bX_some, es]
      exact WP_some.2 ⟨by show (i : Int) + 1 = _; omega, b2, b3, b4⟩
    · have q1 := r22.resolve_left q
      rw [if_neg q] at es
      rw [q1, if_pos (by decide), rdI_e (by omega), Int.toNat_natCast, b2.2.2.1.2 i hi, es]
      refine WP_call (R := fun y => KWr y k C (conF C (cpF C i R) (rO' C i) false).1 ∧ RV C (conF C (cpF C i R) (rO' C i) false).1 ∧ ChC k z2 y) (WP_call (k_con (dear := false) b2 hk w wp h0 g ol.1 ol.2 b3 (b3.2.1 _ q1)) (fun x hx => WP_some.2 ⟨hx.2.1, hx.2.2.2.1, hx.2.2.2.2⟩)) (fun y hy => WP_some.2 ?_)
      exact ⟨by show (i : Int) + 1 = _; omega, hy.1, hy.2.1, b4.tr hy.2.2⟩
  · obtain ⟨z1, z2⟩ := s
    obtain ⟨b1, b2, b3, b4⟩ := hI
    dsimp only at b1 b2 b4
    subst b1
    unfold mX15_round_L45
    dsimp only
    rw [b2.2.2.1.1, w32_id (by omega), if_neg (by omega)]
    exact WP_some.2 ⟨b2, b3, b4⟩
theorem k_rd2 (h : KWr S k C R) (hk : k < 4) (g : GSz C) (rr : RRg C R) (ho : 0 < opN C R (rC C)) : WP (lpF (mX15_round_L2 S) 0) (fun z => z = (fstO C R (rC C) 0 : Int)) := by
  have rl : rC C ≤ kN C := rowF_le (C := C) (kN C)
  have g7 := g.2.2.2.2.2.2.1
  obtain ⟨f1, f2, f3⟩ := fst_open ho
  refine WP_cnt (fstO C R (rC C) 0) (fun i s => s = (i : Int)) (by unfold cFU; omega) rfl (fun i s hi hI => ?_) (fun s hI => ?_)
  · subst hI
    have ol := rO_lt (show i < rC C by omega)
    unfold mX15_round_L2
    rw [h.1.1.1, gk_chip hk, rdI_e (by omega), Int.toNat_natCast, h.2.2.1.2 i (by omega), rdZ_e (by omega), Int.toNat_natCast, h.2.2.2.2 _ ol.1, f3 i hi, if_pos (by decide)]
    exact WP_some.2 (by show (i : Int) + 1 = _; omega)
  · subst hI
    have ol := rO_lt f1
    have e1 := (rr.2 _ ol.1).resolve_left f2
    unfold mX15_round_L2
    rw [h.1.1.1, gk_chip hk, rdI_e (by omega), Int.toNat_natCast, h.2.2.1.2 _ f1, rdZ_e (by omega), Int.toNat_natCast, h.2.2.2.2 _ ol.1, e1, if_neg (by decide)]
    exact WP_some.2 rfl
theorem k_round (h : KWr S k C R) (hk : k < 4) (w : WFC C) (wp : WFP C) (h0 : C 16 0 ≠ 0) (g : GSz C) (hV : RV C R) (ho : 0 < opN C R (rC C)) : WP (mX15_round S) (fun z => z.1 = (rndF C R).1 ∧ KWr z.2 k C (rndF C R).2 ∧ RV C (rndF C R).2 ∧ ChC k S z.2) := by
  have rl : rC C ≤ kN C := rowF_le (C := C) (kN C)
  have g7 := g.2.2.2.2.2.2.1
  obtain ⟨f1, f2, f3⟩ := fst_open ho
  have ol := rO_lt f1
  have e1 := (hV.1.1.2 _ ol.1).resolve_left f2
  unfold mX15_round
  refine WP_call (k_rd2 h hk g hV.1.1 ho) (fun y5 h5 => ?_)
  subst h5
  rw [rdI_e (by omega), Int.toNat_natCast, h.2.2.1.2 _ f1]
  refine WP_call (k_con (dear := true) h hk w wp h0 g ol.1 ol.2 hV (hV.2.1 _ e1)) (fun x hx => ?_)
  obtain ⟨a1, a2, a3, a4, a5⟩ := hx
  have rg : (conF C R (rO' C (fstO C R (rC C) 0)) true).2 = 0 ∨ (conF C R (rO' C (fstO C R (rC C) 0)) true).2 = 1 := by
    rcases a3.2 with e | e
    · exact .inr e.1
    · exact .inl e.1
  unfold rndF
  rw [a1]
  by_cases q : (conF C R (rO' C (fstO C R (rC C) 0)) true).2 = 0
  · rw [if_pos q, q, if_pos (by decide)]
    exact WP_some.2 ⟨rfl, a2, a4, a5⟩
  · have q1 := rg.resolve_left q
    rw [if_neg q, q1, if_neg (by decide)]
    refine WP_call (k_rd45 a2 hk w wp h0 g a4) (fun y hy => WP_some.2 ?_)
    exact ⟨rfl, hy.1, hy.2.1, a5.tr hy.2.2⟩
theorem k_rt175 (h : KWr S k C R) (hk : k < 4) (w : WFC C) (wp : WFP C) (h0 : C 16 0 ≠ 0) (g : GSz C) (hV : RV C R) {u : Nat} (hu : u ≤ 100) : WP (lpF (mX15_route_L175 (u : Int)) (1, 0, S)) (fun z => KWr z k C (rdF C u (1, R)).2 ∧ RV C (rdF C u (1, R)).2 ∧ ChC k S z) := by
  have rl : rC C ≤ kN C := rowF_le (C := C) (kN C)
  have g7 := g.2.2.2.2.2.2.1
  have ol : ∀ R, opN C R (rC C) ≤ rC C := fun R => by
    have := smN_le (f := fun i => if R 22 (rO' C i) = 0 then 0 else 1) (n := rC C) (b := 1) (fun x _ => by split <;> omega)
    unfold opN; omega
  refine WP_lpM (fun s m => ∃ (fl : Int) (i : Nat) (R' : Chp), s = (fl, (i : Int), s.2.2) ∧ i + m = u ∧ (fl = 0 ∨ fl = 1) ∧ KWr s.2.2 k C R' ∧ RV C R' ∧ ChC k S s.2.2 ∧ rdF C m (fl, R') = rdF C u (1, R)) (fun s m hI => ?_) (m := u) ⟨1, 0, R, rfl, by omega, .inr rfl, h, hV, ChC.refl, rfl⟩ (by unfold cFU; omega)
  obtain ⟨fl, i, R', e0, e1, e2, e3, e4, e5, e6⟩ := hI
  obtain ⟨s1, s2, s3⟩ := s
  obtain ⟨rfl, rfl⟩ : s1 = fl ∧ s2 = (i : Int) := by injection e0 with e0 e0'; injection e0' with e0' _; exact ⟨e0, e0'⟩
  dsimp only at e3 e5
  unfold mX15_route_L175
  dsimp only
  have stop : rdF C m (s1, R') = (s1, R') → WP (some (Sum.inr s3) : Option ((Int × Int × Sto) ⊕ Sto)) (WE (fun s' => ∃ m', m' < m ∧ ∃ (fl : Int) (i : Nat) (R' : Chp), s' = (fl, (i : Int), s'.2.2) ∧ i + m' = u ∧ (fl = 0 ∨ fl = 1) ∧ KWr s'.2.2 k C R' ∧ RV C R' ∧ ChC k S s'.2.2 ∧ rdF C m' (fl, R') = rdF C u (1, R)) (fun z => KWr z k C (rdF C u (1, R)).2 ∧ RV C (rdF C u (1, R)).2 ∧ ChC k S z)) := fun e => by
    rw [e] at e6
    refine WP_some.2 ⟨?_, ?_, e5⟩
    · rw [← e6]; exact e3
    · rw [← e6]; exact e4
  cases m with
  | zero =>
    rw [w32_id (by omega), w32_id (by omega), if_neg (by omega), bX_some, if_neg (by decide)]
    exact stop rfl
  | succ m =>
    have es : rdF C (m + 1) (s1, R') = if s1 ≠ 0 ∧ 0 < opN C R' (rC C) then rdF C m (rndF C R') else (s1, R') := rfl
    have olR := ol R'
    rw [w32_id (by omega), w32_id (by omega), if_pos (by omega), w32_id (by omega)]
    by_cases q : s1 = 0
    · rw [if_neg (fun g => g q), bX_some, if_neg (by decide)]
      exact stop (by rw [es, if_neg (fun g => g.1 q)])
    · rw [if_pos q]
      obtain ⟨v, gv, hv⟩ := k_open e3 hk g e4.1.1
      subst hv
      rw [gv, bX_some, w32_id (by omega)]
      by_cases q2 : 0 < opN C R' (rC C)
      · rw [if_pos (by omega), bX_some, if_pos rfl]
        refine WP_call (k_round e3 hk w wp h0 g e4 q2) (fun x hx => WP_some.2 ?_)
        obtain ⟨a1, a2, a3, a4⟩ := hx
        rw [if_pos ⟨q, q2⟩] at es
        have fl2 : (rndF C R').1 = 0 ∨ (rndF C R').1 = 1 := by
          unfold rndF
          split
          · exact .inl rfl
          · exact .inr rfl
        refine ⟨m, by omega, (rndF C R').1, i + 1, (rndF C R').2, ?_, by omega, fl2, a2, a3, e5.tr a4, ?_⟩
        · show (x.1, (i : Int) + 1, x.2) = ((rndF C R').1, ((i + 1 : Nat) : Int), x.2)
          rw [a1]; rfl
        · rw [es] at e6; exact e6
      · rw [if_neg (by omega), bX_some, if_neg (by decide)]
        exact stop (by rw [es, if_neg (fun g => q2 g.2)])
end KROUTE
