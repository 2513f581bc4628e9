/-! a net is connected: what it means, and the class -/
noncomputable def cG {α : Type} (p : Prop) (a b : α) : α := @ite α p (Classical.propDecidable p) a b
theorem cG_t {α : Type} {p : Prop} {a b : α} (h : p) : cG p a b = a := if_pos h
theorem cG_f {α : Type} {p : Prop} {a b : α} (h : ¬ p) : cG p a b = b := if_neg h
def cand (C R : Chp) (n : Nat) (d : Nat → Int) (i : Nat) : Prop := i < kPn C ∧ (kPf C i).1 = n ∧ R 20 (pp C i) ≠ (n : Int) ∧ d (pp C i) ≠ -1
def whl (C R : Chp) (n : Nat) : Prop := ∀ i, i < kPn C → (kPf C i).1 = n → R 20 (pp C i) = (n : Int)
def NrB (C R : Chp) (n : Nat) (d : Nat → Int) (b : Nat) : Prop := (∃ i, cand C R n d i ∧ pp C i = b) ∧ ∀ j, cand C R n d j → d b < d (pp C j) ∨ (d b = d (pp C j) ∧ b ≤ pp C j)
theorem NrB.eq {C R : Chp} {n : Nat} {d : Nat → Int} {b b' : Nat} (h : NrB C R n d b) (g : NrB C R n d b') : b = b' := by
  obtain ⟨⟨i, i1, i2⟩, h2⟩ := h
  obtain ⟨⟨j, j1, j2⟩, g2⟩ := g
  have a := h2 j j1
  have c := g2 i i1
  rw [j2] at a
  rw [i2] at c
  omega
/-- the answer of a look for the nearest pin -/
def NrR (C R : Chp) (n : Nat) (d : Nat → Int) (z : Int) : Prop := (z = -1 ∧ whl C R n) ∨ (z = -2 ∧ ¬ whl C R n ∧ ∀ i, ¬ cand C R n d i) ∨ ∃ b : Nat, z = (b : Int) ∧ NrB C R n d b
noncomputable def nrB (C R : Chp) (n : Nat) (d : Nat → Int) : Nat := Classical.epsilon (NrB C R n d)
noncomputable def wLen (R : Chp) (n : Nat) (f : Nat → Nat) : Nat := Classical.epsilon (fun m => R 20 (f m) = (n : Int) ∧ ∀ i, i < m → R 20 (f i) ≠ (n : Int))
theorem wLen_eq {R : Chp} {n m : Nat} {f : Nat → Nat} (h : R 20 (f m) = (n : Int) ∧ ∀ i, i < m → R 20 (f i) ≠ (n : Int)) : wLen R n f = m := by
  have g : (fun m => R 20 (f m) = (n : Int) ∧ ∀ i, i < m → R 20 (f i) ≠ (n : Int)) (wLen R n f) := Classical.epsilon_spec (p := fun m => R 20 (f m) = (n : Int) ∧ ∀ i, i < m → R 20 (f i) ≠ (n : Int)) ⟨m, h⟩
  have g : R 20 (f (wLen R n f)) = (n : Int) ∧ ∀ i, i < wLen R n f → R 20 (f i) ≠ (n : Int) := g
  by_cases l : wLen R n f < m
  · exact absurd g.1 (h.2 _ l)
  · by_cases l2 : m < wLen R n f
    · exact absurd h.1 (g.2 _ l2)
    · omega
noncomputable def rWay (C R : Chp) (n : Nat) (dear : Bool) : Chp := rQ C R n (fPr C R n dear (nrB C R n (dF C R n dear))) (wLen R n (fPr C R n dear (nrB C R n (dF C R n dear)))) (wLen R n (fPr C R n dear (nrB C R n (dF C R n dear)))) (wLen R n (fPr C R n dear (nrB C R n (dF C R n dear))))
def rOp (R : Chp) (n : Nat) : Chp := fun g x => if g = 22 ∧ x = n then 0 else R g x
noncomputable def cnF (C : Chp) (n : Nat) (dear : Bool) : Nat → Chp → Chp × Int
  | 0, R => (R, 0)
  | u + 1, R => cG (whl C R n) (rOp R n, 1) (cG (∃ i, cand C R n (dF C R n dear) i) (cnF C n dear u (rWay C R n dear)) (rFr R (n : Int), 0))
/-- where a net begins -/
def sP (C : Chp) (n : Nat) : Int := pLo (fun i => (pp C i : Int)) (kPf C) n (kPn C)
noncomputable def conF (C R : Chp) (n : Nat) (dear : Bool) : Chp × Int := cnF C n dear 700 (rSet R (sP C n).toNat n)
noncomputable def ucn (C R : Chp) (n : Nat) : Nat := smN (fun i => bo ((kPf C i).1 = n ∧ R 20 (pp C i) ≠ (n : Int))) (kPn C)
theorem ucn_le {C R : Chp} {n : Nat} : ucn C R n ≤ kPn C := bo_small
theorem smN_lt {f g : Nat → Nat} {n x : Nat} (hx : x < n) (h : ∀ y, y < n → g y ≤ f y) (h1 : g x < f x) : smN g n < smN f n := by
  have le : ∀ m, m ≤ n → smN g m ≤ smN f m := by
    intro m
    induction m with
    | zero => exact fun _ => Nat.le_refl _
    | succ m ih =>
      intro hm
      have := ih (by omega)
      have := h m (by omega)
      show smN g m + g m ≤ smN f m + f m
      omega
  have lt : ∀ m, m ≤ n → x < m → smN g m < smN f m := by
    intro m
    induction m with
    | zero => intro _ h; omega
    | succ m ih =>
      intro hm hx
      have a := le m (by omega)
      have b := h m (by omega)
      show smN g m + g m < smN f m + f m
      by_cases e : m = x
      · subst e; omega
      · have := ih (by omega) (by omega); omega
  exact lt n (Nat.le_refl _) hx
theorem ucn_q {C R : Chp} {n m i : Nat} {f : Nat → Nat} (hi : i < kPn C) (hn : (kPf C i).1 = n) (ho : R 20 (pp C i) ≠ (n : Int)) (hf : f 0 = pp C i) (hm : 0 < m) {b c : Nat} : ucn C (rQ C R n f m b c) n < ucn C R n := by
  refine smN_lt hi (fun y hy => ?_) ?_
  · by_cases q : (kPf C y).1 = n ∧ rQ C R n f m b c 20 (pp C y) ≠ (n : Int)
    · rw [bo_t q, bo_t ⟨q.1, fun e => q.2 ((rQ_n _).2 (.inr e))⟩]; omega
    · rw [bo_f q]; omega
  · rw [bo_f (fun q => q.2 ((rQ_n _).2 (.inl ⟨0, hm, hf⟩))), bo_t ⟨hn, ho⟩]; omega
/-- pins at work: class -/
def KPp (S : Sto) (k : Nat) (C : Chp) : Prop := KPins S C (kPins C) ∧ gR S 219 0 = 344 + 22 * k ∧ RepP S (344 + 22 * k) C
/-- all that wires change -/
def ChC (k : Nat) (S z : Sto) : Prop := (∀ a i, (a < 231 ∨ 239 < a) → ¬ (a = 229 ∧ (i = 13 ∨ i = 16)) → a ≠ 344 + 22 * k + 12 → a ≠ 344 + 22 * k + 13 → a ≠ 344 + 22 * k + 14 → gI z a i = gI S a i) ∧ (∀ a i, (a < 231 ∨ 239 < a) → gL z a i = gL S a i) ∧ (∀ a i, gR z a i = gR S a i) ∧ nC z = nC S ∧ nS z = nS S
section KCON
variable {S z : Sto} {k : Nat} {C R : Chp} {n : Nat} {dear : Bool}
theorem ChC.refl : ChC k S S := ⟨fun _ _ _ _ _ _ _ => rfl, fun _ _ _ => rfl, fun _ _ => rfl, rfl, rfl⟩
theorem ChC.tr {y : Sto} (h : ChC k S z) (g : ChC k z y) : ChC k S y := ⟨fun a i q1 q2 q3 q4 q5 => (g.1 a i q1 q2 q3 q4 q5).trans (h.1 a i q1 q2 q3 q4 q5), fun a i q => (g.2.1 a i q).trans (h.2.1 a i q), fun a i => (g.2.2.1 a i).trans (h.2.2.1 a i), g.2.2.2.1.trans h.2.2.2.1, g.2.2.2.2.trans h.2.2.2.2⟩
theorem ChC.ofD (h : ChD S z) : ChC k S z := ⟨fun a i q1 q2 _ _ _ => h.1 a i q1 q2, h.2.1, h.2.2.1, h.2.2.2.1, h.2.2.2.2⟩
theorem ChC.ofO (h : ChO k S z) : ChC k S z := ⟨fun a i q1 q2 q3 q4 q5 => h.1 a i (by omega) q3 q4 q5, fun a i _ => h.2.1 a i, h.2.2.1, h.2.2.2.1, h.2.2.2.2⟩
theorem KPp.mv (h : KPp S k C) (e : ∀ a i, (219 ≤ a ∧ a ≤ 225) ∨ (344 + 22 * k ≤ a ∧ a ≤ 344 + 22 * k + 11) → gI z a i = gI S a i) (r : gR z 219 0 = gR S 219 0) : KPp z k C := by
  refine ⟨h.1.mv (fun a i l1 l2 => e a i (by omega)), r.trans h.2.1, ?_⟩
  obtain ⟨⟨p1, p2, p3⟩, p4⟩ := h.2.2
  exact ⟨⟨(e _ _ (by omega)).trans p1, (e _ _ (by omega)).trans p2, (e _ _ (by omega)).trans p3⟩, fun g x hx => ⟨(e _ _ (by omega)).trans (p4 g x hx).1, (e _ _ (by omega)).trans (p4 g x hx).2⟩⟩
theorem KPp.chC (h : KPp S k C) (c : ChC k S z) : KPp z k C := h.mv (fun a i q => c.1 a i (by omega) (by omega) (by omega) (by omega) (by omega)) (c.2.2.1 _ _)
theorem KRt.chC (h : KRt S k C) (c : ChC k S z) : KRt z k C :=
  ⟨⟨(c.2.2.1 _ _).trans h.1.1, (c.1 _ _ (by omega) (by omega) (by omega) (by omega) (by omega)).trans h.1.2.1, (c.1 _ _ (by omega) (by omega) (by omega) (by omega) (by omega)).trans h.1.2.2.1, (c.1 _ _ (by omega) (by omega) (by omega) (by omega) (by omega)).trans h.1.2.2.2.1, (c.1 _ _ (by omega) (by omega) (by omega) (by omega) (by omega)).trans h.1.2.2.2.2⟩, fun p hp => (c.1 _ _ (by omega) (by omega) (by omega) (by omega) (by omega)).trans (h.2 p hp)⟩
theorem k_point (h : KPp S k C) (hk : k < 4) (w : WFC C) (wp : WFP C) (h0 : C 16 0 ≠ 0) {i : Nat} (hi : i < kPn C) : mX13_point S (i : Int) = some (pp C i : Int) := by
  have pl := (pp_lt w wp h0 hi).2.1
  have e11 : gI S (344 + 22 * k) 11 = C 15 0 := h.2.2.1.1
  have w0 := wp.1
  have eW : C 15 0 + 2 = (kW C : Int) := by show _ = ((kS C + 2 : Nat) : Int); unfold kS; omega
  unfold mX13_point mX22_across
  rw [k_y h.1 hk rfl h.2.1 w h.2.2 h0 hi, bX_some, h.2.1, gk_chip hk, bX_some, k_x h.1 hk rfl h.2.1 w wp h.2.2 h0 hi, bX_some, e11, eW, pl]
theorem k_whole (hp : KPp S k C) (hk : k < 4) (w : WFC C) (wp : WFP C) (h0 : C 16 0 ≠ 0) (g : GSz C) (hn : n < kN C) (hm : KMk S C R n) : WP (mX15_isWhole S (n : Int)) (fun z => z = (bo (whl C R n) : Int)) := by
  have g5 := g.2.2.2.2.1
  have g8 := g.2.2.2.2.2.2.2
  have g7 := g.2.2.2.2.2.2.1
  have fs : gI S 224 n = pPrev (kPf C) n (kPn C) := (hp.1.2.2 n hn).1
  have pr0 := pPrev_rng (f := kPf C) (n := n) (m := kPn C)
  unfold mX15_isWhole
  rw [rdI_e (by omega), Int.toNat_natCast, fs]
  refine WP_call (R := fun z => z = (bo (whl C R n) : Int)) ?_ (fun z hz => by
    subst hz
    have : gz (bo (whl C R n) : Int) (some (bo (whl C R n) : Int)) = some (bo (whl C R n) : Int) := by
      by_cases q : whl C R n
      · rw [bo_t q]; rfl
      · rw [bo_f q]; rfl
    rw [this]; exact WP_some.2 rfl)
  refine WP_lpF (fun z => ∃ m, m ≤ kPn C ∧ z.2 = pPrev (kPf C) n m ∧ (z.1 = 0 ∨ z.1 = 1) ∧ (z.1 = 1 ↔ ∀ i, m ≤ i → i < kPn C → (kPf C i).1 = n → R 20 (pp C i) = (n : Int))) (fun z => (z.2 + 1).toNat) ⟨kPn C, Nat.le_refl _, rfl, .inr rfl, ⟨fun _ i h1 h2 => by omega, fun _ => rfl⟩⟩ (by unfold cFU; show (pPrev (kPf C) n (kPn C) + 1).toNat < _; omega) (fun z hI => ?_)
  obtain ⟨z1, z⟩ := z
  obtain ⟨m, b1, b2, b3, b4⟩ := hI
  dsimp only at b2 b3 b4
  have pr := pPrev_rng (f := kPf C) (n := n) (m := m)
  rw [← b2] at pr
  unfold mX15_isWhole_L12
  dsimp only
  rw [w32_id (by omega)]
  by_cases q : z = -1
  · rw [if_neg (fun g => g q)]
    refine WP_some.2 ?_
    show z1 = _
    have full : z1 = 1 ↔ whl C R n := b4.trans ⟨fun g i i1 i2 => g i (Nat.le_of_not_lt (fun l => pPrev_no (p := i) (by rw [← b2]; omega) l i2)) i1 i2, fun g i _ i1 i2 => g i i1 i2⟩
    by_cases t : whl C R n
    · rw [bo_t t]; exact full.2 t
    · rw [bo_f t]
      rcases b3 with e | e
      · exact e
      · exact absurd (full.1 e) t
  · obtain ⟨y, rfl⟩ : ∃ y : Nat, z = (y : Int) := ⟨z.toNat, by omega⟩
    have nt : (kPf C y).1 = n := by have := pPrev_net (f := kPf C) (n := n) (m := m) (by rw [← b2]; exact q); rw [← b2, Int.toNat_natCast] at this; exact this
    have hy : y < kPn C := by omega
    have nx : gI S 225 y = pPrev (kPf C) n y := by have := (hp.1.2.1 y hy).2.2.2; rw [← nt]; exact this
    have pl := (pp_lt w wp h0 hy).1
    rw [if_pos q, k_point hp hk w wp h0 hy, bX_some, rdZ_e (by omega), Int.toNat_natCast, hm _ (by omega), rdI_e (by omega), Int.toNat_natCast, nx]
    have pr2 := pPrev_rng (f := kPf C) (n := n) (m := y)
    have st : (∀ i, y ≤ i → i < kPn C → (kPf C i).1 = n → R 20 (pp C i) = (n : Int)) ↔ (z1 = 1 ∧ R 20 (pp C y) = (n : Int)) := by
      constructor
      · intro g; exact ⟨b4.2 (fun i h1 h2 h3 => g i (by omega) h2 h3), g y (Nat.le_refl _) hy nt⟩
      · rintro ⟨g1, g2⟩ i h1 h2 h3
        by_cases l : i = y
        · rw [l]; exact g2
        · by_cases l2 : i < m
          · exact absurd h3 (pPrev_no (p := i) (by rw [← b2]; omega) l2)
          · exact b4.1 g1 i (by omega) h2 h3
    have va : aAnd z1 (bz (if R 20 (pp C y) = (n : Int) then 1 else 0)) = if z1 = 1 ∧ R 20 (pp C y) = (n : Int) then 1 else 0 := by
      by_cases e : R 20 (pp C y) = (n : Int)
      · rw [if_pos e]
        rcases b3 with g | g
        · rw [g, if_neg (fun x => absurd x.1 (by decide))]; decide
        · rw [g, if_pos ⟨rfl, e⟩]; decide
      · rw [if_neg e, if_neg (fun x => e x.2)]
        rcases b3 with g | g <;> rw [g] <;> decide
    rw [va]
    refine WP_some.2 ⟨⟨y, by omega, rfl, ?_, ?_⟩, by show (pPrev (kPf C) n y + 1).toNat < ((y : Int) + 1).toNat; omega⟩
    · by_cases e : z1 = 1 ∧ R 20 (pp C y) = (n : Int)
      · rw [if_pos e]; exact .inr rfl
      · rw [if_neg e]; exact .inl rfl
    · rw [st]
      by_cases e : z1 = 1 ∧ R 20 (pp C y) = (n : Int)
      · rw [if_pos e]; exact ⟨fun _ => e, fun _ => rfl⟩
      · rw [if_neg e]; exact ⟨fun x => absurd (show (0 : Int) = 1 from x) (by decide), fun x => absurd x e⟩
theorem k_nearest (hp : KPp S k C) (hk : k < 4) (w : WFC C) (wp : WFP C) (h0 : C 16 0 ≠ 0) (g : GSz C) (hn : n < kN C) (hm : KMk S C R n) (hd : ∀ x, x < 2 * kLy C → -1 ≤ gI S 231 x ∧ gI S 231 x ≤ 60000) : WP (mX15_nearest S (n : Int)) (fun z => NrR C R n (fun x => gI S 231 x) z) := by
  have g5 := g.2.2.2.2.1
  have g8 := g.2.2.2.2.2.2.2
  have g7 := g.2.2.2.2.2.2.1
  have fs : gI S 224 n = pPrev (kPf C) n (kPn C) := (hp.1.2.2 n hn).1
  have pr0 := pPrev_rng (f := kPf C) (n := n) (m := kPn C)
  unfold mX15_nearest
  rw [rdI_e (by omega), Int.toNat_natCast, fs]
  refine WP_call (R := fun z => (z.2 = 0 ∨ z.2 = 1) ∧ (z.2 = 0 ↔ whl C R n) ∧ ((z.1 = -1 ∧ ∀ i, ¬ cand C R n (fun x => gI S 231 x) i) ∨ ∃ b : Nat, z.1 = (b : Int) ∧ b < 2 * kLy C ∧ NrB C R n (fun x => gI S 231 x) b)) ?_ (fun z hz => ?_)
  · refine WP_lpF (fun z => ∃ m, m ≤ kPn C ∧ z.2.2 = pPrev (kPf C) n m ∧ (z.2.1 = 0 ∨ z.2.1 = 1) ∧ (z.2.1 = 0 ↔ ∀ i, m ≤ i → i < kPn C → (kPf C i).1 = n → R 20 (pp C i) = (n : Int)) ∧ ((z.1 = -1 ∧ ∀ i, m ≤ i → ¬ cand C R n (fun x => gI S 231 x) i) ∨ ∃ b : Nat, z.1 = (b : Int) ∧ b < 2 * kLy C ∧ (∃ i, m ≤ i ∧ cand C R n (fun x => gI S 231 x) i ∧ pp C i = b) ∧ ∀ j, m ≤ j → cand C R n (fun x => gI S 231 x) j → gI S 231 b < gI S 231 (pp C j) ∨ (gI S 231 b = gI S 231 (pp C j) ∧ b ≤ pp C j))) (fun z => (z.2.2 + 1).toNat) ⟨kPn C, Nat.le_refl _, rfl, .inl rfl, ⟨fun _ i h1 h2 => by omega, fun _ => rfl⟩, .inl ⟨rfl, fun i h1 h2 => by have := h2.1; omega⟩⟩ (by unfold cFU; show (pPrev (kPf C) n (kPn C) + 1).toNat < _; omega) (fun z hI => ?_)
    obtain ⟨z0, z1, z⟩ := z
    obtain ⟨m, b1, b2, b3, b4, b5⟩ := hI
    dsimp only at b2 b3 b4 b5
    have pr := pPrev_rng (f := kPf C) (n := n) (m := m)
    rw [← b2] at pr
    unfold mX15_nearest_L15
    dsimp only
    rw [w32_id (by omega)]
    by_cases q : z = -1
    · rw [if_neg (fun g => g q)]
      have all : ∀ i, i < kPn C → (kPf C i).1 = n → m ≤ i := fun i i1 i2 => Nat.le_of_not_lt (fun l => pPrev_no (p := i) (by rw [← b2]; omega) l i2)
      refine WP_some.2 ⟨b3, b4.trans ⟨fun g i i1 i2 => g i (all i i1 i2) i1 i2, fun g i _ i1 i2 => g i i1 i2⟩, ?_⟩
      rcases b5 with ⟨c1, c2⟩ | ⟨b, c1, c2, ⟨i, c3, c4, c5⟩, c6⟩
      · exact .inl ⟨c1, fun i hi => c2 i (all i hi.1 hi.2.1) hi⟩
      · exact .inr ⟨b, c1, c2, ⟨i, c4, c5⟩, fun j hj => c6 j (all j hj.1 hj.2.1) hj⟩
    · obtain ⟨y, rfl⟩ : ∃ y : Nat, z = (y : Int) := ⟨z.toNat, by omega⟩
      have nt : (kPf C y).1 = n := by have := pPrev_net (f := kPf C) (n := n) (m := m) (by rw [← b2]; exact q); rw [← b2, Int.toNat_natCast] at this; exact this
      have hy : y < kPn C := by omega
      have nx : gI S 225 y = pPrev (kPf C) n y := by have := (hp.1.2.1 y hy).2.2.2; rw [← nt]; exact this
      have pl := (pp_lt w wp h0 hy).1
      have pr2 := pPrev_rng (f := kPf C) (n := n) (m := y)
      have dx := hd (pp C y) (by omega)
      have spl : ∀ i, y ≤ i → i < kPn C → (kPf C i).1 = n → i = y ∨ m ≤ i := fun i h1 h2 h3 => by
        by_cases l : i = y
        · exact .inl l
        · exact .inr (Nat.le_of_not_lt (fun l2 => pPrev_no (p := i) (by rw [← b2]; omega) l2 h3))
      rw [if_pos q, k_point hp hk w wp h0 hy, bX_some, rdZ_e (by omega), Int.toNat_natCast, hm _ (by omega)]
      have fin : ∀ v1 v2 : Int, (v2 = 0 ∨ v2 = 1) → (v2 = 0 ↔ ∀ i, y ≤ i → i < kPn C → (kPf C i).1 = n → R 20 (pp C i) = (n : Int)) → ((v1 = -1 ∧ ∀ i, y ≤ i → ¬ cand C R n (fun x => gI S 231 x) i) ∨ ∃ b : Nat, v1 = (b : Int) ∧ b < 2 * kLy C ∧ (∃ i, y ≤ i ∧ cand C R n (fun x => gI S 231 x) i ∧ pp C i = b) ∧ ∀ j, y ≤ j → cand C R n (fun x => gI S 231 x) j → gI S 231 b < gI S 231 (pp C j) ∨ (gI S 231 b = gI S 231 (pp C j) ∧ b ≤ pp C j)) →
          WP (bX (some (v1, v2)) fun y10 => rdI 640 S 225 (y : Int) fun v11 => some (Sum.inl (y10.1, y10.2, v11) : (Int × Int × Int) ⊕ (Int × Int))) (WE (fun z => (∃ m, m ≤ kPn C ∧ z.2.2 = pPrev (kPf C) n m ∧ (z.2.1 = 0 ∨ z.2.1 = 1) ∧ (z.2.1 = 0 ↔ ∀ i, m ≤ i → i < kPn C → (kPf C i).1 = n → R 20 (pp C i) = (n : Int)) ∧ ((z.1 = -1 ∧ ∀ i, m ≤ i → ¬ cand C R n (fun x => gI S 231 x) i) ∨ ∃ b : Nat, z.1 = (b : Int) ∧ b < 2 * kLy C ∧ (∃ i, m ≤ i ∧ cand C R n (fun x => gI S 231 x) i ∧ pp C i = b) ∧ ∀ j, m ≤ j → cand C R n (fun x => gI S 231 x) j → gI S 231 b < gI S 231 (pp C j) ∨ (gI S 231 b = gI S 231 (pp C j) ∧ b ≤ pp C j))) ∧ (z.2.2 + 1).toNat < ((y : Int) + 1).toNat) (fun z => (z.2 = 0 ∨ z.2 = 1) ∧ (z.2 = 0 ↔ whl C R n) ∧ ((z.1 = -1 ∧ ∀ i, ¬ cand C R n (fun x => gI S 231 x) i) ∨ ∃ b : Nat, z.1 = (b : Int) ∧ b < 2 * kLy C ∧ NrB C R n (fun x => gI S 231 x) b))) := fun v1 v2 k1 k2 k3 => by
        rw [bX_some, rdI_e (by omega), Int.toNat_natCast, nx]
        exact WP_some.2 ⟨⟨y, by omega, rfl, k1, k2, k3⟩, by show (pPrev (kPf C) n y + 1).toNat < _; omega⟩
      by_cases e : R 20 (pp C y) = (n : Int)
      · have nc : ∀ i, i = y → ¬ cand C R n (fun x => gI S 231 x) i := fun i hi hc => hc.2.2.1 (by rw [hi]; exact e)
        rw [if_pos e, if_pos (by decide)]
        refine fin _ _ b3 (b4.trans ⟨fun g i h1 h2 h3 => (spl i h1 h2 h3).elim (fun l => by rw [l]; exact e) (fun l => g i l h2 h3), fun g i h1 h2 h3 => g i (by omega) h2 h3⟩) ?_
        rcases b5 with ⟨c1, c2⟩ | ⟨b, c1, c2, ⟨i, c3, c4, c5⟩, c6⟩
        · exact .inl ⟨c1, fun i h1 h2 => (spl i h1 h2.1 h2.2.1).elim (fun l => nc i l h2) (fun l => c2 i l h2)⟩
        · exact .inr ⟨b, c1, c2, ⟨i, by omega, c4, c5⟩, fun j h1 h2 => (spl j h1 h2.1 h2.2.1).elim (fun l => absurd h2 (nc j l)) (fun l => c6 j l h2)⟩
      · have miss : ((1 : Int) = 0 ↔ ∀ i, y ≤ i → i < kPn C → (kPf C i).1 = n → R 20 (pp C i) = (n : Int)) := ⟨fun g => absurd g (by decide), fun g => absurd (g y (Nat.le_refl _) hy nt) e⟩
        rw [if_neg e, if_neg (by decide), rdI_e (by omega), Int.toNat_natCast, w32_id (by omega)]
        by_cases f : gI S 231 (pp C y) = -1
        · have nc : ∀ i, i = y → ¬ cand C R n (fun x => gI S 231 x) i := fun i hi hc => hc.2.2.2 (by rw [hi]; exact f)
          rw [if_pos f]
          refine fin _ _ (.inr rfl) miss ?_
          rcases b5 with ⟨c1, c2⟩ | ⟨b, c1, c2, ⟨i, c3, c4, c5⟩, c6⟩
          · exact .inl ⟨c1, fun i h1 h2 => (spl i h1 h2.1 h2.2.1).elim (fun l => nc i l h2) (fun l => c2 i l h2)⟩
          · exact .inr ⟨b, c1, c2, ⟨i, by omega, c4, c5⟩, fun j h1 h2 => (spl j h1 h2.1 h2.2.1).elim (fun l => absurd h2 (nc j l)) (fun l => c6 j l h2)⟩
        · have cy : cand C R n (fun x => gI S 231 x) y := ⟨hy, nt, e, f⟩
          rw [if_neg f]
          have take : (∀ j, m ≤ j → cand C R n (fun x => gI S 231 x) j → gI S 231 (pp C y) < gI S 231 (pp C j) ∨ (gI S 231 (pp C y) = gI S 231 (pp C j) ∧ pp C y ≤ pp C j)) → ((pp C y : Int) = -1 ∧ ∀ i, y ≤ i → ¬ cand C R n (fun x => gI S 231 x) i) ∨ ∃ b : Nat, (pp C y : Int) = (b : Int) ∧ b < 2 * kLy C ∧ (∃ i, y ≤ i ∧ cand C R n (fun x => gI S 231 x) i ∧ pp C i = b) ∧ ∀ j, y ≤ j → cand C R n (fun x => gI S 231 x) j → gI S 231 b < gI S 231 (pp C j) ∨ (gI S 231 b = gI S 231 (pp C j) ∧ b ≤ pp C j) := fun ht =>
            .inr ⟨pp C y, rfl, by omega, ⟨y, Nat.le_refl _, cy, rfl⟩, fun j h1 h2 => (spl j h1 h2.1 h2.2.1).elim (fun l => by rw [l]; exact .inr ⟨rfl, Nat.le_refl _⟩) (fun l => ht j l h2)⟩
          rcases b5 with ⟨c1, c2⟩ | ⟨b, c1, c2, ⟨i, c3, c4, c5⟩, c6⟩
          · rw [c1, if_neg (by decide), bX_some, if_pos rfl]
            exact fin _ _ (.inr rfl) miss (take (fun j h1 h2 => absurd h2 (c2 j h1)))
          · have db := hd b c2
            rw [c1, w32_id (by omega), if_pos (by omega), rdI_e (by omega), Int.toNat_natCast, rdI_e (by omega), Int.toNat_natCast, w32_id (by omega), w32_id (by omega)]
            have keep : ¬ (gI S 231 (pp C y) < gI S 231 b ∨ (gI S 231 (pp C y) = gI S 231 b ∧ pp C y < b)) → ((b : Int) = -1 ∧ ∀ i, y ≤ i → ¬ cand C R n (fun x => gI S 231 x) i) ∨ ∃ b' : Nat, (b : Int) = (b' : Int) ∧ b' < 2 * kLy C ∧ (∃ i, y ≤ i ∧ cand C R n (fun x => gI S 231 x) i ∧ pp C i = b') ∧ ∀ j, y ≤ j → cand C R n (fun x => gI S 231 x) j → gI S 231 b' < gI S 231 (pp C j) ∨ (gI S 231 b' = gI S 231 (pp C j) ∧ b' ≤ pp C j) := fun ht =>
              .inr ⟨b, rfl, c2, ⟨i, by omega, c4, c5⟩, fun j h1 h2 => (spl j h1 h2.1 h2.2.1).elim (fun l => by rw [l]; omega) (fun l => c6 j l h2)⟩
            have better : (gI S 231 (pp C y) < gI S 231 b ∨ (gI S 231 (pp C y) = gI S 231 b ∧ pp C y < b)) → ∀ j, m ≤ j → cand C R n (fun x => gI S 231 x) j → gI S 231 (pp C y) < gI S 231 (pp C j) ∨ (gI S 231 (pp C y) = gI S 231 (pp C j) ∧ pp C y ≤ pp C j) := fun ht j h1 h2 => by
              have := c6 j h1 h2
              omega
            by_cases l : gI S 231 b ≤ gI S 231 (pp C y)
            · rw [if_pos l, rdI_e (by omega), Int.toNat_natCast, rdI_e (by omega), Int.toNat_natCast, w32_id (by omega), w32_id (by omega)]
              by_cases l2 : gI S 231 (pp C y) = gI S 231 b
              · rw [if_pos l2, w32_id (by omega)]
                by_cases l3 : (pp C y : Int) < (b : Int)
                · rw [if_pos l3, bX_some, if_pos rfl]
                  exact fin _ _ (.inr rfl) miss (take (better (.inr ⟨l2, by omega⟩)))
                · rw [if_neg l3, bX_some, if_neg (by decide)]
                  exact fin _ _ (.inr rfl) miss (keep (by omega))
              · rw [if_neg l2, bX_some, if_neg (by decide)]
                exact fin _ _ (.inr rfl) miss (keep (by omega))
            · rw [if_neg l, bX_some, if_pos rfl]
              exact fin _ _ (.inr rfl) miss (take (better (.inl (by omega))))
  · obtain ⟨z1, z2⟩ := z
    obtain ⟨c1, c2, c3⟩ := hz
    dsimp only at c1 c2 c3
    dsimp only
    rcases c3 with ⟨d1, d2⟩ | ⟨b, d1, d2, d3⟩
    · rw [d1, if_neg (by decide)]
      by_cases t : whl C R n
      · rw [c2.2 t, if_neg (by decide), bX_some]
        exact WP_some.2 (.inl ⟨rfl, t⟩)
      · have : z2 = 1 := c1.elim (fun e => absurd (c2.1 e) t) id
        rw [this, if_pos (by decide), bX_some]
        exact WP_some.2 (.inr (.inl ⟨rfl, t, d2⟩))
    · rw [d1, w32_id (by omega), if_pos (by omega), bX_some]
      exact WP_some.2 (.inr (.inr ⟨b, rfl, d3⟩))
end KCON
