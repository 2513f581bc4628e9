/-! what holds of wires while they are made: no program -/
def RInv (C R : Chp) : Prop := RRg C R ∧ (∀ p, p < 2 * kLy C → kp C p ≠ -1 → R 20 p = -1 ∨ R 20 p = kp C p) ∧
  (∀ p, p < 2 * kLy C → R 21 p = 1 → p < kLy C ∧ p % kW C + 1 < kW C ∧ R 20 (p + 1) = R 20 p ∧ R 20 p ≠ -1) ∧
  (∀ p, p < 2 * kLy C → R 31 p = 1 → kLy C ≤ p ∧ p + kW C < 2 * kLy C ∧ R 20 (p + kW C) = R 20 p ∧ R 20 p ≠ -1) ∧
  (∀ p, p < 2 * kLy C → R 32 p = 1 → p < kLy C ∧ R 20 p ≠ -1)
/-- what connecting a net does to the others -/
def CnI (C R : Chp) (n : Nat) (dear : Bool) (R' : Chp) : Prop := RInv C R' ∧ (∀ (y : Int) x, y ≠ (n : Int) → y ≠ -1 → R' 20 x = y → R 20 x = y) ∧
  (∀ y : Nat, y ≠ n → R' 22 y = 1 → R 22 y = 1 ∨ ∀ x, R' 20 x ≠ (y : Int)) ∧ (∀ y : Nat, y ≠ n → (dear = false ∨ ∀ x, R 20 x ≠ (y : Int)) → R' 22 y = R 22 y)
def CnO (C R : Chp) (n : Nat) (dear : Bool) (R' : Chp) (ok : Int) : Prop := CnI C R n dear R' ∧ ((ok = 1 ∧ R' 22 n = 0) ∨ (ok = 0 ∧ R' 22 n = 1 ∧ ∀ x, R' 20 x ≠ (n : Int)))
section RINV
variable {C R R' : Chp} {n : Nat} {dear : Bool}
theorem RRg.set (h : RRg C R) (hn : n < kN C) (p : Nat) : RRg C (rSet R p n) := by
  refine ⟨fun x hx => ?_, fun y hy => ?_⟩
  · have := h.1 x hx
    have e21 : rSet R p n 21 x = R 21 x := if_neg (by omega)
    have e31 : rSet R p n 31 x = R 31 x := if_neg (by omega)
    have e32 : rSet R p n 32 x = R 32 x := if_neg (by omega)
    rw [e21, e31, e32]
    by_cases e : x = p
    · have : rSet R p n 20 x = (n : Int) := if_pos ⟨rfl, e⟩
      rw [this]; omega
    · have : rSet R p n 20 x = R 20 x := if_neg (fun g => e g.2)
      rw [this]; omega
  · have : rSet R p n 22 y = R 22 y := if_neg (by omega)
    rw [this]; exact h.2 y hy
theorem CnI.start (h : RInv C R) (hn : n < kN C) {p : Nat} (hp : R 20 p = -1) (hk : kp C p = (n : Int)) : CnI C R n dear (rSet R p n) := by
  obtain ⟨h1, h2, h3, h4, h5⟩ := h
  have eq20 : ∀ x, rSet R p n 20 x = if x = p then (n : Int) else R 20 x := fun x => by
    by_cases e : x = p
    · rw [if_pos e]; exact if_pos ⟨rfl, e⟩
    · rw [if_neg e]; exact if_neg (fun g => e g.2)
  have eo : ∀ g x, g ≠ 20 → rSet R p n g x = R g x := fun g x q => if_neg (fun z => q z.1)
  have ne : ∀ x, R 20 x ≠ -1 → rSet R p n 20 x = R 20 x := fun x hx => by rw [eq20, if_neg (fun e => hx (by rw [e]; exact hp))]
  refine ⟨⟨h1.set hn p, fun x hx g => ?_, fun x hx g => ?_, fun x hx g => ?_, fun x hx g => ?_⟩, fun y x q1 q2 q3 => ?_, fun y q1 q2 => ?_, fun y _ _ => eo _ _ (by omega)⟩
  · rw [eq20]
    by_cases e : x = p
    · rw [if_pos e, e, hk]; exact .inr rfl
    · rw [if_neg e]; exact h2 x hx g
  · rw [eo _ _ (by omega)] at g
    obtain ⟨a, b, c, d⟩ := h3 x hx g
    rw [ne x d, ne (x + 1) (by rw [c]; exact d)]; exact ⟨a, b, c, d⟩
  · rw [eo _ _ (by omega)] at g
    obtain ⟨a, b, c, d⟩ := h4 x hx g
    rw [ne x d, ne (x + kW C) (by rw [c]; exact d)]; exact ⟨a, b, c, d⟩
  · rw [eo _ _ (by omega)] at g
    obtain ⟨a, d⟩ := h5 x hx g
    rw [ne x d]; exact ⟨a, d⟩
  · rw [eq20] at q3
    by_cases e : x = p
    · rw [if_pos e] at q3; exact absurd q3.symm q1
    · rw [if_neg e] at q3; exact q3
  · rw [eo _ _ (by omega)] at q2; exact .inl q2
theorem RInv.fr (h : RInv C R) (y : Int) : RInv C (rFr R y) := by
  obtain ⟨h1, h2, h3, h4, h5⟩ := h
  have e20 : ∀ x, rFr R y 20 x = if R 20 x = y then -1 else R 20 x := fun x => rfl
  have eb : ∀ g x, (g = 21 ∨ g = 31 ∨ g = 32) → rFr R y g x = if R 20 x = y then 0 else R g x := fun g x q => by
    unfold rFr; rw [if_neg (by omega), if_neg (by omega)]
  refine ⟨h1.fr y, fun x hx g => ?_, fun x hx g => ?_, fun x hx g => ?_, fun x hx g => ?_⟩
  · rw [e20]
    by_cases e : R 20 x = y
    · rw [if_pos e]; exact .inl rfl
    · rw [if_neg e]; exact h2 x hx g
  · rw [eb _ _ (by omega)] at g
    by_cases e : R 20 x = y
    · rw [if_pos e] at g; exact absurd g (by decide)
    · rw [if_neg e] at g
      obtain ⟨a, b, c, d⟩ := h3 x hx g
      rw [e20, e20, if_neg e, if_neg (by rw [c]; exact e)]; exact ⟨a, b, c, d⟩
  · rw [eb _ _ (by omega)] at g
    by_cases e : R 20 x = y
    · rw [if_pos e] at g; exact absurd g (by decide)
    · rw [if_neg e] at g
      obtain ⟨a, b, c, d⟩ := h4 x hx g
      rw [e20, e20, if_neg e, if_neg (by rw [c]; exact e)]; exact ⟨a, b, c, d⟩
  · rw [eb _ _ (by omega)] at g
    by_cases e : R 20 x = y
    · rw [if_pos e] at g; exact absurd g (by decide)
    · rw [if_neg e] at g
      obtain ⟨a, d⟩ := h5 x hx g
      rw [e20, if_neg e]; exact ⟨a, d⟩
theorem CnI.fail (h : CnI C R n dear R') : CnO C R n dear (rFr R' (n : Int)) 0 := by
  obtain ⟨h1, h2, h3, h4⟩ := h
  have e20 : ∀ x, rFr R' (n : Int) 20 x = if R' 20 x = (n : Int) then -1 else R' 20 x := fun x => rfl
  have e22 : ∀ y : Nat, rFr R' (n : Int) 22 y = if (y : Int) = (n : Int) then 1 else R' 22 y := fun y => rfl
  have sub : ∀ (y : Int) x, y ≠ -1 → rFr R' (n : Int) 20 x = y → R' 20 x = y := fun y x q g => by
    rw [e20] at g
    by_cases e : R' 20 x = (n : Int)
    · rw [if_pos e] at g; exact absurd g.symm q
    · rw [if_neg e] at g; exact g
  refine ⟨⟨h1.fr _, fun y x q1 q2 q3 => h2 y x q1 q2 (sub y x q2 q3), fun y q1 q2 => ?_, fun y q hd => ?_⟩, .inr ⟨rfl, by rw [e22, if_pos rfl], fun x => ?_⟩⟩
  · rw [e22, if_neg (by omega)] at q2
    rcases h3 y q1 q2 with g | g
    · exact .inl g
    · exact .inr (fun x g2 => g x (sub _ x (by omega) g2))
  · rw [e22, if_neg (by omega)]; exact h4 y q hd
  · rw [e20]
    by_cases e : R' 20 x = (n : Int)
    · rw [if_pos e]; omega
    · rw [if_neg e]; exact e
theorem CnI.fin (h : CnI C R n dear R') : CnO C R n dear (rOp R' n) 1 := by
  obtain ⟨⟨a1, a2, a3, a4, a5⟩, h2, h3, h4⟩ := h
  have eo : ∀ g x, g ≠ 22 → rOp R' n g x = R' g x := fun g x q => if_neg (fun z => q z.1)
  have e22 : ∀ y : Nat, y ≠ n → rOp R' n 22 y = R' 22 y := fun y q => if_neg (fun z => q z.2)
  have en : rOp R' n 22 n = 0 := if_pos ⟨rfl, rfl⟩
  refine ⟨⟨⟨⟨fun p hp => ?_, fun y hy => ?_⟩, fun p hp g => ?_, fun p hp g => ?_, fun p hp g => ?_, fun p hp g => ?_⟩, fun y x q1 q2 q3 => ?_, fun y q1 q2 => ?_, fun y q hd => ?_⟩, .inl ⟨rfl, en⟩⟩
  · rw [eo _ _ (by omega), eo _ _ (by omega), eo _ _ (by omega), eo _ _ (by omega)]; exact a1.1 p hp
  · by_cases e : y = n
    · rw [e]; exact .inl en
    · rw [e22 y e]; exact a1.2 y hy
  · rw [eo _ _ (by omega)]; exact a2 p hp g
  · rw [eo _ _ (by omega)] at g; rw [eo _ _ (by omega), eo _ _ (by omega)]; exact a3 p hp g
  · rw [eo _ _ (by omega)] at g; rw [eo _ _ (by omega), eo _ _ (by omega)]; exact a4 p hp g
  · rw [eo _ _ (by omega)] at g; rw [eo _ _ (by omega)]; exact a5 p hp g
  · rw [eo _ _ (by omega)] at q3; exact h2 y x q1 q2 q3
  · rw [e22 y q1] at q2
    rcases h3 y q1 q2 with g | g
    · exact .inl g
    · exact .inr (fun x => by rw [eo _ _ (by omega)]; exact g x)
  · rw [e22 y q]; exact h4 y q hd
/-- the points of a way -/
theorem way_in (hF : DOk C R n dear (dF C R n dear)) {p0 m : Nat} (h0 : p0 < 2 * kLy C) (hd : dF C R n dear p0 ≠ -1) (r2 : ∀ i, i < m → R 20 (fPr C R n dear p0 i) ≠ (n : Int)) :
    ∀ i, i ≤ m → (fPr C R n dear p0 i < 2 * kLy C ∧ dF C R n dear (fPr C R n dear p0 i) ≠ -1) ∧ (i < m → 0 < prF C R n dear (fPr C R n dear p0 i) ∧ ∃ j, j < 5 ∧ nxF C (fPr C R n dear p0 i) j = (fPr C R n dear p0 (i + 1) : Int)) := by
  intro i
  have st : ∀ i, i < m → fPr C R n dear p0 i < 2 * kLy C → dF C R n dear (fPr C R n dear p0 i) ≠ -1 → 0 < prF C R n dear (fPr C R n dear p0 i) ∧ (∃ j, j < 5 ∧ nxF C (fPr C R n dear p0 i) j = (fPr C R n dear p0 (i + 1) : Int)) ∧ fPr C R n dear p0 (i + 1) < 2 * kLy C ∧ dF C R n dear (fPr C R n dear p0 (i + 1)) ≠ -1 := fun i hi b1 b2 => by
    obtain ⟨y, j, j1, y1, y2, y3, y4, y5, y6⟩ := way_st hF b1 (r2 i hi) b2
    have e : fPr C R n dear p0 (i + 1) = y := by
      show (bkF C (dF C R n dear) (prF C R n dear (fPr C R n dear p0 i) : Int) (fPr C R n dear p0 i) 5).toNat = y
      rw [y3, Int.toNat_natCast]
    rw [e]; exact ⟨y6, ⟨j, j1, y2⟩, y1, y4⟩
  induction i with
  | zero => exact fun _ => ⟨⟨h0, hd⟩, fun h => by have := st 0 h h0 hd; exact ⟨this.1, this.2.1⟩⟩
  | succ i ih =>
    intro h
    have a := (ih (by omega)).1
    have b := st i (by omega) a.1 a.2
    exact ⟨⟨b.2.2.1, b.2.2.2⟩, fun h => by have := st (i + 1) h b.2.2.1 b.2.2.2; exact ⟨this.1, this.2.1⟩⟩
theorem CnI.way {f : Nat → Nat} {m : Nat} (h : CnI C R n dear R') (hn : n < kN C) (r1 : R' 20 (f m) = (n : Int)) (hf : ∀ i, i < m → f i < 2 * kLy C ∧ 0 < prF C R' n dear (f i) ∧ ∃ j, j < 5 ∧ nxF C (f i) j = (f (i + 1) : Int)) : CnI C R n dear (rQ C R' n f m m m) := by
  obtain ⟨⟨a1, a2, a3, a4, a5⟩, h2, h3, h4⟩ := h
  have own := fun x => rQ_own (C := C) (R := R') (n := n) (a := m) (b := m) (c := m) (f := f) x
  have eb : ∀ g x, (g = 21 ∨ g = 31 ∨ g = 32) → rQ C R' n f m m m g x = cI (jBt C f m (if g = 21 then 1 else if g = 31 then 2 else 4) x) 1 (cI (mBb R' n f m (R' 20 x)) 0 (R' g x)) := fun g x q => by
    unfold rQ; rw [if_neg (by omega), if_neg (by omega)]
  have onw : ∀ i, i ≤ m → rQ C R' n f m m m 20 (f i) = (n : Int) := fun i hi => (rQ_n _).2 (by
    by_cases e : i = m
    · rw [e]; exact .inr r1
    · exact .inl ⟨i, by omega, rfl⟩)
  -- an old step: both its ends
  have old : ∀ x y, R' 20 y = R' 20 x → R' 20 x ≠ -1 → ¬ mBb R' n f m (R' 20 x) → rQ C R' n f m m m 20 y = rQ C R' n f m m m 20 x ∧ rQ C R' n f m m m 20 x ≠ -1 := fun x y e ne nm => by
    have side : ∀ z, R' 20 z = R' 20 x → rQ C R' n f m m m 20 z = R' 20 x := fun z ez => by
      rcases own z with ⟨⟨j, j1, j2⟩, g2⟩ | ⟨g1, g2, g3⟩ | ⟨g1, g2, g3⟩
      · rw [g2]
        refine Classical.byContradiction (fun no => nm ⟨ne, fun e => no e.symm, j, j1, ?_⟩)
        rw [j2]; exact ez
      · rw [ez] at g2; exact absurd g2 nm
      · rw [g3]; exact ez
    rw [side y e, side x rfl]; exact ⟨rfl, ne⟩
  have bit : ∀ g x, (g = 21 ∨ g = 31 ∨ g = 32) → rQ C R' n f m m m g x = 1 → (∃ i, i < m ∧ min (f i) (f (i + 1)) = x ∧ stK C (f i) (f (i + 1)) = (if g = 21 then 1 else if g = 31 then 2 else 4)) ∨ (R' g x = 1 ∧ ¬ mBb R' n f m (R' 20 x)) := fun g x q e => by
    rw [eb g x q] at e
    by_cases j : jBt C f m (if g = 21 then 1 else if g = 31 then 2 else 4) x
    · exact .inl j
    · rw [cI_f j] at e
      by_cases b : mBb R' n f m (R' 20 x)
      · rw [cI_t b] at e; exact absurd e (by decide)
      · rw [cI_f b] at e; exact .inr ⟨e, b⟩
  have mm : ∀ i x, i < m → min (f i) (f (i + 1)) = x → x = f i ∨ x = f (i + 1) := fun i x _ e => by omega
  refine ⟨⟨a1.q hn, fun x hx g => ?_, fun x hx g => ?_, fun x hx g => ?_, fun x hx g => ?_⟩, fun y x q1 q2 q3 => ?_, fun y q1 q2 => ?_, fun y q hd => ?_⟩
  · rcases own x with ⟨⟨j, j1, j2⟩, g2⟩ | ⟨g1, g2, g3⟩ | ⟨g1, g2, g3⟩
    · rw [g2]
      have p := (hf j j1).2.1
      rw [j2] at p
      unfold prF at p
      by_cases c1 : R' 20 x = -1 ∧ (kp C x = -1 ∨ kp C x = (n : Int))
      · exact .inr ((c1.2.resolve_left g).symm)
      · rw [if_neg c1, if_neg (fun c => g c.1)] at p; omega
    · exact .inl g3
    · rw [g3]; exact a2 x hx g
  · rcases bit 21 x (by omega) g with ⟨i, i1, i2, i3⟩ | ⟨b1, b2⟩
    · obtain ⟨p1, p2, j, j1, j2⟩ := hf i i1
      have sc := stK_cases p1 j1 j2
      have i3 : stK C (f i) (f (i + 1)) = 1 := i3
      have ex : rQ C R' n f m m m 20 x = (n : Int) ∧ rQ C R' n f m m m 20 (x + 1) = (n : Int) := by
        have o1 := onw i (by omega)
        have o2 := onw (i + 1) (by omega)
        rcases mm i x i1 i2 with e | e
        · have : x + 1 = f (i + 1) := by omega
          rw [this, e]; exact ⟨o1, o2⟩
        · have : x + 1 = f i := by omega
          rw [this, e]; exact ⟨o2, o1⟩
      rw [ex.1, ex.2]
      rw [i2] at sc
      exact ⟨by omega, by omega, rfl, by omega⟩
    · obtain ⟨c1, c2, c3, c4⟩ := a3 x hx b1
      have := old x (x + 1) c3 c4 b2
      exact ⟨c1, c2, this.1, this.2⟩
  · rcases bit 31 x (by omega) g with ⟨i, i1, i2, i3⟩ | ⟨b1, b2⟩
    · obtain ⟨p1, p2, j, j1, j2⟩ := hf i i1
      have sc := stK_cases p1 j1 j2
      have i3 : stK C (f i) (f (i + 1)) = 2 := i3
      have ex : rQ C R' n f m m m 20 x = (n : Int) ∧ rQ C R' n f m m m 20 (x + kW C) = (n : Int) := by
        have o1 := onw i (by omega)
        have o2 := onw (i + 1) (by omega)
        rcases mm i x i1 i2 with e | e
        · have : x + kW C = f (i + 1) := by omega
          rw [this, e]; exact ⟨o1, o2⟩
        · have : x + kW C = f i := by omega
          rw [this, e]; exact ⟨o2, o1⟩
      rw [ex.1, ex.2]
      rw [i2] at sc
      exact ⟨by omega, by omega, rfl, by omega⟩
    · obtain ⟨c1, c2, c3, c4⟩ := a4 x hx b1
      have := old x (x + kW C) c3 c4 b2
      exact ⟨c1, c2, this.1, this.2⟩
  · rcases bit 32 x (by omega) g with ⟨i, i1, i2, i3⟩ | ⟨b1, b2⟩
    · obtain ⟨p1, p2, j, j1, j2⟩ := hf i i1
      have sc := stK_cases p1 j1 j2
      have i3 : stK C (f i) (f (i + 1)) = 4 := i3
      have ex : rQ C R' n f m m m 20 x = (n : Int) := by
        rcases mm i x i1 i2 with e | e
        · rw [e]; exact onw i (by omega)
        · rw [e]; exact onw (i + 1) (by omega)
      rw [ex]
      rw [i2] at sc
      exact ⟨by omega, by omega⟩
    · obtain ⟨c1, c4⟩ := a5 x hx b1
      have := old x x rfl c4 b2
      exact ⟨c1, this.2⟩
  · rcases own x with ⟨g1, g2⟩ | ⟨g1, g2, g3⟩ | ⟨g1, g2, g3⟩
    · rw [g2] at q3; exact absurd q3.symm q1
    · rw [g3] at q3; exact absurd q3.symm q2
    · rw [g3] at q3; exact h2 y x q1 q2 q3
  · have e22 : rQ C R' n f m m m 22 y = cI (mBb R' n f m (y : Int)) 1 (R' 22 y) := rfl
    rw [e22] at q2
    have sub : ∀ x, rQ C R' n f m m m 20 x = (y : Int) → R' 20 x = (y : Int) ∧ ¬ mBb R' n f m (y : Int) := fun x hx => by
      rcases own x with ⟨g1, g2⟩ | ⟨g1, g2, g3⟩ | ⟨g1, g2, g3⟩
      · rw [g2] at hx; omega
      · rw [g3] at hx; omega
      · rw [g3] at hx; rw [hx] at g2; exact ⟨hx, g2⟩
    by_cases b : mBb R' n f m (y : Int)
    · exact .inr (fun x hx => (sub x hx).2 b)
    · rw [cI_f b] at q2
      rcases h3 y q1 q2 with g | g
      · exact .inl g
      · exact .inr (fun x hx => g x (sub x hx).1)
  · have e22 : rQ C R' n f m m m 22 y = cI (mBb R' n f m (y : Int)) 1 (R' 22 y) := rfl
    have nb : ¬ mBb R' n f m (y : Int) := fun ⟨b1, b2, j, b3, b4⟩ => by
      have p := (hf j b3).2.1
      rcases hd with hd | hd
      case inr => exact hd (f j) (h2 _ _ b2 b1 b4)
      subst hd
      unfold prF at p
      by_cases c1 : R' 20 (f j) = -1 ∧ (kp C (f j) = -1 ∨ kp C (f j) = (n : Int))
      · exact b1 (b4.symm.trans c1.1)
      · rw [if_neg c1, if_neg (fun c => absurd c.2 (by decide))] at p; omega
    rw [e22, cI_f nb]
    exact h4 y q hd
end RINV
