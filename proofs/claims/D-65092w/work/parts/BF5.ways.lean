/-! ways and what they leave: no program -/
/-- a net is freed -/
def rFr (R : Chp) (y : Int) : Chp := fun g x => if g = 20 then (if R 20 x = y then -1 else R 20 x) else if g = 22 then (if (x : Int) = y then 1 else R 22 x) else if R 20 x = y then 0 else R g x
def rRb (R : Chp) (n : Nat) (p : Nat) : Chp := if R 20 p = -1 ∨ R 20 p = (n : Int) then R else rFr R (R 20 p)
def mBb (R : Chp) (n : Nat) (f : Nat → Nat) (b : Nat) (y : Int) : Prop := y ≠ -1 ∧ y ≠ (n : Int) ∧ ∃ j, j < b ∧ R 20 (f j) = y
def oPt (f : Nat → Nat) (a x : Nat) : Prop := ∃ j, j < a ∧ f j = x
def jBt (C : Chp) (f : Nat → Nat) (c kd x : Nat) : Prop := ∃ j, j < c ∧ min (f j) (f (j + 1)) = x ∧ stK C (f j) (f (j + 1)) = kd
/-- a points owned, b points robbed, c steps made -/
noncomputable def rQ (C R : Chp) (n : Nat) (f : Nat → Nat) (a b c : Nat) : Chp := fun g x =>
  if g = 20 then cI (oPt f a x) (n : Int) (cI (mBb R n f b (R 20 x)) (-1) (R 20 x))
  else if g = 22 then cI (mBb R n f b (x : Int)) 1 (R 22 x)
  else cI (jBt C f c (if g = 21 then 1 else if g = 31 then 2 else 4) x) 1 (cI (mBb R n f b (R 20 x)) 0 (R g x))
/-- alike where it matters -/
def rEq (R R' : Chp) : Prop := ∀ g x, (g = 20 ∨ g = 21 ∨ g = 22 ∨ g = 31 ∨ g = 32) → R g x = R' g x
theorem rEq.refl {R : Chp} : rEq R R := fun _ _ _ => rfl
theorem rEq.symm {R R' : Chp} (h : rEq R R') : rEq R' R := fun g x q => (h g x q).symm
theorem rEq.tr {R R' R'' : Chp} (h : rEq R R') (h' : rEq R' R'') : rEq R R'' := fun g x q => (h g x q).trans (h' g x q)
theorem rFr_eq {R R' : Chp} (h : rEq R R') (y : Int) : rEq (rFr R y) (rFr R' y) := fun g x q => by
  unfold rFr
  rw [h 20 x (by omega), h 22 x (by omega), h g x q]
theorem rRb_eq {R R' : Chp} (h : rEq R R') (n p : Nat) : rEq (rRb R n p) (rRb R' n p) := by
  unfold rRb
  rw [h 20 p (by omega)]
  split
  · exact h
  · exact rFr_eq h _
section WAYS
variable {C R : Chp} {n a b c : Nat} {f : Nat → Nat}
theorem rQ_20 (x : Nat) : rQ C R n f a b c 20 x = cI (oPt f a x) (n : Int) (cI (mBb R n f b (R 20 x)) (-1) (R 20 x)) := rfl
theorem mBb_up {y : Int} : mBb R n f (b + 1) y ↔ mBb R n f b y ∨ (y ≠ -1 ∧ y ≠ (n : Int) ∧ R 20 (f b) = y) := by
  constructor
  · rintro ⟨h1, h2, j, h3, h4⟩
    by_cases q : j = b
    · subst q; exact .inr ⟨h1, h2, h4⟩
    · exact .inl ⟨h1, h2, j, by omega, h4⟩
  · rintro (⟨h1, h2, j, h3, h4⟩ | ⟨h1, h2, h4⟩)
    · exact ⟨h1, h2, j, by omega, h4⟩
    · exact ⟨h1, h2, b, by omega, h4⟩
/-- who owns a point on the way -/
theorem rQ_own (x : Nat) : (oPt f a x ∧ rQ C R n f a b c 20 x = (n : Int)) ∨ (¬ oPt f a x ∧ mBb R n f b (R 20 x) ∧ rQ C R n f a b c 20 x = -1) ∨ (¬ oPt f a x ∧ ¬ mBb R n f b (R 20 x) ∧ rQ C R n f a b c 20 x = R 20 x) := by
  rw [rQ_20]
  by_cases q : oPt f a x
  · exact .inl ⟨q, cI_t q⟩
  · rw [cI_f q]
    by_cases q2 : mBb R n f b (R 20 x)
    · exact .inr (.inl ⟨q, q2, cI_t q2⟩)
    · exact .inr (.inr ⟨q, q2, cI_f q2⟩)
/-- it is the net's own: on the way so far, or before -/
theorem rQ_n (x : Nat) : rQ C R n f a b c 20 x = (n : Int) ↔ oPt f a x ∨ R 20 x = (n : Int) := by
  rcases rQ_own (C := C) (R := R) (n := n) (a := a) (b := b) (c := c) (f := f) x with ⟨h1, h2⟩ | ⟨h1, h2, h3⟩ | ⟨h1, h2, h3⟩
  · rw [h2]; exact ⟨fun _ => .inl h1, fun _ => rfl⟩
  · rw [h3]
    exact ⟨fun g => by omega, fun g => g.elim (fun g => absurd g h1) (fun g => absurd g h2.2.1)⟩
  · rw [h3]; exact ⟨.inr, fun g => g.elim (fun g => absurd g h1) id⟩
theorem rQ_0 : rEq R (rQ C R n f 0 0 0) := fun g x q => by
  have h1 : ∀ y, ¬ mBb R n f 0 y := fun y h => by obtain ⟨_, _, j, hj, _⟩ := h; omega
  unfold rQ
  by_cases g0 : g = 20
  · rw [if_pos g0, cI_f (fun ⟨j, hj, _⟩ => by omega), cI_f (h1 _), g0]
  · rw [if_neg g0]
    by_cases g2 : g = 22
    · rw [if_pos g2, cI_f (h1 _), g2]
    · rw [if_neg g2, cI_f (fun ⟨j, hj, _⟩ => by omega), cI_f (h1 _)]
/-- the next point is robbed -/
theorem rQ_rob (hab : a ≤ b) (hc : c ≤ a ∧ (c = 0 ∨ c < b)) : rEq (rRb (rQ C R n f a b c) n (f b)) (rQ C R n f a (b + 1) c) := by
  have own := rQ_own (C := C) (R := R) (n := n) (a := a) (b := b) (c := c) (f := f) (f b)
  unfold rRb
  by_cases cur : rQ C R n f a b c 20 (f b) = -1 ∨ rQ C R n f a b c 20 (f b) = (n : Int)
  · rw [if_pos cur]
    have same : ∀ y, mBb R n f (b + 1) y ↔ mBb R n f b y := fun y => by
      rw [mBb_up]
      refine ⟨fun g => g.elim id (fun ⟨g1, g2, g3⟩ => ?_), .inl⟩
      rcases own with ⟨⟨j, j1, j2⟩, h2⟩ | ⟨h1, h2, h3⟩ | ⟨h1, h2, h3⟩
      · exact ⟨g1, g2, j, by omega, by rw [j2]; exact g3⟩
      · rw [← g3]; exact h2
      · rw [h3, g3] at cur; exact absurd cur (fun g => g.elim g1 g2)
    intro g x q
    unfold rQ
    rw [cI_cg (same (R 20 x)), cI_cg (a := 1) (same (x : Int)), cI_cg (a := 0) (same (R 20 x))]
  · rw [if_neg cur]
    have nc : ¬ oPt f a (f b) ∧ ¬ mBb R n f b (R 20 (f b)) ∧ rQ C R n f a b c 20 (f b) = R 20 (f b) := by
      rcases own with ⟨h1, h2⟩ | ⟨h1, h2, h3⟩ | h
      · exact absurd (.inr h2) cur
      · exact absurd (.inl h3) cur
      · exact h
    obtain ⟨n1, n2, n3⟩ := nc
    rw [n3] at cur ⊢
    have y1 : R 20 (f b) ≠ -1 := fun g => cur (.inl g)
    have y2 : R 20 (f b) ≠ (n : Int) := fun g => cur (.inr g)
    have new : ∀ y, mBb R n f (b + 1) y ↔ mBb R n f b y ∨ y = R 20 (f b) := fun y => by
      rw [mBb_up]
      exact ⟨fun g => g.elim .inl (fun g => .inr g.2.2.symm), fun g => g.elim .inl (fun g => .inr ⟨by rw [g]; exact y1, by rw [g]; exact y2, g.symm⟩)⟩
    have eq20 : ∀ x, rQ C R n f a b c 20 x = R 20 (f b) ↔ ¬ oPt f a x ∧ ¬ mBb R n f b (R 20 x) ∧ R 20 x = R 20 (f b) := fun x => by
      rcases rQ_own (C := C) (R := R) (n := n) (a := a) (b := b) (c := c) (f := f) x with ⟨h1, h2⟩ | ⟨h1, h2, h3⟩ | ⟨h1, h2, h3⟩
      · rw [h2]; exact ⟨fun g => absurd g.symm y2, fun g => absurd h1 g.1⟩
      · rw [h3]; exact ⟨fun g => absurd g.symm y1, fun g => absurd h2 g.2.1⟩
      · rw [h3]; exact ⟨fun g => ⟨h1, h2, g⟩, fun g => g.2.2⟩
    intro g x q
    unfold rFr
    by_cases g0 : g = 20
    · rw [if_pos g0, g0, rQ_20 (b := b + 1)]
      by_cases e : rQ C R n f a b c 20 x = R 20 (f b)
      · have e' := (eq20 x).1 e
        rw [if_pos e, cI_f e'.1, cI_t ((new _).2 (.inr e'.2.2))]
      · rw [if_neg e]
        rcases rQ_own (C := C) (R := R) (n := n) (a := a) (b := b) (c := c) (f := f) x with ⟨h1, h2⟩ | ⟨h1, h2, h3⟩ | ⟨h1, h2, h3⟩
        · rw [h2, cI_t h1]
        · rw [h3, cI_f h1, cI_t ((new _).2 (.inl h2))]
        · rw [h3, cI_f h1, cI_f (fun g => ((new _).1 g).elim h2 (fun g => e ((eq20 x).2 ⟨h1, h2, g⟩)))]
    · rw [if_neg g0]
      by_cases g2 : g = 22
      · rw [if_pos g2, g2]
        show (if (x : Int) = R 20 (f b) then (1 : Int) else cI (mBb R n f b (x : Int)) 1 (R 22 x)) = cI (mBb R n f (b + 1) (x : Int)) 1 (R 22 x)
        by_cases e : (x : Int) = R 20 (f b)
        · rw [if_pos e, cI_t ((new _).2 (.inr e))]
        · rw [if_neg e]
          exact cI_cg ⟨fun g => (new _).2 (.inl g), fun g => ((new _).1 g).elim id (fun g => absurd g e)⟩
      · rw [if_neg g2]
        have gq : ∀ b', rQ C R n f a b' c g x = cI (jBt C f c (if g = 21 then 1 else if g = 31 then 2 else 4) x) 1 (cI (mBb R n f b' (R 20 x)) 0 (R g x)) := fun b' => by
          unfold rQ; rw [if_neg g0, if_neg g2]
        rw [gq, gq]
        by_cases e : rQ C R n f a b c 20 x = R 20 (f b)
        · have e' := (eq20 x).1 e
          have nj : ¬ jBt C f c (if g = 21 then 1 else if g = 31 then 2 else 4) x := fun ⟨j, j1, j2, _⟩ => by
            have hx : x = f j ∨ x = f (j + 1) := by
              rcases Nat.le_total (f j) (f (j + 1)) with l | l
              · rw [Nat.min_eq_left l] at j2; exact .inl j2.symm
              · rw [Nat.min_eq_right l] at j2; exact .inr j2.symm
            rcases hx with hx | hx
            · exact e'.1 ⟨j, by omega, hx.symm⟩
            · exact e'.2.1 ⟨by rw [e'.2.2]; exact y1, by rw [e'.2.2]; exact y2, j + 1, by omega, by rw [hx]⟩
          rw [if_pos e, cI_f nj, cI_t ((new _).2 (.inr e'.2.2))]
        · rw [if_neg e]
          by_cases m : mBb R n f b (R 20 x)
          · rw [cI_t (b := R g x) m, cI_t (b := R g x) ((new _).2 (.inl m))]
          · by_cases m' : mBb R n f (b + 1) (R 20 x)
            · have r := ((new _).1 m').resolve_left m
              have on : oPt f a x := Classical.byContradiction (fun z => e ((eq20 x).2 ⟨z, m, r⟩))
              obtain ⟨j, j1, j2⟩ := on
              exact absurd ⟨by rw [r]; exact y1, by rw [r]; exact y2, j, by omega, by rw [j2]⟩ m
            · rw [cI_f (a := 0) m, cI_f (a := 0) m']
/-- a point that has been robbed before -/
theorem rQ_robN {p : Nat} (h : ∃ j, j < b ∧ f j = p) : rRb (rQ C R n f a b c) n p = rQ C R n f a b c := by
  unfold rRb
  rw [if_pos]
  rcases rQ_own (C := C) (R := R) (n := n) (a := a) (b := b) (c := c) (f := f) p with ⟨h1, h2⟩ | ⟨h1, h2, h3⟩ | ⟨h1, h2, h3⟩
  · exact .inr h2
  · exact .inl h3
  · rw [h3]
    obtain ⟨j, j1, j2⟩ := h
    by_cases q : R 20 p = -1
    · exact .inl q
    · by_cases q2 : R 20 p = (n : Int)
      · exact .inr q2
      · exact absurd ⟨q, q2, j, j1, by rw [j2]⟩ h2
def rSet (R : Chp) (p n : Nat) : Chp := fun g x => if g = 20 ∧ x = p then (n : Int) else R g x
theorem rSet_eq {R R' : Chp} (h : rEq R R') (p n : Nat) : rEq (rSet R p n) (rSet R' p n) := fun g x q => by unfold rSet; rw [h g x q]
theorem rQ_set : rEq (rSet (rQ C R n f a b c) (f a) n) (rQ C R n f (a + 1) b c) := fun g x q => by
  unfold rSet
  by_cases g0 : g = 20
  · subst g0
    rw [rQ_20 (a := a + 1)]
    by_cases e : x = f a
    · rw [if_pos ⟨rfl, e⟩, cI_t ⟨a, by omega, e.symm⟩]
    · rw [if_neg (fun g => e g.2), rQ_20]
      exact cI_cg ⟨fun ⟨j, h1, h2⟩ => ⟨j, by omega, h2⟩, fun ⟨j, h1, h2⟩ => ⟨j, by
        by_cases l : j = a
        · rw [l] at h2; exact absurd h2.symm e
        · omega, h2⟩⟩
  · rw [if_neg (fun z => g0 z.1)]
    unfold rQ
    rw [if_neg g0, if_neg g0]
def stF (kd : Nat) : Nat := if kd = 1 then 21 else if kd = 2 then 31 else 32
def rJn (C R : Chp) (p q : Nat) : Chp := fun g x => if g = stF (stK C p q) ∧ x = min p q then 1 else R g x
theorem rJn_eq {R R' : Chp} (h : rEq R R') (p q : Nat) : rEq (rJn C R p q) (rJn C R' p q) := fun g x z => by unfold rJn; rw [h g x z]
theorem stK_3 {p q : Nat} : stK C p q = 1 ∨ stK C p q = 2 ∨ stK C p q = 4 := by
  unfold stK
  split
  · exact .inr (.inr rfl)
  · split
    · exact .inl rfl
    · exact .inr (.inl rfl)
theorem rQ_join : rEq (rJn C (rQ C R n f a b c) (f c) (f (c + 1))) (rQ C R n f a b (c + 1)) := fun g x q => by
  have s3 := stK_3 (C := C) (p := f c) (q := f (c + 1))
  unfold rJn
  by_cases g0 : g = 20
  · rw [if_neg (fun z => by have := z.1; unfold stF at this; split at this <;> (try split at this) <;> omega)]
    unfold rQ
    rw [if_pos g0, if_pos g0]
  · by_cases g2 : g = 22
    · rw [if_neg (fun z => by have := z.1; unfold stF at this; split at this <;> (try split at this) <;> omega)]
      unfold rQ
      rw [if_neg g0, if_pos g2, if_neg g0, if_pos g2]
    · have gq : ∀ c', rQ C R n f a b c' g x = cI (jBt C f c' (if g = 21 then 1 else if g = 31 then 2 else 4) x) 1 (cI (mBb R n f b (R 20 x)) 0 (R g x)) := fun c' => by
        unfold rQ; rw [if_neg g0, if_neg g2]
      have kd : g = stF (stK C (f c) (f (c + 1))) ↔ stK C (f c) (f (c + 1)) = (if g = 21 then 1 else if g = 31 then 2 else 4) := by
        unfold stF
        rcases q with e | e | e | e | e
        · exact absurd e g0
        · subst e; rw [if_pos rfl]; rcases s3 with s | s | s <;> rw [s] <;> decide
        · exact absurd e g2
        · subst e; rw [if_neg (by decide : ¬ (31 : Nat) = 21), if_pos rfl]; rcases s3 with s | s | s <;> rw [s] <;> decide
        · subst e; rw [if_neg (by decide : ¬ (32 : Nat) = 21), if_neg (by decide : ¬ (32 : Nat) = 31)]; rcases s3 with s | s | s <;> rw [s] <;> decide
      rw [gq, gq]
      by_cases e : g = stF (stK C (f c) (f (c + 1))) ∧ x = min (f c) (f (c + 1))
      · rw [if_pos e, cI_t ⟨c, by omega, e.2.symm, kd.1 e.1⟩]
      · rw [if_neg e]
        exact cI_cg ⟨fun ⟨j, h1, h2, h3⟩ => ⟨j, by omega, h2, h3⟩, fun ⟨j, h1, h2, h3⟩ => ⟨j, by
          by_cases l : j = c
          · subst l; exact absurd ⟨kd.2 h3, h2.symm⟩ e
          · omega, h2, h3⟩⟩
/-- the last point of a way is the net's own -/
theorem rQ_last {m : Nat} (h : R 20 (f m) = (n : Int)) : rEq (rQ C R n f a (m + 1) c) (rQ C R n f a m c) := by
  have same : ∀ y, mBb R n f (m + 1) y ↔ mBb R n f m y := fun y => by
    rw [mBb_up]
    exact ⟨fun g => g.elim id (fun ⟨g1, g2, g3⟩ => absurd (g3.symm.trans h) g2), .inl⟩
  intro g x q
  unfold rQ
  rw [cI_cg (same (R 20 x)), cI_cg (a := 1) (same (x : Int)), cI_cg (a := 0) (same (R 20 x))]
end WAYS
