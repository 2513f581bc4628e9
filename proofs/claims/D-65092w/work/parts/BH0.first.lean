/-! the first pass is alike on both sides: no program -/
def RS0 (C : Chp) : Chp := fun g x => if g = 20 then -1 else if g = 22 then (if kMany C x < 2 then 0 else 1) else 0
section FIRST
variable {C R : Chp}
theorem rs_22 (x : Nat) : RS0 C 22 x = if kMany C x < 2 then 0 else 1 := rfl
theorem RS0_rv (C : Chp) : RV C (RS0 C) := by
  refine ⟨⟨⟨fun p _ => ⟨by show (-1 : Int) ≤ -1; omega, by show (-1 : Int) < _; omega, .inl rfl, .inl rfl, .inl rfl⟩, fun n _ => ?_⟩, fun p _ _ => .inl rfl, fun p _ h => absurd (show (0 : Int) = 1 from h) (by decide), fun p _ h => absurd (show (0 : Int) = 1 from h) (by decide), fun p _ h => absurd (show (0 : Int) = 1 from h) (by decide)⟩, fun y _ x h => ?_, fun y hy => ⟨?_, fun x h => ?_⟩⟩
  · rw [rs_22]; split
    · exact .inl rfl
    · exact .inr rfl
  · have h : (-1 : Int) = (y : Int) := h; omega
  · rw [rs_22, if_pos hy]
  · have h : (-1 : Int) = (y : Int) := h; omega
theorem kMany_lt (w : WFC C) {x : Nat} (h : 2 ≤ kMany C x) : x < kN C := by
  refine Classical.byContradiction (fun no => ?_)
  have key : ∀ m, m ≤ kPn C → pMany (kPf C) x m = 0 := by
    intro m
    induction m with
    | zero => exact fun _ => rfl
    | succ m ih =>
      intro hm
      have o := ((kPins_ok w).1 m (show m < kPn C by omega)).1
      have o : (kPf C m).1 < kN C := o
      show pMany (kPf C) x m + (if (kPf C m).1 = x then 1 else 0) = 0
      rw [ih (by omega), if_neg (by omega)]
  have := key _ (Nat.le_refl _)
  unfold kMany at h
  omega
theorem row_all (w : WFC C) {x : Nat} (h : 2 ≤ kMany C x) : ∃ j, j < rC C ∧ rO' C j = x := Classical.byContradiction (fun no => by
  have hx := kMany_lt w h
  have su := rowF_sum (C := C) (fun m => if m = x then 1 else 0) (kN C)
  rw [smN_0 (fun y hy => if_neg (fun g => no ⟨y, hy, g⟩))] at su
  have ge := smN_ge (f := fun m => if kMany C m < 2 then 0 else if m = x then 1 else 0) (n := kN C) (x := x) hx
  rw [if_neg (by omega), if_pos rfl, ← su] at ge
  omega)
theorem first_step (h1 : P1all C (rC C)) (h2 : CPall C (RS0 C) (rC C)) : ∀ i, i ≤ rC C → E4 (p1F C i) (cpF C i (RS0 C)) ∧ (∀ j, j < i → p1F C i 22 (rO' C j) = cpF C i (RS0 C) 22 (rO' C j)) ∧ ∀ j, i ≤ j → j < rC C → cpF C i (RS0 C) 22 (rO' C j) = 1 := by
  intro i
  induction i with
  | zero =>
    intro _
    refine ⟨⟨rfl, rfl, rfl, rfl⟩, fun j hj => absurd hj (Nat.not_lt_zero _), fun j _ hj => ?_⟩
    show RS0 C 22 (rO' C j) = 1
    have := (rO_lt hj).2
    rw [rs_22, if_neg (by omega)]
  | succ i ih =>
    intro hi
    obtain ⟨a, b, c⟩ := ih (by omega)
    have ci := c i (Nat.le_refl _) (by omega)
    have e1 : p1F C (i + 1) = (conF C (p1F C i) (rO' C i) false).1 := rfl
    have e2 : cpF C (i + 1) (RS0 C) = (conF C (cpF C i (RS0 C)) (rO' C i) false).1 := by
      show (if cpF C i (RS0 C) 22 (rO' C i) = 0 then cpF C i (RS0 C) else (conF C (cpF C i (RS0 C)) (rO' C i) false).1) = _
      rw [if_neg (by omega)]
    have o1 := h1 i (by omega)
    have o2 := h2 i (by omega) (by omega)
    have ce := conF_e4 (C := C) (n := rO' C i) (dear := false) a
    have ne : ∀ j, j < rC C → j ≠ i → rO' C j ≠ rO' C i := fun j hj q e => q (row_inj hj (show i < rC C by omega) e)
    rw [e1, e2]
    refine ⟨ce.1, fun j hj => ?_, fun j hj hj2 => ?_⟩
    · by_cases q : j = i
      · rw [q]
        rcases o1.2 with ⟨x1, x2⟩ | ⟨x1, x2, _⟩ <;> rcases o2.2 with ⟨y1, y2⟩ | ⟨y1, y2, _⟩
        · rw [x2, y2]
        · rw [ce.2, y1] at x1; exact absurd x1 (by decide)
        · rw [ce.2, y1] at x1; exact absurd x1 (by decide)
        · rw [x2, y2]
      · rw [o1.1.2.2.2 _ (ne j (by omega) q) (.inl rfl), o2.1.2.2.2 _ (ne j (by omega) q) (.inl rfl)]
        exact b j (by omega)
    · rw [o2.1.2.2.2 _ (ne j hj2 (by omega)) (.inl rfl)]
      exact c j (by omega) hj2
theorem first_eq (w : WFC C) (h1 : P1all C (rC C)) (h2 : CPall C (RS0 C) (rC C)) (v1 : RV C (p1F C (rC C))) (v2 : RV C (cpF C (rC C) (RS0 C))) : rEq (cpF C (rC C) (RS0 C)) (p1F C (rC C)) := by
  obtain ⟨a, b, _⟩ := first_step h1 h2 (rC C) (Nat.le_refl _)
  intro g x q
  rcases q with rfl | rfl | rfl | rfl | rfl
  · exact (congrFun a.1 x).symm
  · exact (congrFun a.2.1 x).symm
  · by_cases q : kMany C x < 2
    · rw [(v1.2.2 x q).1, (v2.2.2 x q).1]
    · obtain ⟨j, j1, j2⟩ := row_all w (x := x) (by omega)
      have := b j j1
      rw [j2] at this; exact this.symm
  · exact (congrFun a.2.2.1 x).symm
  · exact (congrFun a.2.2.2 x).symm
/-- how many are open: over the row, over all nets -/
theorem opN_all (hV : RV C R) : opN C R (rC C) = smN (fun m => if R 22 m = 0 then 0 else 1) (kN C) := by
  unfold opN
  rw [rowF_sum (C := C) (fun m => if R 22 m = 0 then 0 else 1) (kN C)]
  refine smN_cg (fun x _ => ?_)
  by_cases q : kMany C x < 2
  · rw [if_pos q, if_pos (hV.2.2 x q).1]
  · rw [if_neg q]
end FIRST
