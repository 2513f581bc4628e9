/-! the reference measures: a queue in a ring, what is known before all is measured -/
def slt (P bg i : Nat) : Nat := if bg + i < P then bg + i else bg + i - P
def MMq (P : Nat) (z : Sto) (bg ct : Nat) : Prop := bg < P ∧ ct ≤ P ∧ (∀ p, p < P → gI z 2143 p = 0 ∨ gI z 2143 p = 1) ∧ smN (fun p => (gI z 2143 p).toNat) P = ct ∧
  (∀ i, i < ct → ∃ x : Nat, gI z 2142 (slt P bg i) = (x : Int) ∧ x < P ∧ gI z 2143 x = 1) ∧ ∀ i j, i < j → j < ct → gI z 2142 (slt P bg i) ≠ gI z 2142 (slt P bg j)
abbrev mV (z : Sto) (p : Nat) : Int := gI z 2141 p
def rcN (v : Nat → Int) (P : Nat) : Nat := smN (fun p => if v p = 1000000000 then 0 else 1) P
def mzN (v : Nat → Int) (P : Nat) : Nat := smN (fun p => (min (v p) 60000).toNat) P
def SpF (C R : Chp) (n : Nat) (dear : Bool) (v : Nat → Int) : Prop := ∀ p, p < 2 * kLy C → (R 20 p = (n : Int) → v p = 0) ∧
  (R 20 p ≠ (n : Int) → v p ≠ 1000000000 → 0 < prF C R n dear p ∧ ∃ j q : Nat, j < 5 ∧ q < 2 * kLy C ∧ nxF C q j = (p : Int) ∧ v q ≠ 1000000000 ∧ v q + (prF C R n dear p : Int) ≤ v p) ∧
  (v p = 1000000000 ∨ (0 ≤ v p ∧ v p ≤ 11 * ((rcN v (2 * kLy C) : Nat) : Int)))
def RxF (C R : Chp) (n : Nat) (dear : Bool) (v : Nat → Int) (u m : Nat) : Prop := ∀ j x : Nat, j < m → nxF C u j = (x : Int) → R 20 x ≠ (n : Int) → 0 < prF C R n dear x → v x ≤ v u + (prF C R n dear x : Int)
section MSP
variable {C R : Chp} {n : Nat} {dear : Bool} {v v' : Nat → Int} {P bg ct : Nat} {z : Sto}
theorem slt_lt (hb : bg < P) {i : Nat} (hi : i < P) : slt P bg i < P := by unfold slt; split <;> omega
theorem slt_ne (hb : bg < P) {i j : Nat} (hi : i < P) (hj : j < P) (h : i ≠ j) : slt P bg i ≠ slt P bg j := by unfold slt; split <;> split <;> omega
theorem slt_nx (hb : bg < P) {i : Nat} (hi : i + 1 < P + 1) : slt P (if bg + 1 = P then 0 else bg + 1) i = slt P bg (i + 1) := by
  unfold slt; by_cases q : bg + 1 = P
  · rw [if_pos q]; split <;> split <;> omega
  · rw [if_neg q]; split <;> split <;> omega
theorem slt_mod (hb : bg < P) {i : Nat} (hi : i < P) : (bg + i) % P = slt P bg i := by
  unfold slt
  by_cases q : bg + i < P
  · rw [if_pos q, Nat.mod_eq_of_lt q]
  · rw [if_neg q, Nat.mod_eq_sub_mod (by omega), Nat.mod_eq_of_lt (by omega)]
theorem MMq.pop (h : MMq P z bg (ct + 1)) : ∃ x : Nat, gI z 2142 bg = (x : Int) ∧ x < P ∧ gI z 2143 x = 1 ∧ MMq P (sI z 2143 x 0) (if bg + 1 = P then 0 else bg + 1) ct := by
  obtain ⟨h1, h2, h3, h4, h5, h6⟩ := h
  have s0 : slt P bg 0 = bg := by unfold slt; rw [Nat.add_zero, if_pos h1]
  obtain ⟨x, x1, x2, x3⟩ := h5 0 (by omega)
  rw [s0] at x1
  have e42 : ∀ i, gI (sI z 2143 x 0) 2142 i = gI z 2142 i := fun i => hI_sI_a (by omega)
  refine ⟨x, x1, x2, x3, by split <;> omega, by omega, fun p hp => ?_, ?_, fun i hi => ?_, fun i j h hj => ?_⟩
  · by_cases e : p = x
    · rw [e, gI_set]; exact .inl rfl
    · rw [hI_sI_i e]; exact h3 p hp
  · have := smN_up (f := fun p => (gI (sI z 2143 x 0) 2143 p).toNat) (g := fun p => (gI z 2143 p).toNat) (n := P) (a := x) (d := 1) x2 (by
      show (gI z 2143 x).toNat = (gI (sI z 2143 x 0) 2143 x).toNat + 1
      rw [gI_set, x3]; rfl) (fun y _ ne => by
      show (gI z 2143 y).toNat = (gI (sI z 2143 x 0) 2143 y).toNat
      rw [hI_sI_i ne])
    omega
  · rw [slt_nx h1 (by omega), e42]
    obtain ⟨y, y1, y2, y3⟩ := h5 (i + 1) (by omega)
    have ne : y ≠ x := fun e => by
      have := h6 0 (i + 1) (by omega) (by omega)
      rw [s0, x1, y1, e] at this; exact this rfl
    exact ⟨y, y1, y2, by rw [hI_sI_i ne]; exact y3⟩
  · rw [slt_nx h1 (by omega), slt_nx h1 (by omega), e42, e42]
    exact h6 (i + 1) (j + 1) (by omega) (by omega)
theorem MMq.put (h : MMq P z bg ct) {y : Nat} (hP : P ≤ 4712) (hy : y < P) (h0 : gI z 2143 y = 0) : ct < P ∧ MMq P (sI (sI z 2143 y 1) 2142 (slt P bg ct) (y : Int)) bg (ct + 1) := by
  obtain ⟨h1, h2, h3, h4, h5, h6⟩ := h
  have e43 : ∀ p, gI (sI (sI z 2143 y 1) 2142 (slt P bg ct) (y : Int)) 2143 p = if p = y then 1 else gI z 2143 p := fun p => by
    rw [hI_sI_a (by omega)]
    by_cases e : p = y
    · rw [e, gI_set, if_pos rfl]; rfl
    · rw [hI_sI_i e, if_neg e]
  have sm : smN (fun p => (gI (sI (sI z 2143 y 1) 2142 (slt P bg ct) (y : Int)) 2143 p).toNat) P = ct + 1 := by
    refine (smN_up (f := fun p => (gI z 2143 p).toNat) hy ?_ (fun x _ ne => ?_)).trans (by rw [h4])
    · show (gI _ 2143 y).toNat = (gI z 2143 y).toNat + 1
      rw [e43, if_pos rfl, h0]; rfl
    · show (gI _ 2143 x).toNat = (gI z 2143 x).toNat
      rw [e43, if_neg ne]
  have le := smN_le (f := fun p => (gI (sI (sI z 2143 y 1) 2142 (slt P bg ct) (y : Int)) 2143 p).toNat) (n := P) (b := 1) (fun x hx => by
    show (gI _ 2143 x).toNat ≤ 1
    rw [e43]
    split
    · decide
    · rcases h3 x hx with e | e <;> rw [e] <;> decide)
  have lt : ct < P := by omega
  have e42 : ∀ i, i < P → gI (sI (sI z 2143 y 1) 2142 (slt P bg ct) (y : Int)) 2142 (slt P bg i) = if i = ct then (y : Int) else gI z 2142 (slt P bg i) := fun i hi => by
    by_cases e : i = ct
    · rw [e, gI_set, if_pos rfl, w32_id (by omega)]
    · rw [hI_sI_i (slt_ne h1 hi lt e), hI_sI_a (by omega), if_neg e]
  have inq : ∀ i, i < ct → gI z 2142 (slt P bg i) ≠ (y : Int) := fun i hi e => by
    obtain ⟨x, x1, x2, x3⟩ := h5 i hi
    rw [x1] at e
    have : x = y := by omega
    rw [this, h0] at x3; exact absurd x3 (by decide)
  refine ⟨lt, h1, by omega, fun p hp => ?_, sm, fun i hi => ?_, fun i j h hj => ?_⟩
  · rw [e43]; split
    · exact .inr rfl
    · exact h3 p hp
  · rw [e42 i (by omega)]
    by_cases e : i = ct
    · rw [if_pos e]; exact ⟨y, rfl, hy, by rw [e43, if_pos rfl]⟩
    · rw [if_neg e]
      obtain ⟨x, x1, x2, x3⟩ := h5 i (by omega)
      refine ⟨x, x1, x2, ?_⟩
      rw [e43]; split
      · rfl
      · exact x3
  · rw [e42 i (by omega), e42 j (by omega), if_neg (show i ≠ ct by omega)]
    by_cases e : j = ct
    · rw [if_pos e]; exact inq i (by omega)
    · rw [if_neg e]; exact h6 i j h (by omega)
theorem rcN_le : rcN v P ≤ P := by
  have := smN_le (f := fun p => if v p = 1000000000 then 0 else 1) (n := P) (b := 1) (fun x _ => by split <;> omega)
  unfold rcN; omega
/-- a point gets a lesser cost -/
def updI (v : Nat → Int) (x : Nat) (a : Int) : Nat → Int := fun p => if p = x then a else v p
theorem SpF.up (h : SpF C R n dear v) (hl : kLy C ≤ 2356) {u x j : Nat} (hu : u < 2 * kLy C) (hx : x < 2 * kLy C) (hj : j < 5) (hn : nxF C u j = (x : Int)) (ho : R 20 x ≠ (n : Int)) (hp : 0 < prF C R n dear x) (hr : v u ≠ 1000000000) (hlt : v u + (prF C R n dear x : Int) < v x)
    (e : ∀ p, v' p = if p = x then v u + (prF C R n dear x : Int) else v p) : SpF C R n dear v' ∧ mzN v' (2 * kLy C) < mzN v (2 * kLy C) := by
  have pr := prF_le (C := C) (p := x) (R := R) (n := n) (dear := dear)
  have cl := rcN_le (v := v) (P := 2 * kLy C)
  have ux : u ≠ x := by
    rcases nxF_rng hu hj with g | ⟨q, q1, q2, q3⟩
    · omega
    · have : q = x := by omega
      omega
  have bu := ((h u hu).2.2).resolve_left hr
  have eu : v' u = v u := by rw [e, if_neg ux]
  have ex : v' x = v u + (prF C R n dear x : Int) := by rw [e, if_pos rfl]
  have le : ∀ p, v' p ≤ v p := fun p => by
    rw [e]; by_cases q : p = x
    · rw [if_pos q, q]; omega
    · rw [if_neg q]; omega
  have nd : ∀ p, v p ≠ 1000000000 → v' p ≠ 1000000000 := fun p hp => by
    rw [e]; by_cases q : p = x
    · rw [if_pos q]; omega
    · rw [if_neg q]; exact hp
  have rc : rcN v' (2 * kLy C) = rcN v (2 * kLy C) + (if v x = 1000000000 then 1 else 0) := by
    unfold rcN
    by_cases q : v x = 1000000000
    · rw [if_pos q]
      refine smN_up hx ?_ (fun y _ ne => ?_)
      · show (if v' x = 1000000000 then 0 else 1) = (if v x = 1000000000 then 0 else 1) + 1
        rw [if_pos q, if_neg (by omega)]
      · show (if v' y = 1000000000 then 0 else 1) = (if v y = 1000000000 then 0 else 1)
        rw [e, if_neg ne]
    · rw [if_neg q]
      refine smN_cg (fun y _ => ?_)
      by_cases ne : y = x
      · rw [ne, if_neg q, if_neg (by omega)]
      · rw [e, if_neg ne]
  refine ⟨fun p hp' => ⟨fun hq => ?_, fun hq hv => ?_, ?_⟩, ?_⟩
  · have : p ≠ x := fun g => by rw [g] at hq; exact ho hq
    rw [e, if_neg this]; exact (h p hp').1 hq
  · by_cases q : p = x
    · rw [q] at hq ⊢
      exact ⟨hp, j, u, hj, hu, hn, by rw [eu]; exact hr, by rw [eu, ex]; exact Int.le_refl _⟩
    · rw [e, if_neg q] at hv
      obtain ⟨a, i, y, b1, b2, b3, b4, b5⟩ := (h p hp').2.1 hq hv
      refine ⟨a, i, y, b1, b2, b3, nd y b4, ?_⟩
      have l := le y
      rw [e p, if_neg q]; omega
  · by_cases q : p = x
    · right
      rw [q, ex, rc]
      by_cases t : v x = 1000000000
      · rw [if_pos t]; omega
      · rw [if_neg t]
        have := ((h x hx).2.2).resolve_left t
        omega
    · rw [e, if_neg q, rc]
      rcases (h p hp').2.2 with g | g
      · exact .inl g
      · refine .inr ⟨g.1, ?_⟩
        split <;> omega
  · refine smN_lt hx (fun y _ => ?_) ?_
    · have := le y
      show (min (v' y) 60000).toNat ≤ (min (v y) 60000).toNat
      omega
    · show (min (v' x) 60000).toNat < (min (v x) 60000).toNat
      omega
theorem RxF.up {u m : Nat} (h : RxF C R n dear v u m) (hu : v' u = v u) (hle : ∀ p, v' p ≤ v p) : RxF C R n dear v' u m := fun j x h1 h2 h3 h4 => by
  have := h j x h1 h2 h3 h4
  have := hle x
  omega
/-- all is measured -/
theorem SpF.done (h : SpF C R n dear v) (hl : kLy C ≤ 2356) (hr : ∀ u, u < 2 * kLy C → v u ≠ 1000000000 → RxF C R n dear v u 5) : DOk C R n dear (fun p => if v p = 1000000000 then -1 else v p) := by
  have cl := rcN_le (v := v) (P := 2 * kLy C)
  intro p hp
  have hp3 := (h p hp).2.2
  refine ⟨?_, fun ho => ?_, fun ho hv => ?_, fun hv j q hj hq ho hpr => ?_⟩
  · show -1 ≤ (if v p = 1000000000 then -1 else v p)
    by_cases q : v p = 1000000000
    · rw [if_pos q]; omega
    · rw [if_neg q]; omega
  · have := (h p hp).1 ho
    show (if v p = 1000000000 then -1 else v p) = 0
    rw [if_neg (by omega)]; exact this
  · have hv : (if v p = 1000000000 then -1 else v p) ≠ -1 := hv
    have nd : v p ≠ 1000000000 := fun e => hv (if_pos e)
    obtain ⟨a, j, y, b1, b2, b3, b4, b5⟩ := (h p hp).2.1 ho nd
    have r := hr y b2 b4 j p b1 b3 ho a
    have y3 := ((h y b2).2.2).resolve_left b4
    refine ⟨a, j, y, b1, b2, b3, ?_, ?_⟩
    · show (if v y = 1000000000 then -1 else v y) ≠ -1
      rw [if_neg b4]; omega
    · show (if v p = 1000000000 then -1 else v p) = (if v y = 1000000000 then -1 else v y) + _
      rw [if_neg b4, if_neg nd]; omega
  · have hv : (if v p = 1000000000 then -1 else v p) ≠ -1 := hv
    have nd : v p ≠ 1000000000 := fun e => hv (if_pos e)
    have hp4 := hp3.resolve_left nd
    have r := hr p hp nd j q hj hq ho hpr
    have pr := prF_le (C := C) (p := q) (R := R) (n := n) (dear := dear)
    have q2 : q < 2 * kLy C := by
      rcases nxF_rng hp hj with g | ⟨q', q1, q2, _⟩
      · omega
      · have : q' = q := by omega
        omega
    have q3 := (h q q2).2.2
    have nq : v q ≠ 1000000000 := by omega
    show (if v q = 1000000000 then -1 else v q) ≠ -1 ∧ (if v q = 1000000000 then -1 else v q) ≤ (if v p = 1000000000 then -1 else v p) + _
    rw [if_neg nq, if_neg nd]
    omega
end MSP
