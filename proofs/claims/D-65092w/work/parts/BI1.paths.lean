/-! paths of a chip: no program -/
def rdN (C : Chp) (a w : Nat) : Prop := ∃ g j, g < kG C ∧ j < kAr C g ∧ kP C g j = a ∧ w = kB C + g
def moF (C : Chp) (e : Nat) : Int := if e < kO C then 0 else 2
/-- tails of a net to an end -/
def Tl (C : Chp) (e : Nat) : Nat → List Nat → Prop
  | _, [] => False
  | a, x :: t => (x = 10000 + e ∧ t = [] ∧ kEnd C e = (a : Int)) ∨ (rdN C a x ∧ Tl C e x t)
theorem Tl_fin {C : Chp} {e a : Nat} (h : kEnd C e = (a : Int)) : Tl C e a [10000 + e] := .inl ⟨rfl, rfl, h⟩
theorem Tl_go {C : Chp} {e a w : Nat} {t : List Nat} (h : rdN C a w) (g : Tl C e w t) : Tl C e a (w :: t) := .inr ⟨h, g⟩
def tLen (C : Chp) : List Nat → Int
  | [] => 0
  | x :: t => (if x < 10000 then kTime C x else moF C (x - 10000)) + tLen C t
def befP (C : Chp) (p q : List Nat) : Prop := tLen C q < tLen C p ∨ (tLen C p = tLen C q ∧ lx p q)
/-- a path: from a first net on, to an end that is let in -/
def Vp (C : Chp) (p : List Nat) : Prop := ∃ s t e, p = s :: t ∧ s < kB C ∧ e < kO C + kR C ∧ kFls C (s : Int) (e : Int) = false ∧ Tl C e s t
section PATHS
variable {C : Chp} {e a w : Nat} {p q r t : List Nat}
theorem befP_irr (C : Chp) (p : List Nat) : ¬ befP C p p := fun h => by
  rcases h with h | ⟨_, h⟩
  · omega
  · exact lx_irr _ h
theorem befP_tr (C : Chp) (p q r : List Nat) (h : befP C p q) (g : befP C q r) : befP C p r := by
  rcases h with h | ⟨h1, h2⟩
  · rcases g with g | ⟨g1, _⟩
    · exact .inl (by omega)
    · exact .inl (by omega)
  · rcases g with g | ⟨g1, g2⟩
    · exact .inl (by omega)
    · exact .inr ⟨by omega, lx_tr _ _ _ h2 g2⟩
theorem befP_tot (h : p ≠ q) : befP C p q ∨ befP C q p := by
  rcases Int.lt_trichotomy (tLen C p) (tLen C q) with g | g | g
  · exact .inr (.inl g)
  · rcases lx_tot p q h with l | l
    · exact .inl (.inr ⟨g, l⟩)
    · exact .inr (.inr ⟨g.symm, l⟩)
  · exact .inl (.inl g)
theorem tLen_app (p q : List Nat) : tLen C (p ++ q) = tLen C p + tLen C q := by
  induction p with
  | nil => show tLen C q = 0 + _; omega
  | cons x p ih => show _ + tLen C (p ++ q) = (_ + tLen C p) + _; rw [ih]; omega
theorem befP_cons (x : Nat) (h : befP C p q) : befP C (x :: p) (x :: q) := by
  rcases h with h | ⟨h1, h2⟩
  · left; show _ + tLen C q < _ + tLen C p; omega
  · right; exact ⟨by show _ + tLen C p = _ + tLen C q; omega, .inr ⟨rfl, h2⟩⟩
theorem rdN_lt (w : WFC C) {a x : Nat} (h : rdN C a x) : a < x ∧ kB C ≤ x ∧ x < kN C := by
  obtain ⟨g, j, g1, j1, j2, j3⟩ := h
  have := (w.p g1 j1).2
  have := w.nums
  subst j2 j3
  omega
theorem Tl_ne (h : Tl C e a t) : ∃ x u, t = x :: u := by
  cases t with
  | nil => exact h.elim
  | cons x u => exact ⟨x, u, rfl⟩
/-- how a tail begins -/
theorem Tl_inv {x : Nat} (h : Tl C e a (x :: t)) : (x = 10000 + e ∧ t = [] ∧ kEnd C e = (a : Int)) ∨ (rdN C a x ∧ Tl C e x t) := h
theorem Tl_len (w : WFC C) : ∀ (t : List Nat) (a : Nat), Tl C e a t → a < kN C → t.length + a ≤ kN C := by
  intro t
  induction t with
  | nil => intro a h; obtain ⟨x, u, g⟩ := Tl_ne h; exact absurd g (by simp)
  | cons x t ih =>
    intro a h ha
    rcases Tl_inv h with ⟨_, rfl, _⟩ | ⟨g1, g2⟩
    · show 1 + a ≤ _; omega
    · have l := rdN_lt w g1
      have := ih x g2 l.2.2
      show t.length + 1 + a ≤ _; omega
theorem moF_rng : 0 ≤ moF C e ∧ moF C e ≤ 2 := by unfold moF; split <;> omega
theorem Tl_rng (w : WFC C) (wp : WFP C) : ∀ (t : List Nat) (a : Nat), Tl C e a t → a < kN C → 0 ≤ tLen C t ∧ tLen C t ≤ 800 * (t.length : Int) := by
  have hn := w.nums
  intro t
  induction t with
  | nil => intro a h; obtain ⟨x, u, g⟩ := Tl_ne h; exact absurd g (by simp)
  | cons x t ih =>
    intro a h ha
    have m := moF_rng (C := C) (e := e)
    rcases Tl_inv h with ⟨rfl, rfl, _⟩ | ⟨g1, g2⟩
    · show 0 ≤ (if 10000 + e < 10000 then _ else moF C (10000 + e - 10000)) + 0 ∧ (if 10000 + e < 10000 then _ else moF C (10000 + e - 10000)) + 0 ≤ 800 * ((1 : Nat) : Int)
      rw [if_neg (by omega), Nat.add_sub_cancel_left]; omega
    · have l := rdN_lt w g1
      have := ih x g2 l.2.2
      have tm := kTime_rng w wp l.2.2
      show 0 ≤ (if x < 10000 then kTime C x else moF C (x - 10000)) + tLen C t ∧ (if x < 10000 then kTime C x else moF C (x - 10000)) + tLen C t ≤ 800 * ((t.length + 1 : Nat) : Int)
      rw [if_pos (by omega)]; omega
theorem tLen_n {x : Nat} (h : x < 10000) : tLen C (x :: t) = kTime C x + tLen C t := by
  show (if x < 10000 then _ else _) + _ = _; rw [if_pos h]
theorem tLen_e : tLen C [10000 + e] = moF C e := by
  show (if 10000 + e < 10000 then _ else moF C (10000 + e - 10000)) + 0 = _
  rw [if_neg (by omega), Nat.add_sub_cancel_left, Int.add_zero]
theorem kN_le (w : WFC C) : kN C ≤ 162 := by have := w.nums; omega
end PATHS
