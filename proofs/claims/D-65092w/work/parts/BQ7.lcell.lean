/-! cells of a library: what they mean, over the tokens -/
/-- a new name, as it must be -/
def chT (u : Nat → Int) (n : Nat) (lim : Nat) (ps : List Nat) (q : Qq) : Qq := bq q (fun j => if tkK u n j = 1 then (if inNm u n ps j = true then flT u n 10 j else if ps.length = lim then flT u n 15 j else .inl j) else flT u n 2 j)
def newT (u : Nat → Int) (n : Nat) (lim : Nat) (ps : List Nat) (q : Qq) : Qq := bq (chT u n lim ps q) (nxT u n)
def wT (u : Nat → Int) (n : Nat) (w : Int) (q : Qq) : Qq := bq q (fun j => if tkK u n j = 6 ∧ tkV u n j = w then nxT u n j else flT u n 2 j)
/-- a comma and a number of 1..hi -/
def numT (u : Nat → Int) (n : Nat) (hi : Int) (q : Qq) : Qq := bq (tkT u n 44 q) (fun j => if tkK u n j = 2 then (if 1 ≤ tkV u n j ∧ tkV u n j ≤ hi then nxT u n j else flT u n 12 j) else flT u n 2 j)
def preT (u : Nat → Int) (n : Nat) (cs : List Nat) (q : Qq) : Qq := tkT u n 40 (newT u n 12 cs (wT u n 7 q))
def midT (u : Nat → Int) (n : Nat) (q : Qq) : Qq := tkT u n 61 (tkT u n 41 q)
def posT (u : Nat → Int) (n : Nat) (q : Qq) : Qq := tkT u n 59 (numT u n 100 (numT u n 1000 q))
def PinsC (u : Nat → Int) (n : Nat) (R : List Nat → Nat → (Nat × List Nat) ⊕ (Int × Int) → Prop) : Prop :=
  (∀ ps j, isS u n 44 j = false → R ps j (.inl (j, ps))) ∧
  (∀ ps j f, isS u n 44 j = true → newT u n 3 ps (nxT u n j) = .inr f → R ps j (.inr f)) ∧
  (∀ ps j j1 j2 res, isS u n 44 j = true → nxT u n j = .inl j1 → newT u n 3 ps (.inl j1) = .inl j2 → R (ps ++ [j1]) j2 res → R ps j res)
def PinsR (u : Nat → Int) (n : Nat) (ps : List Nat) (j : Nat) (res : (Nat × List Nat) ⊕ (Int × Int)) : Prop := ∀ R, PinsC u n R → R ps j res
theorem PinsR.st {u : Nat → Int} {n : Nat} {ps : List Nat} {j : Nat} (h : isS u n 44 j = false) : PinsR u n ps j (.inl (j, ps)) := fun R c => c.1 _ _ h
theorem PinsR.pf {u : Nat → Int} {n : Nat} {ps : List Nat} {j : Nat} {f : Int × Int} (h : isS u n 44 j = true) (g : newT u n 3 ps (nxT u n j) = .inr f) : PinsR u n ps j (.inr f) := fun R c => c.2.1 _ _ _ h g
theorem PinsR.pc {u : Nat → Int} {n : Nat} {ps : List Nat} {j j1 j2 : Nat} {res : (Nat × List Nat) ⊕ (Int × Int)} (h : isS u n 44 j = true) (g : nxT u n j = .inl j1) (k : newT u n 3 ps (.inl j1) = .inl j2) (l : PinsR u n (ps ++ [j1]) j2 res) : PinsR u n ps j res := fun R c => c.2.2 _ _ _ _ _ h g k (l R c)
abbrev Row4 : Type := Int × Int × Int × Int
def rowC (u : Nat → Int) (n : Nat) (ps : List Nat) (v : Int) (j5 : Nat) : Row4 := ((ps.length : Int), v % ((2 ^ (2 ^ ps.length) : Nat) : Int), tkV u n (j5 + 1), tkV u n (j5 + 3))
def CellR (u : Nat → Int) (n : Nat) (cs : List Nat) (j0 : Nat) (res : (Nat × Row4) ⊕ (Int × Int)) : Prop := ∀ R : (Nat × Row4) ⊕ (Int × Int) → Prop,
  (∀ f, preT u n cs (.inl j0) = .inr f → R (.inr f)) →
  (∀ j1 f, preT u n cs (.inl j0) = .inl j1 → newT u n 3 [] (.inl j1) = .inr f → R (.inr f)) →
  (∀ j1 j2 f, preT u n cs (.inl j0) = .inl j1 → newT u n 3 [] (.inl j1) = .inl j2 → PinsR u n [j1] j2 (.inr f) → R (.inr f)) →
  (∀ j1 j2 j3 ps f, preT u n cs (.inl j0) = .inl j1 → newT u n 3 [] (.inl j1) = .inl j2 → PinsR u n [j1] j2 (.inl (j3, ps)) → midT u n (.inl j3) = .inr f → R (.inr f)) →
  (∀ j1 j2 j3 j4 ps f, preT u n cs (.inl j0) = .inl j1 → newT u n 3 [] (.inl j1) = .inl j2 → PinsR u n [j1] j2 (.inl (j3, ps)) → midT u n (.inl j3) = .inl j4 → LE u n ps (lxE 1) j4 0 (.inr f) → R (.inr f)) →
  (∀ j1 j2 j3 j4 j5 ps v f, preT u n cs (.inl j0) = .inl j1 → newT u n 3 [] (.inl j1) = .inl j2 → PinsR u n [j1] j2 (.inl (j3, ps)) → midT u n (.inl j3) = .inl j4 → LE u n ps (lxE 1) j4 0 (.inl (j5, v)) → posT u n (.inl j5) = .inr f → R (.inr f)) →
  (∀ j1 j2 j3 j4 j5 j8 ps v, preT u n cs (.inl j0) = .inl j1 → newT u n 3 [] (.inl j1) = .inl j2 → PinsR u n [j1] j2 (.inl (j3, ps)) → midT u n (.inl j3) = .inl j4 → LE u n ps (lxE 1) j4 0 (.inl (j5, v)) → posT u n (.inl j5) = .inl j8 → R (.inl (j8, rowC u n ps v j5))) → R res
section CRK
variable {u : Nat → Int} {n : Nat} {cs ps : List Nat} {j0 j1 j2 j3 j4 j5 j8 : Nat} {v : Int} {f : Int × Int}
theorem CellR.f0 (a : preT u n cs (.inl j0) = .inr f) : CellR u n cs j0 (.inr f) := fun R c0 c1 c2 c3 c4 c5 c6 => c0 _ a
theorem CellR.f1 (a : preT u n cs (.inl j0) = .inl j1) (b : newT u n 3 [] (.inl j1) = .inr f) : CellR u n cs j0 (.inr f) := fun R c0 c1 c2 c3 c4 c5 c6 => c1 _ _ a b
theorem CellR.f2 (a : preT u n cs (.inl j0) = .inl j1) (b : newT u n 3 [] (.inl j1) = .inl j2) (c : PinsR u n [j1] j2 (.inr f)) : CellR u n cs j0 (.inr f) := fun R c0 c1 c2 c3 c4 c5 c6 => c2 _ _ _ a b c
theorem CellR.f3 (a : preT u n cs (.inl j0) = .inl j1) (b : newT u n 3 [] (.inl j1) = .inl j2) (c : PinsR u n [j1] j2 (.inl (j3, ps))) (d : midT u n (.inl j3) = .inr f) : CellR u n cs j0 (.inr f) := fun R c0 c1 c2 c3 c4 c5 c6 => c3 _ _ _ _ _ a b c d
theorem CellR.f4 (a : preT u n cs (.inl j0) = .inl j1) (b : newT u n 3 [] (.inl j1) = .inl j2) (c : PinsR u n [j1] j2 (.inl (j3, ps))) (d : midT u n (.inl j3) = .inl j4) (e : LE u n ps (lxE 1) j4 0 (.inr f)) : CellR u n cs j0 (.inr f) := fun R c0 c1 c2 c3 c4 c5 c6 => c4 _ _ _ _ _ _ a b c d e
theorem CellR.f5 (a : preT u n cs (.inl j0) = .inl j1) (b : newT u n 3 [] (.inl j1) = .inl j2) (c : PinsR u n [j1] j2 (.inl (j3, ps))) (d : midT u n (.inl j3) = .inl j4) (e : LE u n ps (lxE 1) j4 0 (.inl (j5, v))) (g : posT u n (.inl j5) = .inr f) : CellR u n cs j0 (.inr f) := fun R c0 c1 c2 c3 c4 c5 c6 => c5 _ _ _ _ _ _ _ _ a b c d e g
theorem CellR.ok (a : preT u n cs (.inl j0) = .inl j1) (b : newT u n 3 [] (.inl j1) = .inl j2) (c : PinsR u n [j1] j2 (.inl (j3, ps))) (d : midT u n (.inl j3) = .inl j4) (e : LE u n ps (lxE 1) j4 0 (.inl (j5, v))) (g : posT u n (.inl j5) = .inl j8) : CellR u n cs j0 (.inl (j8, rowC u n ps v j5)) := fun R c0 c1 c2 c3 c4 c5 c6 => c6 _ _ _ _ _ _ _ _ a b c d e g
end CRK
/-- cells one behind the other: names and rows so far -/
def LibC (u : Nat → Int) (n : Nat) (R : List Nat → List Row4 → Nat → List Row4 ⊕ (Int × Int) → Prop) : Prop :=
  (∀ cs rs j f, CellR u n cs j (.inr f) → R cs rs j (.inr f)) ∧
  (∀ cs rs j j' r, CellR u n cs j (.inl (j', r)) → tkK u n j' = 5 → R cs rs j (.inl (rs ++ [r]))) ∧
  (∀ cs rs j j' r res, CellR u n cs j (.inl (j', r)) → tkK u n j' ≠ 5 → R (cs ++ [j + 1]) (rs ++ [r]) j' res → R cs rs j res)
def LibR (u : Nat → Int) (n : Nat) (cs : List Nat) (rs : List Row4) (j : Nat) (res : List Row4 ⊕ (Int × Int)) : Prop := ∀ R, LibC u n R → R cs rs j res
section LRK
variable {u : Nat → Int} {n : Nat} {cs : List Nat} {rs : List Row4} {j j' : Nat} {r : Row4} {fl : Int × Int} {res : List Row4 ⊕ (Int × Int)}
theorem LibR.f (h : CellR u n cs j (.inr fl)) : LibR u n cs rs j (.inr fl) := fun R c => c.1 _ _ _ _ h
theorem LibR.e (h : CellR u n cs j (.inl (j', r))) (g : tkK u n j' = 5) : LibR u n cs rs j (.inl (rs ++ [r])) := fun R c => c.2.1 _ _ _ _ _ h g
theorem LibR.c (h : CellR u n cs j (.inl (j', r))) (g : tkK u n j' ≠ 5) (k : LibR u n (cs ++ [j + 1]) (rs ++ [r]) j' res) : LibR u n cs rs j res := fun R c => c.2.2 _ _ _ _ _ _ h g (k R c)
end LRK
section LCL
variable {u : Nat → Int} {n N : Nat}
theorem bq_inl {q : Qq} {f : Nat → Qq} {j' : Nat} (h : bq q f = .inl j') : ∃ j, q = .inl j ∧ f j = .inl j' := by
  cases q with
  | inl j => exact ⟨j, rfl, h⟩
  | inr e => cases h
theorem chT_inl {lim : Nat} {ps : List Nat} {q : Qq} {j : Nat} (h : chT u n lim ps q = .inl j) : q = .inl j ∧ tkK u n j = 1 ∧ inNm u n ps j = false ∧ ps.length ≠ lim := by
  obtain ⟨i, rfl, h2⟩ := bq_inl h
  unfold flT at h2
  split at h2
  · rename_i k
    split at h2
    · cases h2
    · rename_i g
      split at h2
      · cases h2
      · rename_i g2
        injection h2 with h2; subst h2
        exact ⟨rfl, k, bool_f g, g2⟩
  · cases h2
theorem newT_inl {lim : Nat} {ps : List Nat} {q : Qq} {j' : Nat} (h : newT u n lim ps q = .inl j') : ∃ j, q = .inl j ∧ j' = j + 1 ∧ tkK u n j = 1 ∧ inNm u n ps j = false ∧ ps.length ≠ lim := by
  obtain ⟨j, h1, h2⟩ := bq_inl h
  obtain ⟨h3, h4, h5, h6⟩ := chT_inl h1
  exact ⟨j, h3, nxT_inl h2, h4, h5, h6⟩
theorem wT_inl {w : Int} {q : Qq} {j' : Nat} (h : wT u n w q = .inl j') : ∃ j, q = .inl j ∧ j' = j + 1 ∧ tkK u n j = 6 ∧ tkV u n j = w := by
  obtain ⟨j, h1, h2⟩ := bq_inl h
  unfold flT at h2
  split at h2
  · rename_i g; exact ⟨j, h1, nxT_inl h2, g⟩
  · cases h2
theorem tkT_inq {c : Int} {q : Qq} {j1 : Nat} (h : tkT u n c q = .inl j1) : ∃ j, q = .inl j ∧ isS u n c j = true ∧ j1 = j + 1 := by
  obtain ⟨j, h1, h2⟩ := bq_inl h
  subst h1
  exact ⟨j, rfl, tkT_inl h⟩
theorem numT_inl {hi : Int} {q : Qq} {j' : Nat} (h : numT u n hi q = .inl j') : ∃ j, q = .inl j ∧ isS u n 44 j = true ∧ j' = j + 2 ∧ tkK u n (j + 1) = 2 ∧ 1 ≤ tkV u n (j + 1) ∧ tkV u n (j + 1) ≤ hi := by
  obtain ⟨i, h1, h2⟩ := bq_inl h
  obtain ⟨j, h3, h4, h5⟩ := tkT_inq h1
  subst h5
  unfold flT at h2
  split at h2
  · rename_i k
    split at h2
    · rename_i g; exact ⟨j, h3, h4, nxT_inl h2, k, g.1, g.2⟩
    · cases h2
  · cases h2
theorem posT_inl {q : Qq} {j' : Nat} (h : posT u n q = .inl j') : ∃ j, q = .inl j ∧ j' = j + 5 ∧ tkK u n j = 3 ∧ tkK u n (j + 1) = 2 ∧ tkK u n (j + 2) = 3 ∧ tkK u n (j + 3) = 2 ∧ tkK u n (j + 4) = 3 ∧ 1 ≤ tkV u n (j + 1) ∧ tkV u n (j + 1) ≤ 1000 ∧ 1 ≤ tkV u n (j + 3) ∧ tkV u n (j + 3) ≤ 100 := by
  obtain ⟨a, h1, h2, h3⟩ := tkT_inq h
  obtain ⟨b, g1, g2, g3, g4, g5, g6⟩ := numT_inl h1
  obtain ⟨c, e1, e2, e3, e4, e5, e6⟩ := numT_inl g1
  subst h3; subst g3; subst e3
  exact ⟨c, e1, rfl, isS_K e2, e4, isS_K g2, g4, isS_K h2, e5, e6, g5, g6⟩
theorem preT_inl {cs : List Nat} {q : Qq} {j' : Nat} (h : preT u n cs q = .inl j') : ∃ j, q = .inl j ∧ j' = j + 3 ∧ tkK u n j = 6 ∧ tkK u n (j + 1) = 1 ∧ tkK u n (j + 2) = 3 ∧ inNm u n cs (j + 1) = false ∧ cs.length ≠ 12 := by
  obtain ⟨a, h1, h2, h3⟩ := tkT_inq h
  obtain ⟨b, g1, g2, g3, g4, g5⟩ := newT_inl h1
  obtain ⟨c, e1, e2, e3, e4⟩ := wT_inl g1
  subst h3; subst g2; subst e2
  exact ⟨c, e1, rfl, e3, g3, isS_K h2, g4, g5⟩
theorem midT_inl {q : Qq} {j' : Nat} (h : midT u n q = .inl j') : ∃ j, q = .inl j ∧ j' = j + 2 ∧ tkK u n j = 3 ∧ tkK u n (j + 1) = 3 := by
  obtain ⟨a, h1, h2, h3⟩ := tkT_inq h
  obtain ⟨b, g1, g2, g3⟩ := tkT_inq h1
  subst h3; subst g3
  exact ⟨b, g1, rfl, isS_K g2, isS_K h2⟩
theorem lt_of {j : Nat} (hL : LstT u n N) (h : tkK u n j = 1 ∨ tkK u n j = 2 ∨ tkK u n j = 3 ∨ tkK u n j = 6) (g : j ≤ N) : j < N := hL.le ⟨by omega, by omega⟩ g
theorem PinsR.le {ps : List Nat} {j : Nat} {res : (Nat × List Nat) ⊕ (Int × Int)} (hL : LstT u n N) (h : PinsR u n ps j res) : j ≤ N → ps.length ≤ 3 → ∀ j' ps', res = .inl (j', ps') → j ≤ j' ∧ j' ≤ N ∧ ps'.length ≤ 3 ∧ ps.length ≤ ps'.length := by
  refine h (fun ps j res => j ≤ N → ps.length ≤ 3 → ∀ j' ps', res = .inl (j', ps') → j ≤ j' ∧ j' ≤ N ∧ ps'.length ≤ 3 ∧ ps.length ≤ ps'.length) ⟨?_, ?_, ?_⟩
  · intro ps j _ g h j' ps' e; injection e with e; injection e with e1 e2; subst e1; subst e2; exact ⟨Nat.le_refl _, g, h, Nat.le_refl _⟩
  · intro ps j f _ _ _ _ j' ps' e; cases e
  · intro ps j j1 j2 res h1 h2 h3 ih g h j' ps' e
    have a1 := nxT_inl h2
    obtain ⟨i, b1, b2, b3, b4, b5⟩ := newT_inl h3
    injection b1 with b1
    have l1 := lt_of hL (by rw [isS_K h1]; decide) g
    have l2 := lt_of hL (j := i) (by rw [b3]; decide) (by omega)
    obtain ⟨c1, c2, c3, c4⟩ := ih (by omega) (by rw [List.length_append]; simp only [List.length]; omega) _ _ e
    rw [List.length_append] at c4
    simp only [List.length] at c4
    exact ⟨by omega, c2, c3, by omega⟩
theorem CellR.le {cs : List Nat} {j0 j' : Nat} {r : Row4} (hL : LstT u n N) (h : CellR u n cs j0 (.inl (j', r))) (hj : j0 ≤ N) : j0 + 1 < j' ∧ j' ≤ N ∧ cs.length ≠ 12 ∧ tkK u n (j0 + 1) = 1 ∧ inNm u n cs (j0 + 1) = false ∧ (∃ m : Nat, 1 ≤ m ∧ m ≤ 3 ∧ r.1 = (m : Int) ∧ 0 ≤ r.2.1 ∧ r.2.1 < ((2 ^ (2 ^ m) : Nat) : Int)) ∧ 1 ≤ r.2.2.1 ∧ r.2.2.1 ≤ 1000 ∧ 1 ≤ r.2.2.2 ∧ r.2.2.2 ≤ 100 := by
  suffices g : ∀ res, CellR u n cs j0 res → ∀ j' r, res = .inl (j', r) → j0 + 1 < j' ∧ j' ≤ N ∧ cs.length ≠ 12 ∧ tkK u n (j0 + 1) = 1 ∧ inNm u n cs (j0 + 1) = false ∧ (∃ m : Nat, 1 ≤ m ∧ m ≤ 3 ∧ r.1 = (m : Int) ∧ 0 ≤ r.2.1 ∧ r.2.1 < ((2 ^ (2 ^ m) : Nat) : Int)) ∧ 1 ≤ r.2.2.1 ∧ r.2.2.1 ≤ 1000 ∧ 1 ≤ r.2.2.2 ∧ r.2.2.2 ≤ 100 from g _ h _ _ rfl
  intro res h
  refine h (fun res => ∀ j' r, res = .inl (j', r) → j0 + 1 < j' ∧ j' ≤ N ∧ cs.length ≠ 12 ∧ tkK u n (j0 + 1) = 1 ∧ inNm u n cs (j0 + 1) = false ∧ (∃ m : Nat, 1 ≤ m ∧ m ≤ 3 ∧ r.1 = (m : Int) ∧ 0 ≤ r.2.1 ∧ r.2.1 < ((2 ^ (2 ^ m) : Nat) : Int)) ∧ 1 ≤ r.2.2.1 ∧ r.2.2.1 ≤ 1000 ∧ 1 ≤ r.2.2.2 ∧ r.2.2.2 ≤ 100) ?_ ?_ ?_ ?_ ?_ ?_ ?_
  · intro f _ j' r e; cases e
  · intro j1 f _ _ j' r e; cases e
  · intro j1 j2 f _ _ _ j' r e; cases e
  · intro j1 j2 j3 ps f _ _ _ _ j' r e; cases e
  · intro j1 j2 j3 j4 ps f _ _ _ _ _ j' r e; cases e
  · intro j1 j2 j3 j4 j5 ps v f _ _ _ _ _ _ j' r e; cases e
  · intro j1 j2 j3 j4 j5 j8 ps v a b c d e f j' r eq
    injection eq with eq; injection eq with eq1 eq2
    subst eq1; subst eq2
    obtain ⟨a1, a2, a3, a4, a5, a6, a7, a8⟩ := preT_inl a
    injection a2 with a2; subst a2
    obtain ⟨b1, b2, b3, b4, b5, b6⟩ := newT_inl b
    injection b2 with b2
    have l1 := lt_of hL (j := j0) (by omega) hj
    have l2 := lt_of hL (j := j0 + 1) (by omega) (by omega)
    have l3 := lt_of hL (j := j0 + 2) (by omega) (by omega)
    have l4 := lt_of hL (j := b1) (by omega) (by omega)
    obtain ⟨c1, c2, c3, c4⟩ := c.le hL (by omega) (show 1 ≤ 3 by decide) _ _ rfl
    obtain ⟨d1, d2, d3, d4, d5⟩ := midT_inl d
    injection d2 with d2
    have l5 := lt_of hL (j := d1) (by omega) (by omega)
    have l6 := lt_of hL (j := d1 + 1) (by omega) (by omega)
    obtain ⟨e1, e2, _⟩ := e.le hL (by omega) _ _ rfl
    obtain ⟨f1, f2, f3, f4, f5, f6, f7, f8, f9, f10, f11, f12⟩ := posT_inl f
    injection f2 with f2; subst f2
    have l7 := lt_of hL (j := j5) (by omega) (by omega)
    have l8 := lt_of hL (j := j5 + 1) (by omega) (by omega)
    have l9 := lt_of hL (j := j5 + 2) (by omega) (by omega)
    have l10 := lt_of hL (j := j5 + 3) (by omega) (by omega)
    have l11 := lt_of hL (j := j5 + 4) (by omega) (by omega)
    simp only [List.length] at c4
    unfold rowC
    have hp : (0 : Int) < ((2 ^ (2 ^ ps.length) : Nat) : Int) := Int.natCast_pos.2 (Nat.two_pow_pos _)
    exact ⟨by omega, by omega, a8, a5, a7, ⟨_, by omega, c3, rfl, Int.emod_nonneg _ (by omega), Int.emod_lt_of_pos _ hp⟩, f9, f10, f11, f12⟩
end LCL
