/-! operator precedence against recursive descent, without a program in sight -/
abbrev Rv (V : Type) : Type := (Nat × V) ⊕ (Int × Int)
/-- how expressions are read: tokens, only three signs, operand, turn, two, choose, is one wide, how many values -/
abbrev OM (V : Type) : Type := (Nat → Int) × Nat × Bool × (Nat → V → Rv V) × (V → V) × (Int → Nat → V → V ⊕ (Int × Int)) × (Nat → V → V ⊕ (Int × Int)) × (V → Bool) × (V → Nat)
abbrev Gx : Type := Nat ⊕ (Nat ⊕ (Bool ⊕ Unit))
abbrev gE (r : Nat) : Gx := .inl r
abbrev gLo (r : Nat) : Gx := .inr (.inl r)
abbrev gN (b : Bool) : Gx := .inr (.inr (.inl b))
abbrev gP : Gx := .inr (.inr (.inr ()))
def gS (r : Nat) : Gx := if r = 5 then gN false else gE (r + 1)
def oR (c : Int) : Nat := if c = 124 then 1 else if c = 94 then 2 else if c = 38 then 3 else if c = 257 then 4 else if c = 43 then 5 else 0
section OPD
variable {V : Type}
def OM.u (X : OM V) : Nat → Int := X.1
def OM.n (X : OM V) : Nat := X.2.1
def OM.m (X : OM V) : Bool := X.2.2.1
def OM.op (X : OM V) : Nat → V → Rv V := X.2.2.2.1
def OM.ng (X : OM V) : V → V := X.2.2.2.2.1
def OM.ap (X : OM V) : Int → Nat → V → V ⊕ (Int × Int) := X.2.2.2.2.2.1
def OM.ch (X : OM V) : Nat → V → V ⊕ (Int × Int) := X.2.2.2.2.2.2.1
def OM.ts (X : OM V) : V → Bool := X.2.2.2.2.2.2.2.1
def OM.hv (X : OM V) : V → Nat := X.2.2.2.2.2.2.2.2
/-- the rank of a token: 0 if it is no operator -/
def OM.r (X : OM V) (j : Nat) : Nat := if tkK X.u X.n j = 3 then (if X.m = true ∧ 4 ≤ oR (tkV X.u X.n j) then 0 else oR (tkV X.u X.n j)) else 0
def OM.q (X : OM V) (j : Nat) : Bool := !X.m && isS X.u X.n 63 j
def OM.nb (X : OM V) (b : Bool) (v : V) : V := if b = true then X.ng v else v
def GC (X : OM V) (R : Gx → Nat → Nat → V → Rv V → Prop) : Prop :=
  (∀ (r : Nat) (j : Nat) (o : Nat) (v : V) (f : Int × Int), 1 ≤ r → r ≤ 5 → R (gS r) j o v (.inr f) → R (gE r) j o v (.inr f)) ∧
  (∀ (r : Nat) (j : Nat) (o : Nat) (v : V) (j1 : Nat) (v1 : V) (res : Rv V), 1 ≤ r → r ≤ 5 → R (gS r) j o v (.inl (j1, v1)) → R (gLo r) j1 o v1 res → R (gE r) j o v res) ∧
  (∀ (r : Nat) (j : Nat) (o : Nat) (v : V), X.r j ≠ r → R (gLo r) j o v (.inl (j, v))) ∧
  (∀ (r : Nat) (j : Nat) (o : Nat) (v : V) (f : Int × Int), X.r j = r → nxT X.u X.n j = .inr f → R (gLo r) j o v (.inr f)) ∧
  (∀ (r : Nat) (j : Nat) (o : Nat) (v : V) (j1 : Nat) (f : Int × Int), X.r j = r → nxT X.u X.n j = .inl j1 → R (gS r) j1 o v (.inr f) → R (gLo r) j o v (.inr f)) ∧
  (∀ (r : Nat) (j : Nat) (o : Nat) (v : V) (j1 : Nat) (j2 : Nat) (v2 : V) (f : Int × Int), X.r j = r → nxT X.u X.n j = .inl j1 → R (gS r) j1 o v (.inl (j2, v2)) → X.ap (tkV X.u X.n j) j v2 = .inr f → R (gLo r) j o v (.inr f)) ∧
  (∀ (r : Nat) (j : Nat) (o : Nat) (v : V) (j1 : Nat) (j2 : Nat) (v2 : V) (v3 : V) (res : Rv V), r ≠ 4 → X.r j = r → nxT X.u X.n j = .inl j1 → R (gS r) j1 o v (.inl (j2, v2)) → X.ap (tkV X.u X.n j) j v2 = .inl v3 → R (gLo r) j2 o v3 res → R (gLo r) j o v res) ∧
  (∀ (r : Nat) (j : Nat) (o : Nat) (v : V) (j1 : Nat) (j2 : Nat) (v2 : V) (v3 : V), r = 4 → X.r j = r → nxT X.u X.n j = .inl j1 → R (gS r) j1 o v (.inl (j2, v2)) → X.ap (tkV X.u X.n j) j v2 = .inl v3 → R (gLo r) j o v (.inl (j2, v3))) ∧
  (∀ (j : Nat) (o : Nat) (v : V) (f : Int × Int), R (gE 1) j o v (.inr f) → R (gE 0) j o v (.inr f)) ∧
  (∀ (j : Nat) (o : Nat) (v : V) (j1 : Nat) (v1 : V), R (gE 1) j o v (.inl (j1, v1)) → X.q j1 = false → R (gE 0) j o v (.inl (j1, v1))) ∧
  (∀ (j : Nat) (o : Nat) (v : V) (j1 : Nat) (v1 : V), R (gE 1) j o v (.inl (j1, v1)) → X.q j1 = true → o = 60 → R (gE 0) j o v (.inr (3, (tkB X.u X.n j1 : Int)))) ∧
  (∀ (j : Nat) (o : Nat) (v : V) (j1 : Nat) (v1 : V), R (gE 1) j o v (.inl (j1, v1)) → X.q j1 = true → o ≠ 60 → X.ts v1 = false → R (gE 0) j o v (.inr (13, (tkB X.u X.n j1 : Int)))) ∧
  (∀ (j : Nat) (o : Nat) (v : V) (j1 : Nat) (v1 : V) (f : Int × Int), R (gE 1) j o v (.inl (j1, v1)) → X.q j1 = true → o ≠ 60 → X.ts v1 = true → nxT X.u X.n j1 = .inr f → R (gE 0) j o v (.inr f)) ∧
  (∀ (j : Nat) (o : Nat) (v : V) (j1 : Nat) (v1 : V) (j2 : Nat) (f : Int × Int), R (gE 1) j o v (.inl (j1, v1)) → X.q j1 = true → o ≠ 60 → X.ts v1 = true → nxT X.u X.n j1 = .inl j2 → R (gE 0) j2 (o + 1) v1 (.inr f) → R (gE 0) j o v (.inr f)) ∧
  (∀ (j : Nat) (o : Nat) (v : V) (j1 : Nat) (v1 : V) (j2 : Nat) (j3 : Nat) (v2 : V) (f : Int × Int), R (gE 1) j o v (.inl (j1, v1)) → X.q j1 = true → o ≠ 60 → X.ts v1 = true → nxT X.u X.n j1 = .inl j2 → R (gE 0) j2 (o + 1) v1 (.inl (j3, v2)) → tkT X.u X.n 58 (.inl j3) = .inr f → R (gE 0) j o v (.inr f)) ∧
  (∀ (j : Nat) (o : Nat) (v : V) (j1 : Nat) (v1 : V) (j2 : Nat) (j3 : Nat) (v2 : V) (j4 : Nat) (f : Int × Int), R (gE 1) j o v (.inl (j1, v1)) → X.q j1 = true → o ≠ 60 → X.ts v1 = true → nxT X.u X.n j1 = .inl j2 → R (gE 0) j2 (o + 1) v1 (.inl (j3, v2)) → tkT X.u X.n 58 (.inl j3) = .inl j4 → R (gE 0) j4 (o + 1) v2 (.inr f) → R (gE 0) j o v (.inr f)) ∧
  (∀ (j : Nat) (o : Nat) (v : V) (j1 : Nat) (v1 : V) (j2 : Nat) (j3 : Nat) (v2 : V) (j4 : Nat) (j5 : Nat) (v3 : V) (f : Int × Int), R (gE 1) j o v (.inl (j1, v1)) → X.q j1 = true → o ≠ 60 → X.ts v1 = true → nxT X.u X.n j1 = .inl j2 → R (gE 0) j2 (o + 1) v1 (.inl (j3, v2)) → tkT X.u X.n 58 (.inl j3) = .inl j4 → R (gE 0) j4 (o + 1) v2 (.inl (j5, v3)) → X.ch j1 v3 = .inr f → R (gE 0) j o v (.inr f)) ∧
  (∀ (j : Nat) (o : Nat) (v : V) (j1 : Nat) (v1 : V) (j2 : Nat) (j3 : Nat) (v2 : V) (j4 : Nat) (j5 : Nat) (v3 : V) (v4 : V), R (gE 1) j o v (.inl (j1, v1)) → X.q j1 = true → o ≠ 60 → X.ts v1 = true → nxT X.u X.n j1 = .inl j2 → R (gE 0) j2 (o + 1) v1 (.inl (j3, v2)) → tkT X.u X.n 58 (.inl j3) = .inl j4 → R (gE 0) j4 (o + 1) v2 (.inl (j5, v3)) → X.ch j1 v3 = .inl v4 → R (gE 0) j o v (.inl (j5, v4))) ∧
  (∀ (b : Bool) (j : Nat) (o : Nat) (v : V) (f : Int × Int), isS X.u X.n 33 j = true → nxT X.u X.n j = .inr f → R (gN b) j o v (.inr f)) ∧
  (∀ (b : Bool) (j : Nat) (o : Nat) (v : V) (j1 : Nat) (res : Rv V), isS X.u X.n 33 j = true → nxT X.u X.n j = .inl j1 → R (gN (!b)) j1 o v res → R (gN b) j o v res) ∧
  (∀ (b : Bool) (j : Nat) (o : Nat) (v : V) (j1 : Nat) (v1 : V), isS X.u X.n 33 j = false → R gP j o v (.inl (j1, v1)) → R (gN b) j o v (.inl (j1, X.nb b v1))) ∧
  (∀ (b : Bool) (j : Nat) (o : Nat) (v : V) (f : Int × Int), isS X.u X.n 33 j = false → R gP j o v (.inr f) → R (gN b) j o v (.inr f)) ∧
  (∀ (j : Nat) (o : Nat) (v : V), isS X.u X.n 40 j = true → o = 60 → R gP j o v (.inr (3, (tkB X.u X.n j : Int)))) ∧
  (∀ (j : Nat) (o : Nat) (v : V) (f : Int × Int), isS X.u X.n 40 j = true → o ≠ 60 → nxT X.u X.n j = .inr f → R gP j o v (.inr f)) ∧
  (∀ (j : Nat) (o : Nat) (v : V) (j1 : Nat) (f : Int × Int), isS X.u X.n 40 j = true → o ≠ 60 → nxT X.u X.n j = .inl j1 → R (gE 0) j1 (o + 1) v (.inr f) → R gP j o v (.inr f)) ∧
  (∀ (j : Nat) (o : Nat) (v : V) (j1 : Nat) (j2 : Nat) (v2 : V) (f : Int × Int), isS X.u X.n 40 j = true → o ≠ 60 → nxT X.u X.n j = .inl j1 → R (gE 0) j1 (o + 1) v (.inl (j2, v2)) → tkT X.u X.n 41 (.inl j2) = .inr f → R gP j o v (.inr f)) ∧
  (∀ (j : Nat) (o : Nat) (v : V) (j1 : Nat) (j2 : Nat) (v2 : V) (j3 : Nat), isS X.u X.n 40 j = true → o ≠ 60 → nxT X.u X.n j = .inl j1 → R (gE 0) j1 (o + 1) v (.inl (j2, v2)) → tkT X.u X.n 41 (.inl j2) = .inl j3 → R gP j o v (.inl (j3, v2))) ∧
  (∀ (j : Nat) (o : Nat) (v : V), isS X.u X.n 40 j = false → R gP j o v (X.op j v))
def oGr (X : OM V) (lx : Gx) (j o : Nat) (v : V) (res : Rv V) : Prop := ∀ R, GC X R → R lx j o v res
theorem oGr.ef {X : OM V} {r : Nat} {j : Nat} {o : Nat} {v : V} {f : Int × Int} (h0 : 1 ≤ r) (h1 : r ≤ 5) (h2 : oGr X (gS r) j o v (.inr f)) : oGr X (gE r) j o v (.inr f) := fun R c => c.1 _ _ _ _ _ h0 h1 (h2 R c)
theorem oGr.el {X : OM V} {r : Nat} {j : Nat} {o : Nat} {v : V} {j1 : Nat} {v1 : V} {res : Rv V} (h0 : 1 ≤ r) (h1 : r ≤ 5) (h2 : oGr X (gS r) j o v (.inl (j1, v1))) (h3 : oGr X (gLo r) j1 o v1 res) : oGr X (gE r) j o v res := fun R c => c.2.1 _ _ _ _ _ _ _ h0 h1 (h2 R c) (h3 R c)
theorem oGr.ls {X : OM V} {r : Nat} {j : Nat} {o : Nat} {v : V} (h0 : X.r j ≠ r) : oGr X (gLo r) j o v (.inl (j, v)) := fun R c => c.2.2.1 _ _ _ _ h0
theorem oGr.lf {X : OM V} {r : Nat} {j : Nat} {o : Nat} {v : V} {f : Int × Int} (h0 : X.r j = r) (h1 : nxT X.u X.n j = .inr f) : oGr X (gLo r) j o v (.inr f) := fun R c => c.2.2.2.1 _ _ _ _ _ h0 h1
theorem oGr.lg {X : OM V} {r : Nat} {j : Nat} {o : Nat} {v : V} {j1 : Nat} {f : Int × Int} (h0 : X.r j = r) (h1 : nxT X.u X.n j = .inl j1) (h2 : oGr X (gS r) j1 o v (.inr f)) : oGr X (gLo r) j o v (.inr f) := fun R c => c.2.2.2.2.1 _ _ _ _ _ _ h0 h1 (h2 R c)
theorem oGr.lx {X : OM V} {r : Nat} {j : Nat} {o : Nat} {v : V} {j1 : Nat} {j2 : Nat} {v2 : V} {f : Int × Int} (h0 : X.r j = r) (h1 : nxT X.u X.n j = .inl j1) (h2 : oGr X (gS r) j1 o v (.inl (j2, v2))) (h3 : X.ap (tkV X.u X.n j) j v2 = .inr f) : oGr X (gLo r) j o v (.inr f) := fun R c => c.2.2.2.2.2.1 _ _ _ _ _ _ _ _ h0 h1 (h2 R c) h3
theorem oGr.lc {X : OM V} {r : Nat} {j : Nat} {o : Nat} {v : V} {j1 : Nat} {j2 : Nat} {v2 : V} {v3 : V} {res : Rv V} (h0 : r ≠ 4) (h1 : X.r j = r) (h2 : nxT X.u X.n j = .inl j1) (h3 : oGr X (gS r) j1 o v (.inl (j2, v2))) (h4 : X.ap (tkV X.u X.n j) j v2 = .inl v3) (h5 : oGr X (gLo r) j2 o v3 res) : oGr X (gLo r) j o v res := fun R c => c.2.2.2.2.2.2.1 _ _ _ _ _ _ _ _ _ h0 h1 h2 (h3 R c) h4 (h5 R c)
theorem oGr.lq {X : OM V} {r : Nat} {j : Nat} {o : Nat} {v : V} {j1 : Nat} {j2 : Nat} {v2 : V} {v3 : V} (h0 : r = 4) (h1 : X.r j = r) (h2 : nxT X.u X.n j = .inl j1) (h3 : oGr X (gS r) j1 o v (.inl (j2, v2))) (h4 : X.ap (tkV X.u X.n j) j v2 = .inl v3) : oGr X (gLo r) j o v (.inl (j2, v3)) := fun R c => c.2.2.2.2.2.2.2.1 _ _ _ _ _ _ _ _ h0 h1 h2 (h3 R c) h4
theorem oGr.qf {X : OM V} {j : Nat} {o : Nat} {v : V} {f : Int × Int} (h0 : oGr X (gE 1) j o v (.inr f)) : oGr X (gE 0) j o v (.inr f) := fun R c => c.2.2.2.2.2.2.2.2.1 _ _ _ _ (h0 R c)
theorem oGr.qs {X : OM V} {j : Nat} {o : Nat} {v : V} {j1 : Nat} {v1 : V} (h0 : oGr X (gE 1) j o v (.inl (j1, v1))) (h1 : X.q j1 = false) : oGr X (gE 0) j o v (.inl (j1, v1)) := fun R c => c.2.2.2.2.2.2.2.2.2.1 _ _ _ _ _ (h0 R c) h1
theorem oGr.qt {X : OM V} {j : Nat} {o : Nat} {v : V} {j1 : Nat} {v1 : V} (h0 : oGr X (gE 1) j o v (.inl (j1, v1))) (h1 : X.q j1 = true) (h2 : o = 60) : oGr X (gE 0) j o v (.inr (3, (tkB X.u X.n j1 : Int))) := fun R c => c.2.2.2.2.2.2.2.2.2.2.1 _ _ _ _ _ (h0 R c) h1 h2
theorem oGr.qw {X : OM V} {j : Nat} {o : Nat} {v : V} {j1 : Nat} {v1 : V} (h0 : oGr X (gE 1) j o v (.inl (j1, v1))) (h1 : X.q j1 = true) (h2 : o ≠ 60) (h3 : X.ts v1 = false) : oGr X (gE 0) j o v (.inr (13, (tkB X.u X.n j1 : Int))) := fun R c => c.2.2.2.2.2.2.2.2.2.2.2.1 _ _ _ _ _ (h0 R c) h1 h2 h3
theorem oGr.qn {X : OM V} {j : Nat} {o : Nat} {v : V} {j1 : Nat} {v1 : V} {f : Int × Int} (h0 : oGr X (gE 1) j o v (.inl (j1, v1))) (h1 : X.q j1 = true) (h2 : o ≠ 60) (h3 : X.ts v1 = true) (h4 : nxT X.u X.n j1 = .inr f) : oGr X (gE 0) j o v (.inr f) := fun R c => c.2.2.2.2.2.2.2.2.2.2.2.2.1 _ _ _ _ _ _ (h0 R c) h1 h2 h3 h4
theorem oGr.qa {X : OM V} {j : Nat} {o : Nat} {v : V} {j1 : Nat} {v1 : V} {j2 : Nat} {f : Int × Int} (h0 : oGr X (gE 1) j o v (.inl (j1, v1))) (h1 : X.q j1 = true) (h2 : o ≠ 60) (h3 : X.ts v1 = true) (h4 : nxT X.u X.n j1 = .inl j2) (h5 : oGr X (gE 0) j2 (o + 1) v1 (.inr f)) : oGr X (gE 0) j o v (.inr f) := fun R c => c.2.2.2.2.2.2.2.2.2.2.2.2.2.1 _ _ _ _ _ _ _ (h0 R c) h1 h2 h3 h4 (h5 R c)
theorem oGr.qb {X : OM V} {j : Nat} {o : Nat} {v : V} {j1 : Nat} {v1 : V} {j2 : Nat} {j3 : Nat} {v2 : V} {f : Int × Int} (h0 : oGr X (gE 1) j o v (.inl (j1, v1))) (h1 : X.q j1 = true) (h2 : o ≠ 60) (h3 : X.ts v1 = true) (h4 : nxT X.u X.n j1 = .inl j2) (h5 : oGr X (gE 0) j2 (o + 1) v1 (.inl (j3, v2))) (h6 : tkT X.u X.n 58 (.inl j3) = .inr f) : oGr X (gE 0) j o v (.inr f) := fun R c => c.2.2.2.2.2.2.2.2.2.2.2.2.2.2.1 _ _ _ _ _ _ _ _ _ (h0 R c) h1 h2 h3 h4 (h5 R c) h6
theorem oGr.qc {X : OM V} {j : Nat} {o : Nat} {v : V} {j1 : Nat} {v1 : V} {j2 : Nat} {j3 : Nat} {v2 : V} {j4 : Nat} {f : Int × Int} (h0 : oGr X (gE 1) j o v (.inl (j1, v1))) (h1 : X.q j1 = true) (h2 : o ≠ 60) (h3 : X.ts v1 = true) (h4 : nxT X.u X.n j1 = .inl j2) (h5 : oGr X (gE 0) j2 (o + 1) v1 (.inl (j3, v2))) (h6 : tkT X.u X.n 58 (.inl j3) = .inl j4) (h7 : oGr X (gE 0) j4 (o + 1) v2 (.inr f)) : oGr X (gE 0) j o v (.inr f) := fun R c => c.2.2.2.2.2.2.2.2.2.2.2.2.2.2.2.1 _ _ _ _ _ _ _ _ _ _ (h0 R c) h1 h2 h3 h4 (h5 R c) h6 (h7 R c)
theorem oGr.qd {X : OM V} {j : Nat} {o : Nat} {v : V} {j1 : Nat} {v1 : V} {j2 : Nat} {j3 : Nat} {v2 : V} {j4 : Nat} {j5 : Nat} {v3 : V} {f : Int × Int} (h0 : oGr X (gE 1) j o v (.inl (j1, v1))) (h1 : X.q j1 = true) (h2 : o ≠ 60) (h3 : X.ts v1 = true) (h4 : nxT X.u X.n j1 = .inl j2) (h5 : oGr X (gE 0) j2 (o + 1) v1 (.inl (j3, v2))) (h6 : tkT X.u X.n 58 (.inl j3) = .inl j4) (h7 : oGr X (gE 0) j4 (o + 1) v2 (.inl (j5, v3))) (h8 : X.ch j1 v3 = .inr f) : oGr X (gE 0) j o v (.inr f) := fun R c => c.2.2.2.2.2.2.2.2.2.2.2.2.2.2.2.2.1 _ _ _ _ _ _ _ _ _ _ _ _ (h0 R c) h1 h2 h3 h4 (h5 R c) h6 (h7 R c) h8
theorem oGr.qe {X : OM V} {j : Nat} {o : Nat} {v : V} {j1 : Nat} {v1 : V} {j2 : Nat} {j3 : Nat} {v2 : V} {j4 : Nat} {j5 : Nat} {v3 : V} {v4 : V} (h0 : oGr X (gE 1) j o v (.inl (j1, v1))) (h1 : X.q j1 = true) (h2 : o ≠ 60) (h3 : X.ts v1 = true) (h4 : nxT X.u X.n j1 = .inl j2) (h5 : oGr X (gE 0) j2 (o + 1) v1 (.inl (j3, v2))) (h6 : tkT X.u X.n 58 (.inl j3) = .inl j4) (h7 : oGr X (gE 0) j4 (o + 1) v2 (.inl (j5, v3))) (h8 : X.ch j1 v3 = .inl v4) : oGr X (gE 0) j o v (.inl (j5, v4)) := fun R c => c.2.2.2.2.2.2.2.2.2.2.2.2.2.2.2.2.2.1 _ _ _ _ _ _ _ _ _ _ _ _ (h0 R c) h1 h2 h3 h4 (h5 R c) h6 (h7 R c) h8
theorem oGr.nf {X : OM V} {b : Bool} {j : Nat} {o : Nat} {v : V} {f : Int × Int} (h0 : isS X.u X.n 33 j = true) (h1 : nxT X.u X.n j = .inr f) : oGr X (gN b) j o v (.inr f) := fun R c => c.2.2.2.2.2.2.2.2.2.2.2.2.2.2.2.2.2.2.1 _ _ _ _ _ h0 h1
theorem oGr.nc {X : OM V} {b : Bool} {j : Nat} {o : Nat} {v : V} {j1 : Nat} {res : Rv V} (h0 : isS X.u X.n 33 j = true) (h1 : nxT X.u X.n j = .inl j1) (h2 : oGr X (gN (!b)) j1 o v res) : oGr X (gN b) j o v res := fun R c => c.2.2.2.2.2.2.2.2.2.2.2.2.2.2.2.2.2.2.2.1 _ _ _ _ _ _ h0 h1 (h2 R c)
theorem oGr.np {X : OM V} {b : Bool} {j : Nat} {o : Nat} {v : V} {j1 : Nat} {v1 : V} (h0 : isS X.u X.n 33 j = false) (h1 : oGr X gP j o v (.inl (j1, v1))) : oGr X (gN b) j o v (.inl (j1, X.nb b v1)) := fun R c => c.2.2.2.2.2.2.2.2.2.2.2.2.2.2.2.2.2.2.2.2.1 _ _ _ _ _ _ h0 (h1 R c)
theorem oGr.ng {X : OM V} {b : Bool} {j : Nat} {o : Nat} {v : V} {f : Int × Int} (h0 : isS X.u X.n 33 j = false) (h1 : oGr X gP j o v (.inr f)) : oGr X (gN b) j o v (.inr f) := fun R c => c.2.2.2.2.2.2.2.2.2.2.2.2.2.2.2.2.2.2.2.2.2.1 _ _ _ _ _ h0 (h1 R c)
theorem oGr.po {X : OM V} {j : Nat} {o : Nat} {v : V} (h0 : isS X.u X.n 40 j = true) (h1 : o = 60) : oGr X gP j o v (.inr (3, (tkB X.u X.n j : Int))) := fun R c => c.2.2.2.2.2.2.2.2.2.2.2.2.2.2.2.2.2.2.2.2.2.2.1 _ _ _ h0 h1
theorem oGr.pf {X : OM V} {j : Nat} {o : Nat} {v : V} {f : Int × Int} (h0 : isS X.u X.n 40 j = true) (h1 : o ≠ 60) (h2 : nxT X.u X.n j = .inr f) : oGr X gP j o v (.inr f) := fun R c => c.2.2.2.2.2.2.2.2.2.2.2.2.2.2.2.2.2.2.2.2.2.2.2.1 _ _ _ _ h0 h1 h2
theorem oGr.pg {X : OM V} {j : Nat} {o : Nat} {v : V} {j1 : Nat} {f : Int × Int} (h0 : isS X.u X.n 40 j = true) (h1 : o ≠ 60) (h2 : nxT X.u X.n j = .inl j1) (h3 : oGr X (gE 0) j1 (o + 1) v (.inr f)) : oGr X gP j o v (.inr f) := fun R c => c.2.2.2.2.2.2.2.2.2.2.2.2.2.2.2.2.2.2.2.2.2.2.2.2.1 _ _ _ _ _ h0 h1 h2 (h3 R c)
theorem oGr.pb {X : OM V} {j : Nat} {o : Nat} {v : V} {j1 : Nat} {j2 : Nat} {v2 : V} {f : Int × Int} (h0 : isS X.u X.n 40 j = true) (h1 : o ≠ 60) (h2 : nxT X.u X.n j = .inl j1) (h3 : oGr X (gE 0) j1 (o + 1) v (.inl (j2, v2))) (h4 : tkT X.u X.n 41 (.inl j2) = .inr f) : oGr X gP j o v (.inr f) := fun R c => c.2.2.2.2.2.2.2.2.2.2.2.2.2.2.2.2.2.2.2.2.2.2.2.2.2.1 _ _ _ _ _ _ _ h0 h1 h2 (h3 R c) h4
theorem oGr.pc {X : OM V} {j : Nat} {o : Nat} {v : V} {j1 : Nat} {j2 : Nat} {v2 : V} {j3 : Nat} (h0 : isS X.u X.n 40 j = true) (h1 : o ≠ 60) (h2 : nxT X.u X.n j = .inl j1) (h3 : oGr X (gE 0) j1 (o + 1) v (.inl (j2, v2))) (h4 : tkT X.u X.n 41 (.inl j2) = .inl j3) : oGr X gP j o v (.inl (j3, v2)) := fun R c => c.2.2.2.2.2.2.2.2.2.2.2.2.2.2.2.2.2.2.2.2.2.2.2.2.2.2.1 _ _ _ _ _ _ _ h0 h1 h2 (h3 R c) h4
theorem oGr.pn {X : OM V} {j : Nat} {o : Nat} {v : V} (h0 : isS X.u X.n 40 j = false) : oGr X gP j o v (X.op j v) := fun R c => c.2.2.2.2.2.2.2.2.2.2.2.2.2.2.2.2.2.2.2.2.2.2.2.2.2.2.2 _ _ _ h0
/-! the machine -/
def oB {α β γ : Type} (x : α ⊕ β) (f : α → γ ⊕ β) : γ ⊕ β := match x with | .inl a => f a | .inr b => .inr b
theorem oB_l {α β γ : Type} {a : α} {f : α → γ ⊕ β} : oB (.inl a) f = f a := rfl
theorem oB_r {α β γ : Type} {b : β} {f : α → γ ⊕ β} : oB (.inr b) f = .inr b := rfl
abbrev Cf (V : Type) : Type := (Nat × Nat × List (Int × Nat) × Nat × V) ⊕ (Int × Int)
def oTop : List (Int × Nat) → Int
  | [] => 0
  | (c, _) :: _ => c
def oStl (X : OM V) (y : Nat) : List (Int × Nat) → V → (List (Int × Nat) × V) ⊕ (Int × Int)
  | [], v => .inl ([], v)
  | (c, p) :: l, v => if 1 ≤ oR c ∧ y ≤ oR c then oB (X.ap c p v) (fun w => oStl X y l w) else .inl ((c, p) :: l, v)
def oAll (X : OM V) : List (Int × Nat) → Nat → V → (List (Int × Nat) × Nat × V) ⊕ (Int × Int)
  | [], o, v => .inl ([], o, v)
  | (c, p) :: l, o, v => if 1 ≤ oR c then oB (X.ap c p v) (fun w => oAll X l o w) else if c = 58 then oB (X.ch p v) (fun w => oAll X l (o - 1) w) else .inl ((c, p) :: l, o, v)
def oTrn (X : OM V) : List (Int × Nat) → V → List (Int × Nat) × V
  | [], v => ([], v)
  | (c, p) :: l, v => if c = 33 then oTrn X l (if p = 1 then X.ng v else v) else ((c, p) :: l, v)
def oFlp : List (Int × Nat) → List (Int × Nat)
  | [] => [(33, 1)]
  | (c, p) :: l => if c = 33 then (33, 1 - p) :: l else (33, 1) :: (c, p) :: l
def oFin (X : OM V) (j : Nat) (ops : List (Int × Nat)) (o : Nat) (v : V) : Cf V := match ops with
  | [] => .inl (2, j, [], o, v)
  | (c, p) :: l => if X.m = false ∧ c = 63 then oB (tkT X.u X.n 58 (.inl j)) (fun j1 => .inl (0, j1, (58, p) :: l, o, v)) else oB (tkT X.u X.n 41 (.inl j)) (fun j1 => .inl (1, j1, (oTrn X l v).1, o - 1, (oTrn X l v).2))
def OM.e (X : OM V) (b : Bool) (j : Nat) : Nat := if b = true ∧ X.r j = 4 then 0 else X.r j
def oY (r : Nat) : Nat := if r = 4 then 5 else if 0 < r then r else 6
def oBh (X : OM V) (b : Bool) (j : Nat) (ops : List (Int × Nat)) (o : Nat) (v : V) : Cf V :=
  oB (oStl X (oY (X.e b j)) ops v) (fun t => if 0 < X.e b j ∧ (X.e b j = 4 → oTop t.1 ≠ 257) then oB (nxT X.u X.n j) (fun j1 => .inl (0, j1, (tkV X.u X.n j, j) :: t.1, o, t.2))
    else if X.q j = true then oB (oStl X 1 t.1 t.2) (fun s => if o = 60 then .inr (3, (tkB X.u X.n j : Int)) else if X.ts s.2 = false then .inr (13, (tkB X.u X.n j : Int)) else oB (nxT X.u X.n j) (fun j1 => .inl (0, j1, (63, j) :: s.1, o + 1, s.2)))
    else oB (oAll X t.1 o t.2) (fun s => oFin X j s.1 s.2.1 s.2.2))
def oOp (X : OM V) (j : Nat) (ops : List (Int × Nat)) (o : Nat) (v : V) : Cf V :=
  if isS X.u X.n 33 j = true then oB (nxT X.u X.n j) (fun j1 => .inl (0, j1, oFlp ops, o, v))
  else if isS X.u X.n 40 j = true then (if o = 60 then .inr (3, (tkB X.u X.n j : Int)) else oB (nxT X.u X.n j) (fun j1 => .inl (0, j1, (40, j) :: ops, o + 1, v)))
  else oB (X.op j v) (fun t => .inl (1, t.1, (oTrn X ops t.2).1, o, (oTrn X ops t.2).2))
def oStp (X : OM V) (c : Cf V) : Cf V := match c with
  | .inr f => .inr f
  | .inl (m, j, ops, o, v) => if m = 0 then oOp X j ops o v else if m = 1 then oBh X false j ops o v else .inl (m, j, ops, o, v)
def oIt (X : OM V) : Nat → Cf V → Cf V
  | 0, c => c
  | k + 1, c => oIt X k (oStp X c)
def oRc (X : OM V) (c d : Cf V) : Prop := ∃ k, oIt X k c = d
theorem oRc.refl {X : OM V} {c : Cf V} : oRc X c c := ⟨0, rfl⟩
theorem oIt_add {X : OM V} : ∀ (a b : Nat) (c : Cf V), oIt X (a + b) c = oIt X b (oIt X a c)
  | 0, b, c => by rw [Nat.zero_add]; rfl
  | a + 1, b, c => by rw [show a + 1 + b = (a + b) + 1 by omega]; exact oIt_add a b (oStp X c)
theorem oRc.tr {X : OM V} {c d e : Cf V} (h : oRc X c d) (g : oRc X d e) : oRc X c e := by
  obtain ⟨a, rfl⟩ := h
  obtain ⟨b, rfl⟩ := g
  exact ⟨a + b, oIt_add a b c⟩
theorem oRc.st {X : OM V} {c d : Cf V} (h : oStp X c = d) : oRc X c d := ⟨1, h⟩
theorem oRc.hd {X : OM V} {c d e : Cf V} (h : oStp X c = d) (g : oRc X d e) : oRc X c e := (oRc.st h).tr g
theorem oIt_fix {X : OM V} {c : Cf V} (h : oStp X c = c) : ∀ k, oIt X k c = c
  | 0 => rfl
  | k + 1 => by show oIt X k (oStp X c) = c; rw [h]; exact oIt_fix h k
theorem oRc.det {X : OM V} {c d e : Cf V} (h : oRc X c d) (g : oRc X c e) (hd : oStp X d = d) (he : oStp X e = e) : d = e := by
  obtain ⟨a, rfl⟩ := h
  obtain ⟨b, rfl⟩ := g
  rcases Nat.le_total a b with q | q
  · obtain ⟨k, rfl⟩ := Nat.exists_eq_add_of_le q
    rw [oIt_add]; exact (oIt_fix hd k).symm
  · obtain ⟨k, rfl⟩ := Nat.exists_eq_add_of_le q
    rw [oIt_add]; exact oIt_fix he k
theorem oR_le (c : Int) : oR c ≤ 5 := by unfold oR; split <;> (try omega) <;> (split <;> (try omega) <;> (split <;> (try omega) <;> (split <;> (try omega) <;> (split <;> omega))))
theorem oR_iff {c : Int} : (oR c = 1 ↔ c = 124) ∧ (oR c = 2 ↔ c = 94) ∧ (oR c = 3 ↔ c = 38) ∧ (oR c = 4 ↔ c = 257) ∧ (oR c = 5 ↔ c = 43) := by
  unfold oR
  split
  · omega
  · split
    · omega
    · split
      · omega
      · split
        · omega
        · split <;> omega
theorem r_pos {X : OM V} {j : Nat} (h : X.r j ≠ 0) : tkK X.u X.n j = 3 ∧ oR (tkV X.u X.n j) = X.r j ∧ (X.m = true → X.r j < 4) := by
  unfold OM.r at h ⊢
  split at h
  · rename_i g
    rw [if_pos g]
    split at h
    · omega
    · rename_i g2; rw [if_neg g2]; exact ⟨g, rfl, fun q => by rcases Nat.lt_or_ge (oR (tkV X.u X.n j)) 4 with k | k; exact k; exact absurd ⟨q, k⟩ g2⟩
  · omega
theorem r_le {X : OM V} (j : Nat) : X.r j ≤ 5 := by
  unfold OM.r; have := oR_le (tkV X.u X.n j); split
  · split <;> omega
  · omega
theorem q_r {X : OM V} {j : Nat} (h : X.q j = true) : X.r j = 0 := by
  unfold OM.q isS at h
  rw [Bool.and_eq_true] at h
  obtain ⟨h1, h2⟩ := of_decide_eq_true h.2
  unfold OM.r
  rw [if_pos h1, h2]
  split <;> rfl
theorem q_m {X : OM V} {j : Nat} (h : X.q j = true) : X.m = false := by
  unfold OM.q at h
  rw [Bool.and_eq_true] at h
  cases e : X.m
  · rfl
  · rw [e] at h; cases h.1
/-- no top of rank r or more -/
def oLow (r : Nat) (ops : List (Int × Nat)) : Prop := ∀ c p l, ops = (c, p) :: l → oR c < r ∧ c ≠ 33
theorem oStl_low {X : OM V} {r y : Nat} {ops : List (Int × Nat)} {v : V} (h : oLow r ops) (hy : r ≤ y ∨ r ≤ 1) : oStl X y ops v = .inl (ops, v) := by
  cases ops with
  | nil => rfl
  | cons a l => obtain ⟨c, p⟩ := a; have := h c p l rfl; unfold oStl; rw [if_neg (by omega)]
theorem oStl_cons {X : OM V} {y : Nat} {c : Int} {p : Nat} {l : List (Int × Nat)} {v : V} (h : 1 ≤ oR c) (g : y ≤ oR c) : oStl X y ((c, p) :: l) v = oB (X.ap c p v) (fun w => oStl X y l w) := by
  conv => lhs; unfold oStl
  rw [if_pos ⟨h, g⟩]
theorem oStl_stop {X : OM V} {y : Nat} {c : Int} {p : Nat} {l : List (Int × Nat)} {v : V} (g : oR c < y) : oStl X y ((c, p) :: l) v = .inl ((c, p) :: l, v) := by
  conv => lhs; unfold oStl
  rw [if_neg (by omega)]
theorem oAll_cons {X : OM V} {o : Nat} {c : Int} {p : Nat} {l : List (Int × Nat)} {v : V} (h : 1 ≤ oR c) : oAll X ((c, p) :: l) o v = oB (X.ap c p v) (fun w => oAll X l o w) := by
  conv => lhs; unfold oAll
  rw [if_pos h]
theorem oStl_6 {X : OM V} {ops : List (Int × Nat)} {v : V} : oStl X 6 ops v = .inl (ops, v) := by
  cases ops with
  | nil => rfl
  | cons a l => obtain ⟨c, p⟩ := a; exact oStl_stop (by have := oR_le c; omega)
/-- no operator of rank r or more -/
def oNo (X : OM V) (r j : Nat) : Prop := X.r j < r ∨ (X.r j = 4 ∧ r ≤ 4)
def oFg (r : Nat) : Bool := decide (r ≤ 4)
/-- at a token that is no operator -/
theorem oBh_0 {X : OM V} {b : Bool} {j o : Nat} {ops : List (Int × Nat)} {v : V} (h : X.e b j = 0) (g : X.q j = false) : oBh X b j ops o v = oB (oAll X ops o v) (fun s => oFin X j s.1 s.2.1 s.2.2) := by
  unfold oBh
  rw [h, show oY 0 = 6 from rfl, oStl_6, oB_l, if_neg (fun q => by omega), if_neg (by rw [g]; decide)]
/-- behind two the sign of rank r is done with -/
theorem oBh_sh {X : OM V} {r j o p : Nat} {c : Int} {ops : List (Int × Nat)} {v : V} (h1 : 1 ≤ r) (h5 : r ≤ 5) (hc : oR c = r) (hn : oNo X (r + 1) j) (hl : oLow r ops) :
    oBh X (oFg (r + 1)) j ((c, p) :: ops) o v = oB (X.ap c p v) (fun w => oBh X (if r = 4 then true else oFg (r + 1)) j ops o w) := by
  have hr := r_le (X := X) j
  by_cases e0 : X.e (oFg (r + 1)) j = 0
  · -- no operator
    have e1 : X.e (if r = 4 then true else oFg (r + 1)) j = 0 := by
      split
      · rename_i g; subst g; unfold OM.e at e0 ⊢; rw [if_neg (fun q => by have := q.1; revert this; decide)] at e0; rw [e0]; split <;> rfl
      · exact e0
    cases hq : X.q j with
    | false =>
      rw [oBh_0 e0 hq, oAll_cons (by omega)]
      cases X.ap c p v with
      | inr f => rfl
      | inl w => rw [oB_l, oB_l, oBh_0 e1 hq]
    | true =>
      unfold oBh
      rw [e0, e1, show oY 0 = 6 from rfl, oStl_6, oB_l, if_neg (fun q => by omega), if_pos hq, oStl_cons (by omega) (by omega)]
      cases X.ap c p v with
      | inr f => rfl
      | inl w => rw [oB_l, oB_l, oStl_6, oB_l, if_neg (fun q => by omega), if_pos hq]
  · by_cases e4 : X.e (oFg (r + 1)) j = 4
    · have er : X.r j = 4 := by
        unfold OM.e at e4; split at e4
        · omega
        · exact e4
      have hf : 4 ≤ r := by
        unfold OM.e at e4
        by_cases q : r + 1 ≤ 4
        · rw [if_pos ⟨decide_eq_true q, er⟩] at e4; omega
        · omega
      have hq : X.q j = false := by
        cases hq : X.q j with
        | false => rfl
        | true => have := q_r hq; omega
      by_cases r4 : r = 4
      · have c257 : c = 257 := (oR_iff.2.2.2.1).1 (by omega)
        rw [if_pos r4]
        have e1 : X.e true j = 0 := by unfold OM.e; rw [if_pos ⟨rfl, er⟩]
        unfold oBh
        rw [e4, e1, show oY 4 = 5 from rfl, oStl_stop (by omega), oB_l, if_neg (fun q => by have := q.2 rfl; exact this c257), if_neg (by rw [hq]; decide), oAll_cons (by omega)]
        cases X.ap c p v with
        | inr f => rfl
        | inl w => rw [oB_l, oB_l, show oY 0 = 6 from rfl, oStl_6, oB_l, if_neg (fun q => by omega), if_neg (by rw [hq]; decide)]
      · have r5 : r = 5 := by omega
        rw [if_neg r4]
        unfold oBh
        rw [e4, show oY 4 = 5 from rfl, oStl_cons (by omega) (by omega)]
        cases X.ap c p v with
        | inr f => rfl
        | inl w => rfl
    · have er : X.e (oFg (r + 1)) j = X.r j := by
        unfold OM.e at e0 ⊢; split
        · rename_i g; rw [if_pos g] at e0; omega
        · rfl
      have hle : X.r j ≤ r := by
        rcases hn with q | q
        · omega
        · omega
      have e1 : X.e (if r = 4 then true else oFg (r + 1)) j = X.r j := by unfold OM.e; rw [if_neg (fun q => by omega)]
      have hy : oY (X.r j) = X.r j := by unfold oY; rw [if_neg (by omega), if_pos (by omega)]
      unfold oBh
      rw [er, e1, hy, oStl_cons (by omega) (by omega)]
      cases X.ap c p v with
      | inr f => rfl
      | inl w => rfl
/-- an operator of rank r is taken -/
theorem oBh_op {X : OM V} {r j o : Nat} {b : Bool} {ops : List (Int × Nat)} {v : V} (h1 : 1 ≤ r) (hr : X.r j = r) (hb : b = true → r ≠ 4) (hl : oLow r ops) :
    oBh X b j ops o v = oB (nxT X.u X.n j) (fun j1 => .inl (0, j1, (tkV X.u X.n j, j) :: ops, o, v)) := by
  have he : X.e b j = r := by unfold OM.e; rw [if_neg (fun q => hb q.1 (by omega))]; exact hr
  unfold oBh
  have hy : r ≤ oY r := by unfold oY; split <;> (try omega) <;> (split <;> omega)
  have ht : r = 4 → oTop ops ≠ 257 := by
    intro q
    cases ops with
    | nil => show (0 : Int) ≠ 257; decide
    | cons a l =>
      obtain ⟨c, p⟩ := a
      have := (hl c p l rfl).1
      intro e
      have e : c = 257 := e
      subst e
      have : oR 257 = 4 := rfl
      omega
  rw [he, oStl_low hl (Or.inl hy), oB_l, if_pos ⟨by omega, ht⟩]
def oOK (X : OM V) (b : Bool) (c : Cf V) (ops : List (Int × Nat)) (o : Nat) (res : Rv V) : Prop := match res with
  | .inl (j, v) => ∃ d, oRc X c d ∧ oStp X d = oBh X b j ops o v
  | .inr f => oRc X c (.inr f)
def oEx (X : OM V) (c : Cf V) (g : V → List (Int × Nat) × V) (o : Nat) (res : Rv V) : Prop := match res with
  | .inl (j, v) => oRc X c (.inl (1, j, (g v).1, o, (g v).2))
  | .inr f => oRc X c (.inr f)
def oPs (res : Rv V) (Q : Nat → Prop) : Prop := ∀ j v, res = .inl (j, v) → Q j
/-- what the machine does for each of them -/
def GK (X : OM V) (lx : Gx) (j o : Nat) (v : V) (res : Rv V) : Prop := match lx with
  | .inl r => (1 ≤ r → r ≤ 5 → ∀ ops, oLow r ops → oOK X (oFg r) (.inl (0, j, ops, o, v)) ops o res ∧ oPs res (oNo X r)) ∧ (r = 0 → ∀ ops, oLow 1 ops → oOK X true (.inl (0, j, ops, o, v)) ops o res ∧ oPs res (fun i => oNo X 1 i ∧ X.q i = false))
  | .inr (.inl r) => 1 ≤ r → r ≤ 5 → ∀ ops c, oLow r ops → oNo X (r + 1) j → oStp X c = oBh X (oFg (r + 1)) j ops o v → oOK X (oFg r) c ops o res ∧ oPs res (oNo X r)
  | .inr (.inr (.inl b)) => ∀ ops0 ops, oTop ops0 ≠ 33 → (ops = (33, if b = true then 1 else 0) :: ops0 ∨ (b = false ∧ ops = ops0)) → oEx X (.inl (0, j, ops, o, v)) (fun w => (ops0, w)) o res
  | .inr (.inr (.inr _)) => isS X.u X.n 33 j = false → ∀ ops, oEx X (.inl (0, j, ops, o, v)) (fun w => oTrn X ops w) o res
theorem oPs_r {f : Int × Int} {Q : Nat → Prop} : oPs (V := V) (.inr f) Q := fun j v e => by cases e
theorem oPs_l {j : Nat} {v : V} {Q : Nat → Prop} (h : Q j) : oPs (V := V) (.inl (j, v)) Q := fun i w e => by injection e with e; injection e with e1 e2; subst e1; exact h
theorem oOK.hd {X : OM V} {b : Bool} {c d : Cf V} {ops : List (Int × Nat)} {o : Nat} {res : Rv V} (h : oRc X c d) (g : oOK X b d ops o res) : oOK X b c ops o res := by
  cases res with
  | inl a => obtain ⟨e, e1, e2⟩ := g; exact ⟨e, h.tr e1, e2⟩
  | inr f => exact h.tr g
theorem oNo_6 {X : OM V} {j : Nat} : oNo X 6 j := Or.inl (by have := r_le (X := X) j; omega)
theorem oLow_top {r : Nat} {ops : List (Int × Nat)} (h : oLow r ops) : oTop ops ≠ 33 := by
  cases ops with
  | nil => show (0 : Int) ≠ 33; decide
  | cons a l => obtain ⟨c, p⟩ := a; exact (h c p l rfl).2
theorem oLow.mono {r r' : Nat} {ops : List (Int × Nat)} (h : oLow r ops) (g : r ≤ r') : oLow r' ops := fun c p l e => ⟨Nat.lt_of_lt_of_le (h c p l e).1 g, (h c p l e).2⟩
/-- the next level -/
theorem GK.sub {X : OM V} {r j o : Nat} {v : V} {res : Rv V} (h : GK X (gS r) j o v res) (h1 : 1 ≤ r) (h5 : r ≤ 5) {ops : List (Int × Nat)} (hl : oLow (r + 1) ops) : oOK X (oFg (r + 1)) (.inl (0, j, ops, o, v)) ops o res ∧ oPs res (oNo X (r + 1)) := by
  unfold gS at h
  by_cases e : r = 5
  · rw [if_pos e] at h
    subst e
    have h := h ops ops (oLow_top hl) (Or.inr ⟨rfl, rfl⟩)
    refine ⟨?_, fun i w _ => oNo_6⟩
    cases res with
    | inl a => obtain ⟨i, w⟩ := a; exact ⟨_, h, rfl⟩
    | inr f => exact h
  · rw [if_neg e] at h
    exact h.1 (by omega) (by omega) ops hl
theorem oTrn_id {X : OM V} {ops : List (Int × Nat)} {v : V} (h : oTop ops ≠ 33) : oTrn X ops v = (ops, v) := by
  cases ops with
  | nil => rfl
  | cons a l => obtain ⟨c, p⟩ := a; unfold oTrn; rw [if_neg (show ¬ c = 33 from h)]
theorem oLow_one {r p : Nat} {c : Int} {l : List (Int × Nat)} (h : oR c < r) (g : c ≠ 33) : oLow r ((c, p) :: l) := fun c' p' l' e => by injection e with e1 e2; injection e1 with e1 e3; subst e1; exact ⟨h, g⟩
/-- a question is asked -/
theorem oBh_q {X : OM V} {j o : Nat} {ops : List (Int × Nat)} {v : V} (hq : X.q j = true) (hl : oLow 1 ops) :
    oBh X true j ops o v = if o = 60 then .inr (3, (tkB X.u X.n j : Int)) else if X.ts v = false then .inr (13, (tkB X.u X.n j : Int)) else oB (nxT X.u X.n j) (fun j1 => .inl (0, j1, (63, j) :: ops, o + 1, v)) := by
  have h0 := q_r hq
  have e0 : X.e true j = 0 := by unfold OM.e; rw [h0]; split <;> rfl
  unfold oBh
  rw [e0, show oY 0 = 6 from rfl, oStl_6, oB_l, if_neg (fun q => by omega), if_pos hq, oStl_low hl (Or.inr (by omega)), oB_l]
theorem e_no {X : OM V} {j : Nat} (h : oNo X 1 j) : X.e true j = 0 := by
  unfold OM.e
  rcases h with q | q
  · split
    · rfl
    · omega
  · rw [if_pos ⟨rfl, q.1⟩]
theorem oAll_stop {X : OM V} {o p : Nat} {c : Int} {l : List (Int × Nat)} {v : V} (h : oR c = 0) (g : c ≠ 58) : oAll X ((c, p) :: l) o v = .inl ((c, p) :: l, o, v) := by
  conv => lhs; unfold oAll
  rw [if_neg (by omega), if_neg g]
theorem oAll_58 {X : OM V} {o p : Nat} {l : List (Int × Nat)} {v : V} : oAll X ((58, p) :: l) o v = oB (X.ch p v) (fun w => oAll X l (o - 1) w) := by
  conv => lhs; unfold oAll
  rw [if_neg (by show ¬ 1 ≤ 0; omega), if_pos rfl]
theorem oBh_cg {X : OM V} {b b' : Bool} {j o : Nat} {ops : List (Int × Nat)} {v : V} (h : X.e b j = X.e b' j) : oBh X b j ops o v = oBh X b' j ops o v := by
  unfold oBh; rw [h]
theorem oEx.hd {X : OM V} {c d : Cf V} {g : V → List (Int × Nat) × V} {o : Nat} {res : Rv V} (h : oRc X c d) (k : oEx X d g o res) : oEx X c g o res := by
  cases res with
  | inl a => exact oRc.tr h k
  | inr f => exact oRc.tr h k
theorem oFg_ne {r : Nat} (h : oFg (r + 1) = true) : r ≠ 4 := fun e => by have := of_decide_eq_true h; omega
theorem r_low {X : OM V} {r j p : Nat} {l : List (Int × Nat)} (h1 : 1 ≤ r) (hr : X.r j = r) : oR (tkV X.u X.n j) = r ∧ oLow (r + 1) ((tkV X.u X.n j, p) :: l) := by
  have := (r_pos (X := X) (j := j) (by omega)).2.1
  refine ⟨by omega, oLow_one (by omega) (fun e => ?_)⟩
  rw [e] at this
  have h0 : oR 33 = 0 := rfl
  omega
theorem oFin_63 {X : OM V} {j o p : Nat} {l : List (Int × Nat)} {v : V} (h : X.m = false) : oFin X j ((63, p) :: l) o v = oB (tkT X.u X.n 58 (.inl j)) (fun j1 => .inl (0, j1, (58, p) :: l, o, v)) := if_pos ⟨h, rfl⟩
theorem oFin_40 {X : OM V} {j o p : Nat} {l : List (Int × Nat)} {v : V} : oFin X j ((40, p) :: l) o v = oB (tkT X.u X.n 41 (.inl j)) (fun j1 => .inl (1, j1, (oTrn X l v).1, o - 1, (oTrn X l v).2)) := if_neg (fun q => absurd q.2 (by decide))
theorem oGr.main {X : OM V} {lx : Gx} {j o : Nat} {v : V} {res : Rv V} (h : oGr X lx j o v res) : GK X lx j o v res := by
  refine h (GK X) ⟨?_, ?_, ?_, ?_, ?_, ?_, ?_, ?_, ?_, ?_, ?_, ?_, ?_, ?_, ?_, ?_, ?_, ?_, ?_, ?_, ?_, ?_, ?_, ?_, ?_, ?_, ?_, ?_⟩
  · intro r j o v f h1 h5 a
    exact ⟨fun _ _ ops hl => ⟨(GK.sub a h1 h5 (hl.mono (by omega))).1, oPs_r⟩, fun q => by omega⟩
  · intro r j o v j1 v1 res h1 h5 a b
    refine ⟨fun _ _ ops hl => ?_, fun q => by omega⟩
    obtain ⟨⟨d, d1, d2⟩, hn⟩ := GK.sub a h1 h5 (hl.mono (by omega))
    have hb := b h1 h5 ops d hl (hn _ _ rfl) d2
    exact ⟨oOK.hd d1 hb.1, hb.2⟩
  · intro r j o v hr h1 h5 ops c hl hn hc
    refine ⟨⟨c, oRc.refl, ?_⟩, oPs_l ?_⟩
    · rw [hc]
      by_cases e : r = 4
      · refine oBh_cg ?_
        unfold OM.e; rw [if_neg (fun q => by omega), if_neg (fun q => by omega)]
      · have : oFg (r + 1) = oFg r := by
          unfold oFg
          by_cases g : r ≤ 3
          · rw [decide_eq_true (show r + 1 ≤ 4 by omega), decide_eq_true (show r ≤ 4 by omega)]
          · rw [decide_eq_false (show ¬ r + 1 ≤ 4 by omega), decide_eq_false (show ¬ r ≤ 4 by omega)]
        rw [this]
    · unfold oNo at hn ⊢; omega
  · intro r j o v f hr hx h1 h5 ops c hl hn hc
    have op := oBh_op (o := o) (v := v) h1 hr oFg_ne hl
    rw [hx, oB_r] at op
    exact ⟨oRc.st (hc.trans op), oPs_r⟩
  · intro r j o v j1 f hr hx a h1 h5 ops c hl hn hc
    have op := oBh_op (o := o) (v := v) h1 hr oFg_ne hl
    rw [hx, oB_l] at op
    have s := GK.sub a h1 h5 (ops := (tkV X.u X.n j, j) :: ops) (r_low h1 hr).2
    exact ⟨oRc.hd (hc.trans op) s.1, oPs_r⟩
  · intro r j o v j1 j2 v2 f hr hx a hap h1 h5 ops c hl hn hc
    have op := oBh_op (o := o) (v := v) h1 hr oFg_ne hl
    rw [hx, oB_l] at op
    obtain ⟨⟨d, d1, d2⟩, hn2⟩ := GK.sub a h1 h5 (ops := (tkV X.u X.n j, j) :: ops) (r_low h1 hr).2
    rw [oBh_sh h1 h5 (r_low (p := j) (l := ops) h1 hr).1 (hn2 _ _ rfl) hl, hap, oB_r] at d2
    exact ⟨oRc.hd (hc.trans op) (d1.tr (oRc.st d2)), oPs_r⟩
  · intro r j o v j1 j2 v2 v3 res r4 hr hx a hap b h1 h5 ops c hl hn hc
    have op := oBh_op (o := o) (v := v) h1 hr oFg_ne hl
    rw [hx, oB_l] at op
    obtain ⟨⟨d, d1, d2⟩, hn2⟩ := GK.sub a h1 h5 (ops := (tkV X.u X.n j, j) :: ops) (r_low h1 hr).2
    rw [oBh_sh h1 h5 (r_low (p := j) (l := ops) h1 hr).1 (hn2 _ _ rfl) hl, hap, oB_l, if_neg r4] at d2
    have hb := b h1 h5 ops d hl (hn2 _ _ rfl) d2
    exact ⟨oOK.hd (oRc.hd (hc.trans op) d1) hb.1, hb.2⟩
  · intro r j o v j1 j2 v2 v3 r4 hr hx a hap h1 h5 ops c hl hn hc
    have op := oBh_op (o := o) (v := v) h1 hr oFg_ne hl
    rw [hx, oB_l] at op
    obtain ⟨⟨d, d1, d2⟩, hn2⟩ := GK.sub a h1 h5 (ops := (tkV X.u X.n j, j) :: ops) (r_low h1 hr).2
    rw [oBh_sh h1 h5 (r_low (p := j) (l := ops) h1 hr).1 (hn2 _ _ rfl) hl, hap, oB_l, if_pos r4] at d2
    have hn3 := hn2 _ _ rfl
    subst r4
    refine ⟨⟨d, oRc.hd (hc.trans op) d1, d2⟩, oPs_l ?_⟩
    unfold oNo at hn3 ⊢; omega
  · intro j o v f a
    exact ⟨fun q => by omega, fun _ ops hl => ⟨(a.1 (by omega) (by omega) ops hl).1, oPs_r⟩⟩
  · intro j o v j1 v1 a hq
    refine ⟨fun q => by omega, fun _ ops hl => ?_⟩
    obtain ⟨⟨d, d1, d2⟩, hn⟩ := a.1 (by omega) (by omega) ops hl
    exact ⟨⟨d, d1, d2⟩, oPs_l ⟨hn _ _ rfl, hq⟩⟩
  · intro j o v j1 v1 a hq ho
    refine ⟨fun q => by omega, fun _ ops hl => ?_⟩
    obtain ⟨⟨d, d1, d2⟩, hn⟩ := a.1 (by omega) (by omega) ops hl
    rw [show oFg 1 = true from rfl, oBh_q hq hl, if_pos ho] at d2
    exact ⟨d1.tr (oRc.st d2), oPs_r⟩
  · intro j o v j1 v1 a hq ho ht
    refine ⟨fun q => by omega, fun _ ops hl => ?_⟩
    obtain ⟨⟨d, d1, d2⟩, hn⟩ := a.1 (by omega) (by omega) ops hl
    rw [show oFg 1 = true from rfl, oBh_q hq hl, if_neg ho, if_pos ht] at d2
    exact ⟨d1.tr (oRc.st d2), oPs_r⟩
  · intro j o v j1 v1 f a hq ho ht hx
    refine ⟨fun q => by omega, fun _ ops hl => ?_⟩
    obtain ⟨⟨d, d1, d2⟩, hn⟩ := a.1 (by omega) (by omega) ops hl
    rw [show oFg 1 = true from rfl, oBh_q hq hl, if_neg ho, if_neg (by rw [ht]; decide), hx, oB_r] at d2
    exact ⟨d1.tr (oRc.st d2), oPs_r⟩
  · intro j o v j1 v1 j2 f a hq ho ht hx b
    refine ⟨fun q => by omega, fun _ ops hl => ?_⟩
    obtain ⟨⟨d, d1, d2⟩, hn⟩ := a.1 (by omega) (by omega) ops hl
    rw [show oFg 1 = true from rfl, oBh_q hq hl, if_neg ho, if_neg (by rw [ht]; decide), hx, oB_l] at d2
    have s := b.2 rfl ((63, j1) :: ops) (oLow_one (by decide) (by decide))
    exact ⟨d1.tr (oRc.hd d2 s.1), oPs_r⟩
  · intro j o v j1 v1 j2 j3 v2 f a hq ho ht hx b hk
    refine ⟨fun q => by omega, fun _ ops hl => ?_⟩
    obtain ⟨⟨d, d1, d2⟩, hn⟩ := a.1 (by omega) (by omega) ops hl
    rw [show oFg 1 = true from rfl, oBh_q hq hl, if_neg ho, if_neg (by rw [ht]; decide), hx, oB_l] at d2
    obtain ⟨⟨e, e1, e2⟩, hs⟩ := b.2 rfl ((63, j1) :: ops) (oLow_one (by decide) (by decide))
    have hp := hs _ _ rfl
    rw [oBh_0 (e_no hp.1) hp.2, oAll_stop (by decide) (by decide), oB_l, oFin_63 (q_m hq), hk, oB_r] at e2
    exact ⟨d1.tr (oRc.hd d2 (e1.tr (oRc.st e2))), oPs_r⟩
  · intro j o v j1 v1 j2 j3 v2 j4 f a hq ho ht hx b hk g
    refine ⟨fun q => by omega, fun _ ops hl => ?_⟩
    obtain ⟨⟨d, d1, d2⟩, hn⟩ := a.1 (by omega) (by omega) ops hl
    rw [show oFg 1 = true from rfl, oBh_q hq hl, if_neg ho, if_neg (by rw [ht]; decide), hx, oB_l] at d2
    obtain ⟨⟨e, e1, e2⟩, hs⟩ := b.2 rfl ((63, j1) :: ops) (oLow_one (by decide) (by decide))
    have hp := hs _ _ rfl
    rw [oBh_0 (e_no hp.1) hp.2, oAll_stop (by decide) (by decide), oB_l, oFin_63 (q_m hq), hk, oB_l] at e2
    have s := g.2 rfl ((58, j1) :: ops) (oLow_one (by decide) (by decide))
    exact ⟨d1.tr (oRc.hd d2 (e1.tr (oRc.hd e2 s.1))), oPs_r⟩
  · intro j o v j1 v1 j2 j3 v2 j4 j5 v3 f a hq ho ht hx b hk g hh
    refine ⟨fun q => by omega, fun _ ops hl => ?_⟩
    obtain ⟨⟨d, d1, d2⟩, hn⟩ := a.1 (by omega) (by omega) ops hl
    rw [show oFg 1 = true from rfl, oBh_q hq hl, if_neg ho, if_neg (by rw [ht]; decide), hx, oB_l] at d2
    obtain ⟨⟨e, e1, e2⟩, hs⟩ := b.2 rfl ((63, j1) :: ops) (oLow_one (by decide) (by decide))
    have hp := hs _ _ rfl
    rw [oBh_0 (e_no hp.1) hp.2, oAll_stop (by decide) (by decide), oB_l, oFin_63 (q_m hq), hk, oB_l] at e2
    obtain ⟨⟨k, k1, k2⟩, hs2⟩ := g.2 rfl ((58, j1) :: ops) (oLow_one (by decide) (by decide))
    have hp2 := hs2 _ _ rfl
    rw [oBh_0 (e_no hp2.1) hp2.2, oAll_58, hh, oB_r, oB_r] at k2
    exact ⟨d1.tr (oRc.hd d2 (e1.tr (oRc.hd e2 (k1.tr (oRc.st k2))))), oPs_r⟩
  · intro j o v j1 v1 j2 j3 v2 j4 j5 v3 v4 a hq ho ht hx b hk g hh
    refine ⟨fun q => by omega, fun _ ops hl => ?_⟩
    obtain ⟨⟨d, d1, d2⟩, hn⟩ := a.1 (by omega) (by omega) ops hl
    rw [show oFg 1 = true from rfl, oBh_q hq hl, if_neg ho, if_neg (by rw [ht]; decide), hx, oB_l] at d2
    obtain ⟨⟨e, e1, e2⟩, hs⟩ := b.2 rfl ((63, j1) :: ops) (oLow_one (by decide) (by decide))
    have hp := hs _ _ rfl
    rw [oBh_0 (e_no hp.1) hp.2, oAll_stop (by decide) (by decide), oB_l, oFin_63 (q_m hq), hk, oB_l] at e2
    obtain ⟨⟨k, k1, k2⟩, hs2⟩ := g.2 rfl ((58, j1) :: ops) (oLow_one (by decide) (by decide))
    have hp2 := hs2 _ _ rfl
    rw [oBh_0 (e_no hp2.1) hp2.2, oAll_58, hh, oB_l, Nat.add_sub_cancel, ← oBh_0 (e_no hp2.1) hp2.2] at k2
    exact ⟨⟨k, d1.tr (oRc.hd d2 (e1.tr (oRc.hd e2 k1))), k2⟩, oPs_l hp2⟩
  · intro b j o v f h1 hx ops0 ops ht ho
    refine oRc.st ?_
    show oOp X j ops o v = _
    unfold oOp; rw [if_pos h1, hx, oB_r]
  · intro b j o v j1 res h1 hx a ops0 ops ht ho
    have st : oStp X (.inl (0, j, ops, o, v)) = .inl (0, j1, oFlp ops, o, v) := by
      show oOp X j ops o v = _
      unfold oOp; rw [if_pos h1, hx, oB_l]
    refine oEx.hd (oRc.st st) (a ops0 (oFlp ops) ht (Or.inl ?_))
    rcases ho with e | ⟨e1, e2⟩
    · subst e; cases b <;> rfl
    · subst e1; subst e2
      cases ops with
      | nil => rfl
      | cons x l => obtain ⟨c, p⟩ := x; exact if_neg (show ¬ c = 33 from ht)
  · intro b j o v j1 v1 h1 a ops0 ops ht ho
    have ha := a h1 ops
    have e : oTrn X ops v1 = (ops0, X.nb b v1) := by
      rcases ho with e | ⟨e1, e2⟩
      · subst e; unfold oTrn; rw [if_pos rfl, oTrn_id ht]; cases b <;> rfl
      · subst e1; subst e2; exact oTrn_id ht
    have ha : oRc X (.inl (0, j, ops, o, v)) (.inl (1, j1, (oTrn X ops v1).1, o, (oTrn X ops v1).2)) := ha
    rw [e] at ha
    exact ha
  · intro b j o v f h1 a ops0 ops ht ho
    exact a h1 ops
  · intro j o v h1 ho h3 ops
    refine oRc.st ?_
    show oOp X j ops o v = _
    unfold oOp; rw [if_neg (by rw [h3]; decide), if_pos h1, if_pos ho]
  · intro j o v f h1 ho hx h3 ops
    refine oRc.st ?_
    show oOp X j ops o v = _
    unfold oOp; rw [if_neg (by rw [h3]; decide), if_pos h1, if_neg ho, hx, oB_r]
  · intro j o v j1 f h1 ho hx a h3 ops
    have st : oStp X (.inl (0, j, ops, o, v)) = .inl (0, j1, (40, j) :: ops, o + 1, v) := by
      show oOp X j ops o v = _
      unfold oOp; rw [if_neg (by rw [h3]; decide), if_pos h1, if_neg ho, hx, oB_l]
    exact oRc.hd st (a.2 rfl ((40, j) :: ops) (oLow_one (by decide) (by decide))).1
  · intro j o v j1 j2 v2 f h1 ho hx a hk h3 ops
    have st : oStp X (.inl (0, j, ops, o, v)) = .inl (0, j1, (40, j) :: ops, o + 1, v) := by
      show oOp X j ops o v = _
      unfold oOp; rw [if_neg (by rw [h3]; decide), if_pos h1, if_neg ho, hx, oB_l]
    obtain ⟨⟨d, d1, d2⟩, hs⟩ := a.2 rfl ((40, j) :: ops) (oLow_one (by decide) (by decide))
    have hp := hs _ _ rfl
    rw [oBh_0 (e_no hp.1) hp.2, oAll_stop (by decide) (by decide), oB_l, oFin_40, hk, oB_r] at d2
    exact oRc.hd st (d1.tr (oRc.st d2))
  · intro j o v j1 j2 v2 j3 h1 ho hx a hk h3 ops
    have st : oStp X (.inl (0, j, ops, o, v)) = .inl (0, j1, (40, j) :: ops, o + 1, v) := by
      show oOp X j ops o v = _
      unfold oOp; rw [if_neg (by rw [h3]; decide), if_pos h1, if_neg ho, hx, oB_l]
    obtain ⟨⟨d, d1, d2⟩, hs⟩ := a.2 rfl ((40, j) :: ops) (oLow_one (by decide) (by decide))
    have hp := hs _ _ rfl
    rw [oBh_0 (e_no hp.1) hp.2, oAll_stop (by decide) (by decide), oB_l, oFin_40, hk, oB_l, Nat.add_sub_cancel] at d2
    exact oRc.hd st (d1.tr (oRc.st d2))
  · intro j o v h1 h3 ops
    have st : oStp X (.inl (0, j, ops, o, v)) = oB (X.op j v) (fun t => .inl (1, t.1, (oTrn X ops t.2).1, o, (oTrn X ops t.2).2)) := by
      show oOp X j ops o v = _
      unfold oOp; rw [if_neg (by rw [h3]; decide), if_neg (by rw [h1]; decide)]
    cases e : X.op j v with
    | inl t => rw [e, oB_l] at st; exact oRc.st st
    | inr f => rw [e, oB_r] at st; exact oRc.st st
/-- a whole expression -/
theorem oGr.run {X : OM V} {j : Nat} {v : V} {res : Rv V} (h : oGr X (gE 0) j 0 v res) : oRc X (.inl (0, j, [], 0, v)) (oB res (fun t => .inl (2, t.1, [], 0, t.2))) := by
  have hl : oLow 1 ([] : List (Int × Nat)) := fun c p l e => by cases e
  have k := (oGr.main h).2 rfl [] hl
  cases res with
  | inr f => exact k.1
  | inl t =>
    obtain ⟨j1, v1⟩ := t
    obtain ⟨⟨d, d1, d2⟩, hs⟩ := k
    have hp := hs _ _ rfl
    rw [oBh_0 (e_no hp.1) hp.2] at d2
    exact d1.tr (oRc.st d2)
end OPD
