/-! evaluation: places within their arrays -/
section EVA
variable {τ : Type} {n : Nat} {S : Sto} {a : Nat} {j v : Int}
theorem rdI_e {k : Int → Option τ} (h : 0 ≤ j ∧ j < n ∧ (n : Int) ≤ 2147483648) : rdI n S a j k = k (gI S a j.toNat) := by
  have e : w32 j = j := w32_id (by omega)
  unfold rdI ixn
  rw [e, if_pos (by omega)]
theorem rdZ_e {k : Int → Option τ} (h : 0 ≤ j ∧ j < n ∧ (n : Int) ≤ 2147483648) : rdZ n S a j k = k (bz (gI S a j.toNat)) := by
  have e : w32 j = j := w32_id (by omega)
  unfold rdZ ixn
  rw [e, if_pos (by omega)]
theorem rdL_e {k : Int64 → Option τ} (h : 0 ≤ j ∧ j < n ∧ (n : Int) ≤ 2147483648) : rdL n S a j k = k (gL S a j.toNat) := by
  have e : w32 j = j := w32_id (by omega)
  unfold rdL ixn
  rw [e, if_pos (by omega)]
theorem wrI_e {k : Sto → Option τ} (h : 0 ≤ j ∧ j < n ∧ (n : Int) ≤ 2147483648) : wrI n S a j v k = k (sI S a j.toNat v) := by
  have e : w32 j = j := w32_id (by omega)
  unfold wrI ixn
  rw [e, if_pos (by omega)]
theorem wrL_e {v : Int64} {k : Sto → Option τ} (h : 0 ≤ j ∧ j < n ∧ (n : Int) ≤ 2147483648) : wrL n S a j v k = k (sL S a j.toNat v) := by
  have e : w32 j = j := w32_id (by omega)
  unfold wrL ixn
  rw [e, if_pos (by omega)]
theorem rdC_e {vs : List Int} {k : Int → Option τ} (h : 0 ≤ j ∧ j < vs.length ∧ (vs.length : Int) ≤ 2147483648) : rdC vs j k = k (vs.getD j.toNat 0) := by
  have e : w32 j = j := w32_id (by omega)
  unfold rdC ixn
  rw [e, if_pos (by omega)]
end EVA
/-- a truth value as a number -/
def b2i (b : Bool) : Int := if b = true then 1 else 0
theorem b2i_t : b2i true = 1 := rfl
theorem b2i_f : b2i false = 0 := rfl
theorem b2i_01 (b : Bool) : b2i b = 0 ∨ b2i b = 1 := by cases b; exact Or.inl rfl; exact Or.inr rfl
theorem bz_b2i (b : Bool) : bz (b2i b) = b2i b := by cases b <;> rfl
theorem w32_b2i (b : Bool) : w32 (b2i b) = b2i b := by cases b <;> rfl
theorem w1_b2i (b : Bool) : w1 (b2i b) = b2i b := by cases b <;> rfl
theorem b2i_eq0 {b : Bool} : (b2i b = 0) = (b = false) := by cases b <;> simp [b2i]
theorem b2i_eq1 {b : Bool} : (b2i b = 1) = (b = true) := by cases b <;> simp [b2i]
theorem b2i_if {c : Prop} [Decidable c] : (if c then (1 : Int) else 0) = b2i (decide c) := by by_cases h : c <;> simp [h, b2i]
theorem gz_b2i {τ : Type} {b : Bool} {k : Option τ} : gz (b2i b) k = k := by cases b <;> rfl
theorem bX_ite {σ τ : Type} {c : Prop} [Decidable c] {a b : σ} {k : σ → Option τ} : bX (if c then some a else some b) k = k (if c then a else b) := by split <;> rfl
theorem ite_someI {c : Prop} [Decidable c] {a b : Int} : (if c then some a else some b) = some (if c then a else b) := ite_some
theorem ite_someL {c : Prop} [Decidable c] {a b : Int64} : (if c then some a else some b) = some (if c then a else b) := ite_some
theorem ite_someB {c : Prop} [Decidable c] {a b : Bool} : (if c then some a else some b) = some (if c then a else b) := ite_some
theorem gz_0 {τ : Type} {k : Option τ} : gz 0 k = k := rfl
theorem gz_1 {τ : Type} {k : Option τ} : gz 1 k = k := rfl
