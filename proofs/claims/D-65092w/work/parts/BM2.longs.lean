/-! long numbers that are small -/
theorem i2l_int (v : Int) : (i2l v).toInt = w32 v := by unfold i2l w32; exact Int32.toInt_toInt64 _
theorem l64_add {x y : Int64} {a b : Int} (hx : x.toInt = a) (hy : y.toInt = b) (h : -9000000000000000000 ≤ a + b ∧ a + b < 9000000000000000000) : (x + y).toInt = a + b := by
  rw [Int64.toInt_add, hx, hy, Int.bmod_def]
  have e : ((2 : Nat) ^ 64 : Nat) = 18446744073709551616 := rfl
  rw [e]
  split <;> omega
theorem l2i_int {x : Int64} {a : Int} (hx : x.toInt = a) (h : -2147483648 ≤ a ∧ a < 2147483648) : l2i x = a := by
  unfold l2i
  rw [Int64.toInt_toInt32, hx, Int.bmod_def]
  have e : ((2 : Nat) ^ 32 : Nat) = 4294967296 := rfl
  rw [e]
  split <;> omega
theorem lCmp_lt {x y : Int64} {a b : Int} (hx : x.toInt = a) (hy : y.toInt = b) : w32 (lCmp x y) < 0 ↔ a < b := by
  unfold lCmp lg_cmp
  subst hx hy
  by_cases q : x > y
  · rw [if_pos q]
    have q' : y.toInt < x.toInt := Int64.lt_iff_toInt_lt.1 q
    constructor
    · intro g; exact absurd g (by decide)
    · intro g; omega
  · rw [if_neg q]
    have q' : ¬ y.toInt < x.toInt := fun g => q (Int64.lt_iff_toInt_lt.2 g)
    by_cases e : x = y
    · rw [if_pos e]
      constructor
      · intro g; exact absurd g (by decide)
      · intro g; rw [e] at g; omega
    · rw [if_neg e]
      have ne : x.toInt ≠ y.toInt := fun g => e (Int64.toInt_inj.1 g)
      constructor
      · intro _; omega
      · intro _; decide
theorem lCmp_ge {x y : Int64} {a b : Int} (hx : x.toInt = a) (hy : y.toInt = b) : 0 ≤ w32 (lCmp x y) ↔ b ≤ a := by
  have := lCmp_lt hx hy
  omega
