/-! rows of bits as numbers -/
def bitsN : Nat → (Nat → Bool) → Nat
  | 0, _ => 0
  | n + 1, f => bitsN n f + (if f n = true then 2 ^ n else 0)
theorem bitsN_lt (n : Nat) (f : Nat → Bool) : bitsN n f < 2 ^ n := by
  induction n with
  | zero => exact Nat.one_pos
  | succ n ih => unfold bitsN; rw [Nat.pow_succ]; split <;> omega
theorem bitsN_congr {n : Nat} {f g : Nat → Bool} (h : ∀ k, k < n → f k = g k) : bitsN n f = bitsN n g := by
  induction n with
  | zero => rfl
  | succ n ih => unfold bitsN; rw [ih (fun k hk => h k (by omega)), h n (by omega)]
theorem bitsN_or {n : Nat} {f : Nat → Bool} : bitsN n f ||| (if f n = true then 2 ^ n else 0) = bitsN (n + 1) f := by
  have h := bitsN_lt n f
  show _ = bitsN n f + (if f n = true then 2 ^ n else 0)
  split
  · have e := Nat.two_pow_add_eq_or_of_lt h 1
    rw [Nat.mul_one] at e
    rw [Nat.or_comm, ← e, Nat.add_comm]
  · rw [Nat.or_zero, Nat.add_zero]
theorem testBit_bitsN {n : Nat} {f : Nat → Bool} {k : Nat} : (bitsN n f).testBit k = (decide (k < n) && f k) := by
  induction n with
  | zero => show (0 : Nat).testBit k = _; rw [Nat.zero_testBit]; simp
  | succ n ih =>
    rw [← bitsN_or, Nat.testBit_or, ih]
    by_cases h : f n = true
    · rw [if_pos h, Nat.testBit_two_pow]
      by_cases e : n = k
      · subst e; simp [h]
      · have : (k < n + 1) = (k < n) := propext ⟨fun g => by omega, fun g => by omega⟩
        simp [e, this]
    · rw [if_neg h, Nat.zero_testBit, Bool.or_false]
      by_cases e : n = k
      · subst e; simp [h]
      · have : (k < n + 1) = (k < n) := propext ⟨fun g => by omega, fun g => by omega⟩
        simp [this]
theorem bitsN_testBit {n x : Nat} (h : x < 2 ^ n) : bitsN n (fun k => x.testBit k) = x := by
  apply Nat.eq_of_testBit_eq
  intro i
  rw [testBit_bitsN]
  by_cases hi : i < n
  · simp [hi]
  · simp [hi, Nat.testBit_lt_two_pow (Nat.lt_of_lt_of_le h (Nat.pow_le_pow_right (by omega) (by omega : n ≤ i)))]
theorem pow_le31 {k : Nat} (h : k ≤ 30) : 2 ^ k ≤ 1073741824 := Nat.pow_le_pow_right (n := 2) (by omega) h
theorem aShl1 {k : Nat} (h : k ≤ 30) : aShl 1 (k : Int) = ((2 ^ k : Nat) : Int) := by
  have := pow_le31 h
  have e := aShl_nat (a := 1) (k := k) (by omega) (by omega)
  rw [Nat.one_mul] at e
  exact e
/-- v |= bit << k -/
theorem aOr_bits {n : Nat} {f : Nat → Bool} {b : Bool} (hb : b = f n) (h : n ≤ 30) : aOr (bitsN n f : Int) (aShl (b2i b) (n : Int)) = (bitsN (n + 1) f : Int) := by
  have h1 := pow_le31 h
  have h2 := bitsN_lt n f
  subst hb
  rw [← bitsN_or]
  cases hf : f n with
  | true => rw [b2i_t, aShl1 h, aOr_nat (by omega) (by omega)]; rfl
  | false =>
    have e : aShl (b2i false) (n : Int) = ((0 : Nat) : Int) := by
      have := aShl_nat (a := 0) (k := n) (by omega) (by omega)
      rw [Nat.zero_mul] at this
      exact this
    rw [e, aOr_nat (by omega) (by omega)]; rfl
theorem aOr_bits' {n : Nat} {f : Nat → Bool} {b : Bool} (hb : b = f n) (h : n ≤ 30) : aOr (bitsN n f : Int) (if b = true then aShl 1 (n : Int) else 0) = (bitsN (n + 1) f : Int) := by
  have h1 := pow_le31 h
  have h2 := bitsN_lt n f
  subst hb
  rw [← bitsN_or]
  cases hf : f n with
  | true => rw [if_pos rfl, if_pos rfl, aShl1 h, aOr_nat (by omega) (by omega)]
  | false => rw [if_neg (by decide), if_neg (by decide)]; exact aOr_nat (a := bitsN n f) (b := 0) (by omega) (by omega)
/-- v >> k & 1 -/
theorem aBit {x k : Nat} (hx : x < 2147483648) (h : k < 32) : aAnd (aShr (x : Int) (k : Int)) 1 = b2i (x.testBit k) := by
  rw [aShr_nat h hx, aAnd_1, Nat.testBit_eq_decide_div_mod_eq]
  unfold b2i
  generalize x / 2 ^ k = y
  by_cases e : y % 2 = 1
  · rw [if_pos (decide_eq_true e)]; omega
  · rw [if_neg (fun h => e (of_decide_eq_true h))]; omega
/-- a row of bits within a state: input below, state above -/
theorem or_shl {a b n : Nat} (h : a < 2 ^ n) : b * 2 ^ n ||| a = b * 2 ^ n + a := by
  have e := Nat.two_pow_add_eq_or_of_lt h b
  rw [Nat.mul_comm] at e
  exact e.symm
/-! words of 64 bits -/
def tb (x : Int64) (i : Nat) : Bool := x.toBitVec.getLsbD i
theorem tb_and {x y : Int64} {i : Nat} : tb (x &&& y) i = (tb x i && tb y i) := by unfold tb; rw [Int64.toBitVec_and, BitVec.getLsbD_and]
theorem tb_or {x y : Int64} {i : Nat} : tb (x ||| y) i = (tb x i || tb y i) := by unfold tb; rw [Int64.toBitVec_or, BitVec.getLsbD_or]
theorem tb_xor {x y : Int64} {i : Nat} : tb (x ^^^ y) i = (tb x i ^^ tb y i) := by unfold tb; rw [Int64.toBitVec_xor, BitVec.getLsbD_xor]
theorem tb_0 {i : Nat} : tb 0 i = false := by
  show (0#64).getLsbD i = false
  exact BitVec.getLsbD_zero
theorem tb_m1 {i : Nat} (h : i < 64) : tb (-1) i = true := by
  show (BitVec.allOnes 64).getLsbD i = true
  rw [BitVec.getLsbD_allOnes]; simp [h]
theorem tb_not {x : Int64} {i : Nat} (h : i < 64) : tb (x ^^^ (-1)) i = !tb x i := by rw [tb_xor, tb_m1 h, Bool.xor_true]
theorem tb_ext {x y : Int64} (h : ∀ i, i < 64 → tb x i = tb y i) : x = y := by
  apply Int64.toBitVec_inj.1
  exact BitVec.eq_of_getLsbD_eq (fun i hi => h i hi)
theorem ipow (n : Nat) : (2 : Int) ^ n = ((2 ^ n : Nat) : Int) := by norm_cast
