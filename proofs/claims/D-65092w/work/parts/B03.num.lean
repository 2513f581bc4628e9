/-! numbers: what the operations of 32 bits are on Int and Nat -/
theorem w32_def (x : Int) : w32 x = (x + 2147483648) % 4294967296 - 2147483648 := by
  unfold w32
  rw [Int32.toInt_ofInt]
  show Int.bmod x 4294967296 = _
  rw [Int.bmod_def]
  split <;> omega
theorem w32_n {n : Nat} (h : n < 2147483648) : w32 (n : Int) = n := w32_id (by omega)
theorem w32_0 : w32 0 = 0 := rfl
theorem w32_1 : w32 1 = 1 := rfl
theorem ixn_id {j : Int} (h : 0 ≤ j ∧ j < 2147483648) : ixn j = j.toNat := by unfold ixn; rw [w32_id (by omega)]
theorem ixn_nat {n : Nat} (h : n < 2147483648) : ixn (n : Int) = n := by rw [ixn_id (by omega)]; omega
theorem ixn_gI {S : Sto} {a i : Nat} : ixn (gI S a i) = (gI S a i).toNat := by unfold ixn; rw [w32_gI]
theorem bz_o1 (x : Int) : bz x = 0 ∨ bz x = 1 := by unfold bz; split; exact Or.inl rfl; exact Or.inr rfl
theorem bz_eq0 {x : Int} : bz x = 0 ↔ x = 0 := by
  unfold bz; split
  · rename_i h; exact ⟨fun _ => h, fun _ => rfl⟩
  · rename_i h; exact ⟨fun g => (nomatch g), fun g => absurd g h⟩
theorem bz_0 : bz 0 = 0 := rfl
theorem bz_1 : bz 1 = 1 := rfl
theorem w32_bz' (x : Int) : w32 (bz x) = bz x := w32_bz x
theorem bv_pos {v : BitVec 32} (h : v.toNat < 2147483648) : v.toInt = (v.toNat : Int) := BitVec.toInt_eq_toNat_of_lt (by omega)
theorem ofI_nat {a : Nat} (h : a < 4294967296) : (Int32.ofInt (a : Int)).toBitVec.toNat = a := by
  rw [Int32.toBitVec_ofInt, BitVec.ofInt_natCast, BitVec.toNat_ofNat]
  exact Nat.mod_eq_of_lt h
theorem ofI_toNat (x : Int) : (Int32.ofInt x).toBitVec.toNat = (x % 4294967296).toNat := by
  rw [Int32.toBitVec_ofInt, BitVec.toNat_ofInt]; rfl
theorem aAnd_nat {a b : Nat} (ha : a < 2147483648) (hb : b < 2147483648) : aAnd a b = ((a &&& b : Nat) : Int) := by
  unfold aAnd
  show (Int32.ofInt (a : Int) &&& Int32.ofInt (b : Int)).toBitVec.toInt = _
  have e : (Int32.ofInt (a : Int) &&& Int32.ofInt (b : Int)).toBitVec.toNat = (a &&& b : Nat) := by
    rw [Int32.toBitVec_and, BitVec.toNat_and, ofI_nat (by omega), ofI_nat (by omega)]
  rw [bv_pos (by rw [e]; have := @Nat.and_le_left a b; omega), e]
theorem or_lt {a b k : Nat} (ha : a < 2 ^ k) (hb : b < 2 ^ k) : a ||| b < 2 ^ k := Nat.or_lt_two_pow ha hb
theorem aOr_nat {a b : Nat} (ha : a < 2147483648) (hb : b < 2147483648) : aOr a b = ((a ||| b : Nat) : Int) := by
  unfold aOr
  show (Int32.ofInt (a : Int) ||| Int32.ofInt (b : Int)).toBitVec.toInt = _
  have e : (Int32.ofInt (a : Int) ||| Int32.ofInt (b : Int)).toBitVec.toNat = (a ||| b : Nat) := by
    rw [Int32.toBitVec_or, BitVec.toNat_or, ofI_nat (by omega), ofI_nat (by omega)]
  rw [bv_pos (by rw [e]; exact Nat.or_lt_two_pow (n := 31) ha hb), e]
theorem aXor_nat {a b : Nat} (ha : a < 2147483648) (hb : b < 2147483648) : aXor a b = ((a ^^^ b : Nat) : Int) := by
  unfold aXor
  show (Int32.ofInt (a : Int) ^^^ Int32.ofInt (b : Int)).toBitVec.toInt = _
  have e : (Int32.ofInt (a : Int) ^^^ Int32.ofInt (b : Int)).toBitVec.toNat = (a ^^^ b : Nat) := by
    rw [Int32.toBitVec_xor, BitVec.toNat_xor, ofI_nat (by omega), ofI_nat (by omega)]
  rw [bv_pos (by rw [e]; exact Nat.xor_lt_two_pow (n := 31) ha hb), e]
theorem sh_count : ∀ k : Fin 32, (Int32.ofInt (k.val : Int) &&& 31).toBitVec.smod 32 = BitVec.ofNat 32 k.val := by decide
theorem aShr_eq (x : Int) {k : Nat} (h : k < 32) : aShr x k = w32 x / 2 ^ k := by
  unfold aShr
  have e := sh_count ⟨k, h⟩
  show (BitVec.sshiftRight' (Int32.ofInt x).toBitVec ((Int32.ofInt (k : Int) &&& 31).toBitVec.smod 32)).toInt = _
  rw [e]
  show (BitVec.sshiftRight (Int32.ofInt x).toBitVec (BitVec.ofNat 32 k).toNat).toInt = _
  rw [BitVec.toInt_sshiftRight, BitVec.toNat_ofNat, Nat.mod_eq_of_lt (by omega), Int.shiftRight_eq_div_pow]
  rfl
theorem aShl_eq (x : Int) {k : Nat} (h : k < 32) : aShl x k = w32 (x * 2 ^ k) := by
  unfold aShl
  have e := sh_count ⟨k, h⟩
  show ((Int32.ofInt x).toBitVec <<< ((Int32.ofInt (k : Int) &&& 31).toBitVec.smod 32)).toInt = _
  rw [e]
  show ((Int32.ofInt x).toBitVec <<< (BitVec.ofNat 32 k).toNat).toInt = _
  rw [BitVec.toNat_ofNat, Nat.mod_eq_of_lt (by omega), BitVec.shiftLeft_eq_mul_twoPow]
  unfold w32
  rw [show ((Int32.ofInt x).toBitVec * BitVec.twoPow 32 k) = (Int32.ofInt (x * 2 ^ k)).toBitVec by
    rw [Int32.toBitVec_ofInt, Int32.toBitVec_ofInt, BitVec.ofInt_mul]
    congr 1
    apply BitVec.eq_of_toNat_eq
    rw [BitVec.toNat_twoPow, BitVec.toNat_ofInt]
    have : (2 ^ k : Int) = ((2 ^ k : Nat) : Int) := by norm_cast
    rw [this]
    norm_cast]
  rfl
theorem aShl_nat {a k : Nat} (h : k < 32) (ha : a * 2 ^ k < 2147483648) : aShl a k = ((a * 2 ^ k : Nat) : Int) := by
  rw [aShl_eq _ h]
  have : ((a : Int) * 2 ^ k) = ((a * 2 ^ k : Nat) : Int) := by norm_cast
  rw [this, w32_n ha]
theorem aShr_nat {a k : Nat} (h : k < 32) (ha : a < 2147483648) : aShr a k = ((a / 2 ^ k : Nat) : Int) := by
  rw [aShr_eq _ h, w32_n ha]
  norm_cast
theorem aAnd_mask (x : Int) {k : Nat} (hk : k ≤ 31) : aAnd x ((2 ^ k : Nat) - 1 : Int) = x % (2 ^ k : Nat) := by
  have h2 : 2 ^ k ≤ 2 ^ 31 := Nat.pow_le_pow_right (by omega) hk
  have h1 : 0 < 2 ^ k := Nat.two_pow_pos k
  have e0 : ((2 ^ k : Nat) - 1 : Int) = ((2 ^ k - 1 : Nat) : Int) := by omega
  rw [e0]
  unfold aAnd
  show (Int32.ofInt x &&& Int32.ofInt ((2 ^ k - 1 : Nat) : Int)).toBitVec.toInt = _
  have e : (Int32.ofInt x &&& Int32.ofInt ((2 ^ k - 1 : Nat) : Int)).toBitVec.toNat = (x % 4294967296).toNat % 2 ^ k := by
    rw [Int32.toBitVec_and, BitVec.toNat_and, ofI_toNat, ofI_nat (by omega), Nat.and_two_pow_sub_one_eq_mod]
  have hlt := Nat.mod_lt (x % 4294967296).toNat h1
  rw [bv_pos (by rw [e]; omega), e]
  have hd : (2 ^ k : Nat) ∣ 4294967296 := ⟨2 ^ (32 - k), by rw [← Nat.pow_add, show k + (32 - k) = 32 by omega]⟩
  have hnn : 0 ≤ x % 4294967296 := Int.emod_nonneg _ (by omega)
  rw [Int.natCast_emod, Int.toNat_of_nonneg hnn]
  exact Int.emod_emod_of_dvd x (Int.natCast_dvd_natCast.2 hd)
theorem aAnd_1 (x : Int) : aAnd x 1 = x % 2 := aAnd_mask x (k := 1) (by omega)
theorem aAnd_255 (x : Int) : aAnd x 255 = x % 256 := aAnd_mask x (k := 8) (by omega)
theorem aAnd_63 (x : Int) : aAnd x 63 = x % 64 := aAnd_mask x (k := 6) (by omega)
theorem aAnd_3 (x : Int) : aAnd x 3 = x % 4 := aAnd_mask x (k := 2) (by omega)
theorem aAnd_4095 (x : Int) : aAnd x 4095 = x % 4096 := aAnd_mask x (k := 12) (by omega)
theorem aAnd_1023 (x : Int) : aAnd x 1023 = x % 1024 := aAnd_mask x (k := 10) (by omega)
theorem aShr_1 (x : Int) : aShr x 1 = w32 x / 2 := aShr_eq x (k := 1) (by omega)
theorem aShr_6 (x : Int) : aShr x 6 = w32 x / 64 := aShr_eq x (k := 6) (by omega)
theorem xor1_nat (a : Nat) : a ^^^ 1 = if a % 2 = 0 then a + 1 else a - 1 := by
  apply Nat.eq_of_testBit_eq
  intro i
  rw [Nat.testBit_xor]
  cases i with
  | zero =>
    rw [Nat.testBit_zero, Nat.testBit_zero, Nat.testBit_zero]
    by_cases h : a % 2 = 0
    · rw [if_pos h, h, show (a + 1) % 2 = 1 by omega]; rfl
    · rw [if_neg h, show a % 2 = 1 by omega, show (a - 1) % 2 = 0 by omega]; rfl
  | succ i =>
    rw [Nat.testBit_succ, Nat.testBit_succ, Nat.testBit_succ]
    have h1 : (1 : Nat) / 2 = 0 := rfl
    rw [h1, Nat.zero_testBit, Bool.xor_false]
    congr 1
    split <;> omega
theorem aXor_1 {x : Int} (h : 0 ≤ x ∧ x < 2147483648) : aXor x 1 = if x % 2 = 0 then x + 1 else x - 1 := by
  have e : x = ((x.toNat : Nat) : Int) := by omega
  have h1 : aXor ((x.toNat : Nat) : Int) ((1 : Nat) : Int) = ((x.toNat ^^^ 1 : Nat) : Int) := aXor_nat (by omega) (by omega)
  rw [← e] at h1
  rw [show (1 : Int) = ((1 : Nat) : Int) from rfl, h1, xor1_nat]
  split <;> split <;> omega
theorem aXor_comm (x y : Int) : aXor x y = aXor y x := by unfold aXor; rw [Int32.xor_comm]
theorem aAnd_comm (x y : Int) : aAnd x y = aAnd y x := by unfold aAnd; rw [Int32.and_comm]
theorem aOr_comm (x y : Int) : aOr x y = aOr y x := by unfold aOr; rw [Int32.or_comm]
theorem aRng {x : Int32} : -2147483648 ≤ x.toInt ∧ x.toInt < 2147483648 := by
  have h1 : -2147483648 ≤ _ := Int32.minValue_le_toInt x
  have h2 := Int32.toInt_lt x
  exact ⟨h1, by omega⟩
theorem w32_toInt (x : Int32) : w32 x.toInt = x.toInt := w32_id aRng
theorem w32_aAnd (x y : Int) : w32 (aAnd x y) = aAnd x y := w32_toInt _
theorem w32_aOr (x y : Int) : w32 (aOr x y) = aOr x y := w32_toInt _
theorem w32_aXor (x y : Int) : w32 (aXor x y) = aXor x y := w32_toInt _
theorem w32_aShl (x y : Int) : w32 (aShl x y) = aShl x y := w32_toInt _
theorem w32_aShr (x y : Int) : w32 (aShr x y) = aShr x y := w32_toInt _
theorem w32_w8 (x : Int) : w32 (w8 x) = w8 x := w32_toInt _
theorem w32_w16 (x : Int) : w32 (w16 x) = w16 x := w32_toInt _
theorem w8_rng (x : Int) : -128 ≤ w8 x ∧ w8 x < 128 := by
  unfold w8
  rw [Int8.toInt_toInt32]
  have h1 : -128 ≤ _ := Int8.minValue_le_toInt (Int32.ofInt x).toInt8
  have h2 := Int8.toInt_lt (Int32.ofInt x).toInt8
  exact ⟨h1, by omega⟩
theorem w8_id {x : Int} (h : -128 ≤ x ∧ x < 128) : w8 x = x := by
  unfold w8
  rw [Int8.toInt_toInt32, Int32.toInt_toInt8, Int32.toInt_ofInt]
  show Int.bmod (Int.bmod x 4294967296) 256 = x
  rw [Int.bmod_def, Int.bmod_def]
  split <;> split <;> omega
theorem w16_id {x : Int} (h : -32768 ≤ x ∧ x < 32768) : w16 x = x := by
  unfold w16
  rw [Int16.toInt_toInt32, Int32.toInt_toInt16, Int32.toInt_ofInt]
  show Int.bmod (Int.bmod x 4294967296) 65536 = x
  rw [Int.bmod_def, Int.bmod_def]
  split <;> split <;> omega
theorem aDiv_nn {x y : Int} (hx : 0 ≤ x ∧ x < 2147483648) (hy : 0 < y ∧ y < 2147483648) : aDiv x y = x / y := by
  unfold aDiv
  rw [Int32.toInt_div]
  have ex : (Int32.ofInt x).toInt = x := w32_id (by omega)
  have ey : (Int32.ofInt y).toInt = y := w32_id (by omega)
  rw [ex, ey, Int.tdiv_eq_ediv_of_nonneg hx.1]
  have h1 : 0 ≤ x / y := Int.ediv_nonneg hx.1 (by omega)
  have h2 : x / y ≤ x := Int.ediv_le_self y hx.1
  rw [Int.bmod_def]
  split <;> omega
theorem aRem_nn {x y : Int} (hx : 0 ≤ x ∧ x < 2147483648) (hy : 0 < y ∧ y < 2147483648) : aRem x y = x % y := by
  unfold aRem
  have e : (Int32.ofInt x / Int32.ofInt y) = Int32.ofInt (x / y) := by
    apply Int32.toInt_inj.1
    have h := aDiv_nn hx hy
    unfold aDiv at h
    rw [h]
    have h1 : 0 ≤ x / y := Int.ediv_nonneg hx.1 (by omega)
    have h2 : x / y ≤ x := Int.ediv_le_self y hx.1
    exact (w32_id (by omega)).symm
  rw [e, ← Int32.ofInt_mul, ← Int32.ofInt_sub]
  have h3 : x - x / y * y = x % y := by rw [Int.emod_def, Int.mul_comm]
  rw [h3]
  have h4 : 0 ≤ x % y := Int.emod_nonneg _ (by omega)
  have h5 : x % y < y := Int.emod_lt_of_pos _ hy.1
  exact w32_id (by omega)
theorem w1_o1 {x : Int} (h : x = 0 ∨ x = 1) : w1 x = x := by rcases h with rfl | rfl <;> rfl
