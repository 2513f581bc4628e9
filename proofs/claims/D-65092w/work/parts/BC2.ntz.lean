/-! the lowest bit of a word -/
def ntzB (y : Int) : Option Int := if w32 y ≤ 0 then some (aAnd y 32) else bX (if 65536 < w32 y then some (aUsh y 16, 1 + 16) else some (y, 1)) fun y1 => bX (if 256 < w32 y1.1 then some (aUsh y1.1 8, y1.2 + 8) else some (y1.1, y1.2)) fun y2 => bX (if 16 < w32 y2.1 then some (aUsh y2.1 4, y2.2 + 4) else some (y2.1, y2.2)) fun y3 => bX (if 4 < w32 y3.1 then some (aUsh y3.1 2, y3.2 + 2) else some (y3.1, y3.2)) fun y4 => some (y4.2 + (aUsh y4.1 1))
theorem ntzB_e : ∀ t : Fin 32, ntzB ((2 ^ t.val - 1 : Nat) : Int) = some (t.val : Int) := by decide
theorem ofI_toInt (x : Int32) : Int32.ofInt x.toInt = x := Int32.ofInt_toInt x
/-- bits below the lowest one -/
theorem low_split {P t : Nat} (h1 : P.testBit t = true) (h2 : ∀ i, i < t → P.testBit i = false) : P = 2 ^ (t + 1) * (P / 2 ^ (t + 1)) + 2 ^ t := by
  have e : P % 2 ^ (t + 1) = 2 ^ t := by
    apply Nat.eq_of_testBit_eq
    intro i
    rw [Nat.testBit_mod_two_pow, Nat.testBit_two_pow]
    by_cases q : i < t
    · rw [h2 i q, Bool.and_false, decide_eq_false (by omega)]
    · by_cases l : i = t
      · subst l; rw [h1, decide_eq_true (show i < i + 1 by omega), decide_eq_true rfl]; rfl
      · rw [decide_eq_false (show ¬ i < t + 1 by omega), decide_eq_false (show ¬ t = i by omega)]; rfl
  have d := Nat.div_add_mod P (2 ^ (t + 1))
  rw [e] at d
  exact d.symm
theorem pred_bits {P t : Nat} (h1 : P.testBit t = true) (h2 : ∀ i, i < t → P.testBit i = false) (i : Nat) : (P - 1).testBit i = if i < t then true else if i = t then false else P.testBit i := by
  have p0 := Nat.two_pow_pos t
  have lt : 2 ^ t < 2 ^ (t + 1) := by rw [Nat.pow_succ]; omega
  have s := low_split h1 h2
  have s2 : P - 1 = 2 ^ (t + 1) * (P / 2 ^ (t + 1)) + (2 ^ t - 1) := by omega
  have a : (P - 1).testBit i = if i < t + 1 then (2 ^ t - 1).testBit i else (P / 2 ^ (t + 1)).testBit (i - (t + 1)) := by
    rw [s2]; exact Nat.testBit_two_pow_mul_add _ (by omega) _
  have b : P.testBit i = if i < t + 1 then (2 ^ t).testBit i else (P / 2 ^ (t + 1)).testBit (i - (t + 1)) := by
    have := Nat.testBit_two_pow_mul_add (P / 2 ^ (t + 1)) lt i
    rw [← s] at this; exact this
  rw [a]
  by_cases q : i < t
  · rw [if_pos q, if_pos (by omega), Nat.testBit_two_pow_sub_one, decide_eq_true q]
  · rw [if_neg q]
    by_cases l : i = t
    · rw [if_pos l, if_pos (by omega), Nat.testBit_two_pow_sub_one, decide_eq_false q]
    · rw [if_neg l, if_neg (by omega), b, if_neg (by omega)]
theorem ntz32 {p : Int} {t : Nat} (ht : t < 32) (h1 : (Int32.ofInt p).toBitVec.toNat.testBit t = true) (h2 : ∀ i, i < t → (Int32.ofInt p).toBitVec.toNat.testBit i = false) : mJ14_numberOfTrailingZeros p = some (t : Int) := by
  have key : aAnd (aXor p (-1)) (p - 1) = ((2 ^ t - 1 : Nat) : Int) := by
    obtain ⟨P, hP⟩ : ∃ P, (Int32.ofInt p).toBitVec.toNat = P := ⟨_, rfl⟩
    rw [hP] at h1 h2
    have hP32 : P < 4294967296 := by rw [← hP]; exact (Int32.ofInt p).toBitVec.isLt
    have hp0 : P ≠ 0 := fun e => by rw [e, Nat.zero_testBit] at h1; exact absurd h1 (by decide)
    have eP : (p % 4294967296).toNat = P := by rw [← ofI_toNat, hP]
    have e1 : (Int32.ofInt (p - 1)).toBitVec.toNat = P - 1 := by rw [ofI_toNat]; omega
    have e2 : ∀ i, (Int32.ofInt (aXor p (-1))).toBitVec.toNat.testBit i = (P.testBit i ^^ decide (i < 32)) := fun i => by
      unfold aXor
      rw [ofI_toInt, Int32.toBitVec_xor, BitVec.toNat_xor, Nat.testBit_xor, hP]
      have : (Int32.ofInt (-1)).toBitVec.toNat = 2 ^ 32 - 1 := by decide
      rw [this, Nat.testBit_two_pow_sub_one]
    have e3 : (Int32.ofInt (aXor p (-1)) &&& Int32.ofInt (p - 1)).toBitVec.toNat = 2 ^ t - 1 := by
      apply Nat.eq_of_testBit_eq
      intro i
      rw [Int32.toBitVec_and, BitVec.toNat_and, Nat.testBit_and, e2, e1, pred_bits h1 h2, Nat.testBit_two_pow_sub_one]
      by_cases q : i < t
      · rw [if_pos q, h2 i q, decide_eq_true (show i < 32 by omega), decide_eq_true q]; rfl
      · rw [if_neg q, decide_eq_false q]
        by_cases l : i = t
        · rw [if_pos l, Bool.and_false]
        · rw [if_neg l]
          by_cases m : i < 32
          · rw [decide_eq_true m]; cases P.testBit i <;> rfl
          · have z : P.testBit i = false := Nat.testBit_lt_two_pow (Nat.lt_of_lt_of_le hP32 (Nat.pow_le_pow_right (n := 2) (by omega) (show 32 ≤ i by omega)))
            rw [z, Bool.and_false]
    have b : 2 ^ t ≤ 2 ^ 31 := Nat.pow_le_pow_right (by omega) (by omega)
    have p0 := Nat.two_pow_pos t
    show (Int32.ofInt (aXor p (-1)) &&& Int32.ofInt (p - 1)).toBitVec.toInt = _
    rw [bv_pos (by rw [e3]; omega), e3]
  have e : mJ14_numberOfTrailingZeros p = ntzB (aAnd (aXor p (-1)) (p - 1)) := rfl
  rw [e, key]
  exact ntzB_e ⟨t, ht⟩
theorem l2i_bit {x : Int64} {i : Nat} (hi : i < 32) : (Int32.ofInt (l2i x)).toBitVec.toNat.testBit i = tb x i := by
  unfold l2i tb
  rw [ofI_toInt, Int64.toBitVec_toInt32, BitVec.testBit_toNat, BitVec.getLsbD_signExtend, decide_eq_true hi, if_pos (by omega)]
  rfl
theorem l2i_0 {x : Int64} (h : ∀ i, i < 32 → tb x i = false) : l2i x = 0 := by
  have e : (Int32.ofInt (l2i x)) = Int32.ofInt 0 := by
    apply Int32.toBitVec_inj.1
    apply BitVec.eq_of_toNat_eq
    apply Nat.eq_of_testBit_eq
    intro i
    by_cases q : i < 32
    · rw [l2i_bit q, h i q]
      have : (Int32.ofInt 0).toBitVec.toNat = 0 := by decide
      rw [this, Nat.zero_testBit]
    · have a : ∀ y : Int32, y.toBitVec.toNat.testBit i = false := fun y => Nat.testBit_lt_two_pow (Nat.lt_of_lt_of_le y.toBitVec.isLt (Nat.pow_le_pow_right (n := 2) (by omega) (show 32 ≤ i by omega)))
      rw [a, a]
  unfold l2i at e ⊢
  rw [ofI_toInt] at e
  rw [e]; rfl
theorem ntz64 {x : Int64} {t : Nat} (ht : t < 64) (h1 : tb x t = true) (h2 : ∀ i, i < t → tb x i = false) : mJ13_numberOfTrailingZeros x = some (t : Int) := by
  unfold mJ13_numberOfTrailingZeros
  by_cases q : 32 ≤ t
  · rw [l2i_0 (fun i hi => h2 i (by omega)), if_pos (by decide), ntz32 (t := t - 32) (by omega) (by rw [l2i_bit (by omega), show lUsh x 32 = lUsh x ((32 : Nat) : Int) from rfl, tb_ush (by omega), show 32 + (t - 32) = t by omega]; exact h1) (fun i hi => by rw [l2i_bit (by omega), show lUsh x 32 = lUsh x ((32 : Nat) : Int) from rfl, tb_ush (by omega)]; exact h2 _ (by omega)), bX_some, bX_some]
    congr 1; omega
  · have ne : ¬ w32 (l2i x) = 0 := fun e => by
      have a := l2i_bit (x := x) (i := t) (by omega)
      have e' : l2i x = 0 := by unfold l2i at e ⊢; rw [w32_toInt] at e; exact e
      rw [h1, e'] at a
      have : (Int32.ofInt 0).toBitVec.toNat = 0 := by decide
      rw [this, Nat.zero_testBit] at a
      exact absurd a (by decide)
    rw [if_neg ne, ntz32 (t := t) (by omega) (by rw [l2i_bit (by omega)]; exact h1) (fun i hi => by rw [l2i_bit (by omega)]; exact h2 i hi), bX_some, bX_some]
section KLEAST
variable {S : Sto} {k : Nat} {C : Chp}
theorem k_leastOf (hk : k < 4) (w : WFC C) (h : KFl S k C) {f : Nat} (hf : f < 1224) (hR : KRw S k C f) : mX19_leastOf S (f : Int) = some (kLeast C f) := by
  have hn := w.nums
  have kw := kWds_rng w
  refine WP.of ?_
  unfold mX19_leastOf
  refine WP_bE.2 ?_
  refine WP_cnt (kWds C) (fun n z => z = (n : Int) ∧ ∀ p, p < 64 * n → p < 2 ^ kB C → kShow C f p = false) (by unfold cFU; omega) ⟨rfl, fun p hp => absurd hp (by omega)⟩ (fun n z hn' hI => ?_) (fun z hI => ?_)
  · obtain ⟨b1, b3⟩ := hI
    subst b1
    have zt : (64 * (f : Int) + (n : Int)).toNat = 64 * f + n := by omega
    have h8 := fun i hi => hR n i hn' hi
    unfold mX19_leastOf_L2
    rw [h.2.1, w32_id (by omega), w32_id (by omega), if_pos (by omega), h.1, gk_chip hk, rdL_e (by omega), zt]
    generalize gL S (344 + 22 * k + 21) (64 * f + n) = x at *
    by_cases q : x = 0
    · have q' : w32 (lCmp x 0) = 0 := by rw [lCmp_eq0]; exact q
      rw [if_neg (fun g => g q')]
      refine WP_some.2 ⟨by show (n : Int) + 1 = _; omega, fun p hp hp2 => ?_⟩
      by_cases l : p < 64 * n
      · exact b3 p l hp2
      · have t := h8 (p - 64 * n) (by omega)
        rw [q, tb_0, show 64 * n + (p - 64 * n) = p by omega] at t
        have msk : kMsk C (p - 64 * n) = true := by
          unfold kMsk; rw [decide_eq_true (show p - 64 * n < 2 ^ kB C by omega), Bool.or_true]
        rw [msk, Bool.and_true] at t
        exact t.symm
    · obtain ⟨m, m1, m2, m3⟩ := tb_ne0 q
      have q' : ¬ w32 (lCmp x 0) = 0 := by rw [lCmp_eq0]; exact q
      rw [if_pos q', ntz64 m1 m2 m3, bX_some]
      have t := h8 m m1
      rw [m2] at t
      have t := t.symm
      rw [Bool.and_eq_true] at t
      have inn := kWds_in hn' m1 t.2
      refine WP_some.2 ?_
      show 64 * (n : Int) + (m : Int) = kLeast C f
      unfold kLeast
      rw [leastN_at inn t.1 (fun i hi => ?_)]
      · omega
      · by_cases l : i < 64 * n
        · exact b3 i l (by omega)
        · have s := h8 (i - 64 * n) (by omega)
          rw [m3 _ (by omega), show 64 * n + (i - 64 * n) = i by omega] at s
          have msk : kMsk C (i - 64 * n) = true := by
            unfold kMsk; rw [decide_eq_true (show i - 64 * n < 2 ^ kB C by omega), Bool.or_true]
          rw [msk, Bool.and_true] at s
          exact s.symm
  · obtain ⟨b1, b3⟩ := hI
    subst b1
    unfold mX19_leastOf_L2
    rw [h.2.1, w32_id (by omega), if_neg (by omega)]
    refine WP_some.2 (WP_some.2 ?_)
    show (-1 : Int) = kLeast C f
    have := kWds_le (C := C)
    unfold kLeast
    rw [leastN_none (fun i hi => b3 i (by omega) hi)]
end KLEAST
