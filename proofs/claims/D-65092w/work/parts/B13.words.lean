/-! shifts of words -/
theorem shl_count : ∀ k : Fin 64, ((Int32.ofInt (k.val : Int)).toInt64 &&& 63).toBitVec.smod 64 = BitVec.ofNat 64 k.val := by decide
theorem shu_count : ∀ k : Fin 64, ((Int32.ofInt (k.val : Int)).toInt64.toUInt64 &&& Int64.toUInt64 63).toBitVec.toNat % 64 = k.val := by decide
theorem tb_shl {x : Int64} {k i : Nat} (hk : k < 64) : tb (lShl x (k : Int)) i = (decide (i < 64) && !decide (i < k) && tb x (i - k)) := by
  unfold lShl tb
  show (x.toBitVec <<< (((Int32.ofInt (k : Int)).toInt64 &&& 63).toBitVec.smod 64)).getLsbD i = _
  rw [shl_count ⟨k, hk⟩]
  show (x.toBitVec <<< (BitVec.ofNat 64 k).toNat).getLsbD i = _
  rw [BitVec.toNat_ofNat, Nat.mod_eq_of_lt (by omega), BitVec.getLsbD_shiftLeft]
theorem tb_shr0 {x : Int64} {k : Nat} (hk : k < 64) : tb (lShr x (k : Int)) 0 = tb x k := by
  unfold lShr tb
  show (BitVec.sshiftRight' x.toBitVec (((Int32.ofInt (k : Int)).toInt64 &&& 63).toBitVec.smod 64)).getLsbD 0 = _
  rw [shl_count ⟨k, hk⟩]
  show (BitVec.sshiftRight x.toBitVec (BitVec.ofNat 64 k).toNat).getLsbD 0 = _
  rw [BitVec.toNat_ofNat, Nat.mod_eq_of_lt (by omega), BitVec.getLsbD_sshiftRight]
  simp [hk]
theorem tb_ush {x : Int64} {k i : Nat} (hk : k < 64) : tb (lUsh x (k : Int)) i = tb x (k + i) := by
  unfold lUsh tb
  show (x.toUInt64 >>> ((Int32.ofInt (k : Int)).toInt64.toUInt64 &&& Int64.toUInt64 63)).toBitVec.getLsbD i = _
  rw [UInt64.toBitVec_shiftRight]
  show (x.toBitVec >>> (((Int32.ofInt (k : Int)).toInt64.toUInt64 &&& Int64.toUInt64 63).toBitVec % 64)).getLsbD i = _
  have e := shu_count ⟨k, hk⟩
  have e2 : (((Int32.ofInt (k : Int)).toInt64.toUInt64 &&& Int64.toUInt64 63).toBitVec % 64) = BitVec.ofNat 64 k := by
    apply BitVec.eq_of_toNat_eq
    rw [BitVec.toNat_umod, BitVec.toNat_ofNat, Nat.mod_eq_of_lt (show k < 2 ^ 64 by omega)]
    exact e
  rw [e2]
  show (x.toBitVec >>> (BitVec.ofNat 64 k).toNat).getLsbD i = _
  rw [BitVec.toNat_ofNat, Nat.mod_eq_of_lt (by omega), BitVec.getLsbD_ushiftRight]
theorem and1_cases (x : Int64) : x &&& 1 = if tb x 0 = true then 1 else 0 := by
  apply tb_ext
  intro i hi
  rw [tb_and]
  have h1 : tb 1 i = decide (i = 0) := by
    show (1#64).getLsbD i = _
    rw [BitVec.getLsbD_one]; simp
  rw [h1]
  by_cases e : i = 0
  · subst e
    cases tb x 0 <;> simp
    · exact tb_0
    · exact h1.symm
  · cases tb x 0 with
    | true => rw [if_pos rfl, h1]; simp [e]
    | false => rw [if_neg (by decide), tb_0]; simp [e]
theorem l2i_ush {x : Int64} {k : Nat} (hk : k < 64) : l2i (lUsh x (k : Int) &&& 1) = b2i (tb x k) := by
  rw [and1_cases, tb_ush hk, Nat.add_zero]
  cases tb x k <;> rfl
theorem l2i_shr {x : Int64} {k : Nat} (hk : k < 64) : l2i (lShr x (k : Int) &&& 1) = b2i (tb x k) := by
  rw [and1_cases, tb_shr0 hk]
  cases tb x k <;> rfl
theorem shr_is1 {x : Int64} {k : Nat} (hk : k < 64) : (w32 (lCmp (lShr x (k : Int) &&& 1) 1) = 0) = (tb x k = true) := by
  rw [and1_cases, tb_shr0 hk]
  cases tb x k
  · exact propext ⟨fun h => absurd h (by decide), fun h => absurd h (by decide)⟩
  · exact propext ⟨fun _ => rfl, fun _ => by decide⟩
theorem ush_is1 {x : Int64} {k : Nat} (hk : k < 64) : (w32 (lCmp (lUsh x (k : Int) &&& 1) 1) = 0) = (tb x k = true) := by
  rw [and1_cases, tb_ush hk, Nat.add_zero]
  cases tb x k
  · exact propext ⟨fun h => absurd h (by decide), fun h => absurd h (by decide)⟩
  · exact propext ⟨fun _ => rfl, fun _ => by decide⟩
theorem lCmp_eq0 {x y : Int64} : (w32 (lCmp x y) = 0) = (x = y) := by
  unfold lCmp lg_cmp
  by_cases h : x > y
  · rw [if_pos h]
    refine propext ⟨fun h => absurd h (by decide), fun e => ?_⟩
    subst e
    exact absurd h (Int64.lt_irrefl)
  · rw [if_neg h]
    by_cases e : x = y
    · rw [if_pos e]; exact propext ⟨fun _ => e, fun _ => by decide⟩
    · rw [if_neg e]; exact propext ⟨fun h => absurd h (by decide), fun h => absurd h e⟩
section MRUN
variable {S : Sto} {k : Nat} {C : Chp}
theorem m_bitOfNet {b : Nat → Bool} {n : Int} {i : Nat} (hi : i < 64) (hn : -2 ≤ n ∧ n < 256) (hv : 0 ≤ n → tb (gL S 2121 n.toNat) i = b n.toNat) : mX23_bitOfNet S n (i : Int) = some (b2i (if n < 0 then decide (n = -2) else b n.toNat)) := by
  unfold mX23_bitOfNet
  rw [w32_id (by omega)]
  by_cases h1 : n = -1
  · subst h1; rfl
  · rw [if_neg h1]
    by_cases h2 : n = -2
    · subst h2; rfl
    · rw [if_neg h2, rdL_e (by omega), bX_some, l2i_ush hi, hv (by omega), if_neg (by omega)]
end MRUN
