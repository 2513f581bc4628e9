/-! the reference's suspects -/
section MSUS
variable {S : Sto} {k : Nat} {C : Chp}
def anyS (C : Chp) (set : Nat → Int) (f : Nat) : Nat → Bool
  | 0 => false
  | n + 1 => anyS C set f n || kShow C f (set n).toNat
def allS (C : Chp) (set : Nat → Int) (fl : Nat → Bool) (f : Nat) : Nat → Bool
  | 0 => true
  | n + 1 => allS C set fl f n && (kShow C f (set n).toNat == fl n)
theorem b2i_inj {a b : Bool} : (b2i a = b2i b) = (a = b) := by cases a <;> cases b <;> simp [b2i]
theorem m_isSuspect (w : WFC C) (hk : k < 4) {set : Nat → Int} {fl : Nat → Bool} {n f : Nat} (h : MSet S k C set n) (hf : f < kFa C) (hF : ∀ i, i < n → gI S 2174 (1280 * k + i) = b2i (fl i)) :
    mX23_isSuspect S (k : Int) (f : Int) = some (b2i (anyS C set f n && allS C set fl f n)) := by
  have hn := h.2.1
  unfold mX23_isSuspect
  have key : WP (lpF (mX23_isSuspect_L8 S (k : Int) (f : Int)) (0, 1, 0)) (fun z => z.1 = b2i (anyS C set f n) ∧ z.2 = b2i (allS C set fl f n)) := by
    refine WP_cnt n (fun i z => z.2.2 = (i : Int) ∧ z.1 = b2i (anyS C set f i) ∧ z.2.1 = b2i (allS C set fl f i)) (by unfold cFU; omega) ⟨rfl, rfl, rfl⟩ (fun i z hi hI => ?_) (fun z hI => ?_)
    · obtain ⟨b1, b2, b3⟩ := hI
      have zt : (1280 * (k : Int) + (i : Int)).toNat = 1280 * k + i := by omega
      unfold mX23_isSuspect_L8
      rw [rdI_e (by omega), Int.toNat_natCast, h.1, b1, w32_id (by omega), w32_id (by omega), if_pos (by omega), m_isShown w hk h hi hf, bX_some, b2, b3, w32_b2i, w32_b2i, w32_b2i]
      refine WP_call (R := fun y => y = b2i (anyS C set f i || kShow C f (set i).toNat)) ?_ (fun y4 h4 => ?_)
      · cases anyS C set f i <;> cases kShow C f (set i).toNat <;> exact WP_some.2 rfl
      refine WP_call (R := fun y => y = b2i (allS C set fl f i && (kShow C f (set i).toNat == fl i))) ?_ (fun y6 h6 => ?_)
      · rw [rdZ_e (by omega), zt, hF i hi, bz_b2i, w32_b2i]
        cases allS C set fl f i <;> cases kShow C f (set i).toNat <;> cases fl i <;> exact WP_some.2 rfl
      exact WP_some.2 ⟨by show (i : Int) + 1 = _; omega, h4, h6⟩
    · obtain ⟨b1, b2, b3⟩ := hI
      unfold mX23_isSuspect_L8
      rw [rdI_e (by omega), Int.toNat_natCast, h.1, b1, w32_id (by omega), if_neg (by omega)]
      exact WP_some.2 ⟨b2, b3⟩
  obtain ⟨z, gz, z1, z2⟩ := key
  rw [gz, bX_some, z1, z2, w32_b2i, w32_b2i]
  cases anyS C set f n <;> cases allS C set fl f n <;> rfl
end MSUS
