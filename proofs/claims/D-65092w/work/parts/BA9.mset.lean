/-! the reference's set of tests: which show a fault, how many, who is suspect -/
section MSET
variable {S : Sto} {k : Nat} {C : Chp}
/-- how many of the first n patterns of a set show a fault -/
def cntS (C : Chp) (set : Nat → Int) (f : Nat) : Nat → Nat
  | 0 => 0
  | n + 1 => cntS C set f n + if kShow C f (set n).toNat = true then 1 else 0
/-- n patterns laid out in the reference's tables -/
def MSet (S : Sto) (k : Nat) (C : Chp) (set : Nat → Int) (n : Nat) : Prop := gI S 2172 k = (n : Int) ∧ n ≤ 1224 ∧ (∀ i, i < n → gI S 2173 (1280 * k + i) = set i) ∧
  ∀ i f, i < n → f < kFa C → tb (gL S 2175 (20 * (1280 * k + i) + f / 64)) (f % 64) = kShow C f (set i).toNat
theorem cntS_le {set : Nat → Int} {f n : Nat} : cntS C set f n ≤ n := by
  induction n with
  | zero => exact Nat.le_refl _
  | succ n ih => show cntS C set f n + (if kShow C f (set n).toNat = true then 1 else 0) ≤ _; split <;> omega
theorem m_isShown (w : WFC C) (hk : k < 4) {set : Nat → Int} {n i f : Nat} (h : MSet S k C set n) (hi : i < n) (hf : f < kFa C) : mX23_isShown S (k : Int) (i : Int) (f : Int) = some (b2i (kShow C f (set i).toNat)) := by
  have fa := kFa_le w
  have s6 : aShr (f : Int) 6 = ((f / 64 : Nat) : Int) := by rw [aShr_6, w32_id (by omega)]; omega
  have s63 : aAnd (f : Int) 63 = ((f % 64 : Nat) : Int) := by rw [aAnd_63]; omega
  have zt : (20 * (1280 * (k : Int) + (i : Int)) + ((f / 64 : Nat) : Int)).toNat = 20 * (1280 * k + i) + f / 64 := by omega
  have q := ush_is1 (x := gL S 2175 (20 * (1280 * k + i) + f / 64)) (k := f % 64) (by omega)
  rw [h.2.2.2 i f hi hf] at q
  have hn := h.2.1
  unfold mX23_isShown
  rw [s6, s63, rdL_e (by omega), zt]
  cases e : kShow C f (set i).toNat with
  | true => rw [e] at q; rw [if_pos (by rw [q])]; rfl
  | false => rw [e] at q; rw [if_neg (by rw [q]; decide)]; rfl
theorem m_manyShow (w : WFC C) (hk : k < 4) {set : Nat → Int} {n f : Nat} (h : MSet S k C set n) (hf : f < kFa C) : mX23_manyShow S (k : Int) (f : Int) = some (cntS C set f n : Int) := by
  have hn := h.2.1
  unfold mX23_manyShow
  have key : WP (lpF (mX23_manyShow_L5 S (k : Int) (f : Int)) (0, 0)) (fun z => z = (cntS C set f n : Int)) := by
    refine WP_cnt n (fun i z => z.2 = (i : Int) ∧ z.1 = (cntS C set f i : Int)) (by unfold cFU; omega) ⟨rfl, rfl⟩ (fun i z hi hI => ?_) (fun z hI => ?_)
    · obtain ⟨b1, b2⟩ := hI
      have eC : cntS C set f (i + 1) = cntS C set f i + if kShow C f (set i).toNat = true then 1 else 0 := rfl
      unfold mX23_manyShow_L5
      rw [rdI_e (by omega), Int.toNat_natCast, h.1, b1, w32_id (by omega), w32_id (by omega), if_pos (by omega), m_isShown w hk h hi hf, bX_some, w32_b2i]
      cases e : kShow C f (set i).toNat with
      | true =>
        rw [e, if_pos rfl] at eC
        rw [if_pos (by decide)]
        exact WP_some.2 ⟨by show (i : Int) + 1 = _; omega, by show z.1 + 1 = _; omega⟩
      | false =>
        rw [e, if_neg (by decide)] at eC
        rw [if_neg (by decide)]
        exact WP_some.2 ⟨by show (i : Int) + 1 = _; omega, by show z.1 + 0 = _; omega⟩
    · obtain ⟨b1, b2⟩ := hI
      unfold mX23_manyShow_L5
      rw [rdI_e (by omega), Int.toNat_natCast, h.1, b1, w32_id (by omega), if_neg (by omega)]
      exact WP_some.2 b2
  rw [key.of, bX_some]
end MSET
