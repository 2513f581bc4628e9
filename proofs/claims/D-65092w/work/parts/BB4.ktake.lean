/-! a pattern taken out of the class's set -/
section KTK
variable {S : Sto} {k : Nat} {C : Chp}
def cutS (set : Nat → Int) (d i : Nat) : Int := if i < d then set i else set (i + 1)
theorem k_take19 (hk : k < 4) {set : Nat → Int} {n d : Nat} (hR : gR S 264 0 = 344 + 22 * k) (g : KSet S k C set n) (hd : d < n) (hs : ∀ i, i < n → i32 (set i)) : WP (mX19_take S (d : Int)) (fun z => KSet z k C (cutS set d) (n - 1)) := by
  have n12 := g.2.1
  unfold mX19_take
  rw [hR, gk_chip hk, wf_eq, g.1]
  refine WP_call (R := fun z => KSet z k C (cutS set d) (n - 1)) ?_ (fun z hz => WP_some.2 hz)
  refine WP_cnt (n - 1 - d) (fun j z => z.1 = ((d + j : Nat) : Int) ∧ gR z.2 264 0 = 344 + 22 * k ∧ gI z.2 (344 + 22 * k) 25 = ((n - 1 : Nat) : Int) ∧ ∀ i, i < n → gI z.2 (344 + 22 * k + 18) i = if i < d + j then cutS set d i else set i) (by unfold cFU; omega) ⟨rfl, hR, by rw [gI_set, w32_id (by omega)]; omega, fun i hi => ?_⟩ (fun j z hj hI => ?_) (fun z hI => ?_)
  · dsimp only
    rw [hI_sI_a (by omega), (g.2.2 i hi).1]
    unfold cutS
    by_cases q : i < d
    · rw [if_pos (by omega), if_pos q]
    · rw [if_neg (by omega)]
  · obtain ⟨b1, b2, b3, b4⟩ := hI
    have zt : (((d + j : Nat) : Int) + 1).toNat = d + j + 1 := by omega
    have e := b4 (d + j + 1) (by omega)
    rw [if_neg (by omega)] at e
    have h32 := hs (d + j + 1) (by omega)
    unfold i32 at h32
    unfold mX19_take_L15
    rw [b2, gk_chip hk, b3, b1, w32_id (by omega), w32_id (by omega), if_pos (by omega), gk_chip hk, gk_chip hk, rdI_e (by omega), zt, e, wrI_e (by omega), Int.toNat_natCast]
    refine WP_some.2 ⟨by show ((d + j : Nat) : Int) + 1 = _; omega, by rw [gR_sI]; exact b2, ?_, fun i hi => ?_⟩
    · dsimp only; rw [hI_sI_a (by omega)]; exact b3
    · dsimp only
      by_cases q : i = d + j
      · subst q
        rw [gI_set, w32_id h32, if_pos (by omega)]
        unfold cutS
        rw [if_neg (by omega)]
      · rw [hI_sI_i q, b4 i hi]
        by_cases l : i < d + j
        · rw [if_pos l, if_pos (by omega)]
        · rw [if_neg l, if_neg (by omega)]
  · obtain ⟨b1, b2, b3, b4⟩ := hI
    unfold mX19_take_L15
    rw [b2, gk_chip hk, b3, b1, w32_id (by omega), w32_id (by omega), if_neg (by omega)]
    refine WP_some.2 ⟨b3, by omega, fun i hi => ?_⟩
    rw [b4 i (by omega), if_pos (by omega)]
    refine ⟨rfl, ?_⟩
    unfold cutS
    by_cases q : i < d
    · rw [if_pos q]; exact (g.2.2 i (by omega)).2
    · rw [if_neg q]; exact (g.2.2 (i + 1) (by omega)).2
end KTK
