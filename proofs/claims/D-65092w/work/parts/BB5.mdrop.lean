/-! a pattern dropped from the reference's set -/
section MDROP
variable {S : Sto} {k : Nat} {C : Chp}
/-- other chips' sets are left -/
def OutM (k : Nat) (S z : Sto) : Prop := (∀ i, i ≠ k → gI z 2172 i = gI S 2172 i) ∧ (∀ i, (i < 1280 * k ∨ 1280 * (k + 1) ≤ i) → gI z 2173 i = gI S 2173 i ∧ gI z 2174 i = gI S 2174 i) ∧ (∀ i, (i < 25600 * k ∨ 25600 * (k + 1) ≤ i) → gL z 2175 i = gL S 2175 i) ∧ ∀ i, gI z 2175 i = gI S 2175 i
theorem OutM.refl : OutM k S S := ⟨fun _ _ => rfl, fun _ _ => ⟨rfl, rfl⟩, fun _ _ => rfl, fun _ => rfl⟩
theorem OutM.tr {z y : Sto} (h : OutM k S z) (g : OutM k z y) : OutM k S y := ⟨fun i q => (g.1 i q).trans (h.1 i q), fun i q => ⟨(g.2.1 i q).1.trans (h.2.1 i q).1, (g.2.1 i q).2.trans (h.2.1 i q).2⟩, fun i q => (g.2.2.1 i q).trans (h.2.2.1 i q), fun i => (g.2.2.2 i).trans (h.2.2.2 i)⟩
theorem m_drop51 (hk : k < 4) {i : Nat} (hi : i + 1 < 1280) {s3 : Int × Sto} (h3 : s3.1 = (i : Int)) :
    WP (lpF (mX23_dropPattern_L51 (k : Int) s3) (0, S)) (fun z => (∀ a j, gI z a j = gI S a j) ∧ (∀ j, j < 20 → gL z 2175 (20 * (1280 * k + i) + j) = gL S 2175 (20 * (1280 * k + i + 1) + j)) ∧ ∀ j, (j < 20 * (1280 * k + i) ∨ 20 * (1280 * k + i + 1) ≤ j) → gL z 2175 j = gL S 2175 j) := by
  refine WP_cnt 20 (fun n z => z.1 = (n : Int) ∧ (∀ a j, gI z.2 a j = gI S a j) ∧ (∀ j, j < n → gL z.2 2175 (20 * (1280 * k + i) + j) = gL S 2175 (20 * (1280 * k + i + 1) + j)) ∧ ∀ j, (j < 20 * (1280 * k + i) ∨ 20 * (1280 * k + i + 1) ≤ j) → gL z.2 2175 j = gL S 2175 j) (by unfold cFU; omega) ⟨rfl, fun _ _ => rfl, fun j hj => absurd hj (Nat.not_lt_zero _), fun _ _ => rfl⟩ (fun n z hn hI => ?_) (fun z hI => ?_)
  · obtain ⟨b1, b2, b3, b4⟩ := hI
    have z1 : (20 * (1280 * (k : Int) + (i : Int) + 1) + (n : Int)).toNat = 20 * (1280 * k + i + 1) + n := by omega
    have z2 : (20 * (1280 * (k : Int) + (i : Int)) + (n : Int)).toNat = 20 * (1280 * k + i) + n := by omega
    have e := b4 (20 * (1280 * k + i + 1) + n) (by omega)
    unfold mX23_dropPattern_L51
    rw [b1, h3, w32_id (by omega), if_pos (by omega), rdL_e (by omega), z1, wrL_e (by omega), z2, e]
    refine WP_some.2 ⟨by show (n : Int) + 1 = _; omega, fun a j => b2 a j, fun j hj => ?_, fun j hj => ?_⟩
    · dsimp only
      by_cases q : j = n
      · rw [q, gL_sLe ⟨rfl, rfl⟩]
      · rw [gL_sLn (.inr (by omega))]; exact b3 j (by omega)
    · dsimp only; rw [gL_sLn (.inr (by omega))]; exact b4 j hj
  · obtain ⟨b1, b2, b3, b4⟩ := hI
    unfold mX23_dropPattern_L51
    rw [b1, w32_id (by omega), if_neg (by omega)]
    exact WP_some.2 ⟨b2, b3, b4⟩
theorem m_dropPattern (w : WFC C) (hk : k < 4) {set : Nat → Int} {n d : Nat} (g : MSet S k C set n) (hd : d < n) (hs : ∀ i, i < n → i32 (set i)) : WP (mX23_dropPattern S (k : Int) (d : Int)) (fun z => MSet z k C (cutS set d) (n - 1) ∧ OutM k S z ∧ ∀ i, gI z 2174 i = gI S 2174 i) := by
  have n12 := g.2.1
  have fa := kFa_le w
  unfold mX23_dropPattern
  rw [rdI_e (by omega), Int.toNat_natCast, g.1, wrI_e (by omega), Int.toNat_natCast]
  refine WP_call (R := fun z => MSet z k C (cutS set d) (n - 1) ∧ OutM k S z ∧ ∀ i, gI z 2174 i = gI S 2174 i) ?_ (fun z hz => WP_some.2 hz)
  refine WP_cnt (n - 1 - d) (fun j z => z.1 = ((d + j : Nat) : Int) ∧ gI z.2 2172 k = ((n - 1 : Nat) : Int) ∧ (∀ i, i < n → gI z.2 2173 (1280 * k + i) = if i < d + j then cutS set d i else set i) ∧ (∀ i f, i < n → f < kFa C → tb (gL z.2 2175 (20 * (1280 * k + i) + f / 64)) (f % 64) = kShow C f (if i < d + j then cutS set d i else set i).toNat) ∧ OutM k S z.2 ∧ ∀ i, gI z.2 2174 i = gI S 2174 i) (by unfold cFU; omega) ⟨rfl, by rw [gI_set, w32_id (by omega)]; omega, fun i hi => ?_, fun i f hi hf => ?_, ⟨fun i q => hI_sI_i q, fun i _ => ⟨hI_sI_a (by omega), hI_sI_a (by omega)⟩, fun i _ => rfl, fun i => hI_sI_a (by omega)⟩, fun i => hI_sI_a (by omega)⟩ (fun j z hj hI => ?_) (fun z hI => ?_)
  · dsimp only
    rw [hI_sI_a (by omega), g.2.2.1 i hi]
    unfold cutS
    by_cases q : i < d
    · rw [if_pos (by omega), if_pos q]
    · rw [if_neg (by omega)]
  · dsimp only
    rw [gL_sI, g.2.2.2 i f hi hf]
    unfold cutS
    by_cases q : i < d
    · rw [if_pos (by omega), if_pos q]
    · rw [if_neg (by omega)]
  · obtain ⟨b1, b2, b3, b4, b5, b6⟩ := hI
    have z1 : (1280 * (k : Int) + ((d + j : Nat) : Int) + 1).toNat = 1280 * k + (d + j + 1) := by omega
    have z2 : (1280 * (k : Int) + ((d + j : Nat) : Int)).toNat = 1280 * k + (d + j) := by omega
    have e := b3 (d + j + 1) (by omega)
    rw [if_neg (by omega)] at e
    have h32 := hs (d + j + 1) (by omega)
    unfold i32 at h32
    have cut : cutS set d (d + j) = set (d + j + 1) := if_neg (by omega)
    unfold mX23_dropPattern_L12
    rw [rdI_e (by omega), Int.toNat_natCast, b2, b1, w32_id (by omega), w32_id (by omega), if_pos (by omega), rdI_e (by omega), z1, e, wrI_e (by omega), z2]
    refine WP_call (m_drop51 hk (i := d + j) (by omega) b1) (fun x hx => ?_)
    obtain ⟨x1, x2, x3⟩ := hx
    refine WP_some.2 ⟨by show ((d + j : Nat) : Int) + 1 = _; omega, ?_, fun i hi => ?_, fun i f hi hf => ?_, ⟨fun i q => by dsimp only; rw [x1, hI_sI_a (by omega)]; exact b5.1 i q, fun i q => ⟨by dsimp only; rw [x1, hI_sI_i (by omega)]; exact (b5.2.1 i q).1, by dsimp only; rw [x1, hI_sI_a (by omega)]; exact (b5.2.1 i q).2⟩, fun i q => by dsimp only; rw [x3 _ (by omega), gL_sI]; exact b5.2.2.1 i q, fun i => by dsimp only; rw [x1, hI_sI_a (by omega)]; exact b5.2.2.2 i⟩, fun i => by dsimp only; rw [x1, hI_sI_a (by omega)]; exact b6 i⟩
    · dsimp only; rw [x1, hI_sI_a (by omega)]; exact b2
    · dsimp only
      rw [x1]
      by_cases q : i = d + j
      · subst q
        rw [gI_set, w32_id h32, if_pos (by omega), cut]
      · rw [hI_sI_i (by omega), b3 i hi]
        by_cases l : i < d + j
        · rw [if_pos l, if_pos (by omega)]
        · rw [if_neg l, if_neg (by omega)]
    · dsimp only
      by_cases q : i = d + j
      · subst q
        have t := b4 (d + j + 1) f (by omega) hf
        rw [if_neg (by omega)] at t
        rw [x2 (f / 64) (by omega), gL_sI, if_pos (by omega), cut, ← t]
        rfl
      · rw [x3 _ (by omega), gL_sI, b4 i f hi hf]
        by_cases l : i < d + j
        · rw [if_pos l, if_pos (by omega)]
        · rw [if_neg l, if_neg (by omega)]
  · obtain ⟨b1, b2, b3, b4, b5, b6⟩ := hI
    unfold mX23_dropPattern_L12
    rw [rdI_e (by omega), Int.toNat_natCast, b2, b1, w32_id (by omega), w32_id (by omega), if_neg (by omega)]
    refine WP_some.2 ⟨⟨b2, by omega, fun i hi => ?_, fun i f hi hf => ?_⟩, b5, b6⟩
    · rw [b3 i (by omega), if_pos (by omega)]
    · rw [b4 i f (by omega) hf, if_pos (by omega)]
end MDROP
