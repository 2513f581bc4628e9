/-! erase: a box is gone, those behind it move up -/
def erC (C : Chp) (b : Nat) : Chp := fun f i => if f = 23 then C 23 0 - 1 else if f = 24 then (if i < 5 * b then C 24 i else C 24 (i + 5)) else C f i
theorem erC_o {C : Chp} {b f i : Nat} (h : f ≠ 23) (h' : f ≠ 24) : erC C b f i = C f i := by unfold erC; rw [if_neg h, if_neg h']
theorem erC_24 {C : Chp} {b i : Nat} : erC C b 24 i = if i < 5 * b then C 24 i else C 24 (i + 5) := rfl
theorem WFB.rng {C : Chp} (w : WFB C) {i : Nat} (hi : i < 5 * kBx C) : -1000 ≤ C 24 i ∧ C 24 i ≤ 1000 := by
  have h := w.2 (i / 5) (by omega)
  have z : i = 5 * (i / 5) ∨ i = 5 * (i / 5) + 1 ∨ i = 5 * (i / 5) + 2 ∨ i = 5 * (i / 5) + 3 ∨ i = 5 * (i / 5) + 4 := by omega
  rcases z with z | z | z | z | z <;> rw [z] <;> omega
theorem WFB_erC {C : Chp} {b : Nat} (w : WFB C) (hb : b < kBx C) : WFB (erC C b) := by
  have hw := w.1
  have e23 : erC C b 23 0 = C 23 0 - 1 := rfl
  have hk : kBx (erC C b) = kBx C - 1 := by unfold kBx; rw [e23]; omega
  have h1 : (kBx C : Int) = C 23 0 := by unfold kBx at hb ⊢; omega
  refine ⟨⟨by rw [e23]; omega, by rw [e23]; omega, fun _ => hw.2.2 (by omega)⟩, fun b' hb' => ?_⟩
  rw [hk] at hb'
  simp only [erC_24]
  by_cases q : b' < b
  · have := w.2 b' (by omega)
    rw [if_pos (by omega), if_pos (by omega), if_pos (by omega), if_pos (by omega), if_pos (by omega)]
    exact this
  · have := w.2 (b' + 1) (by omega)
    rw [if_neg (by omega), if_neg (by omega), if_neg (by omega), if_neg (by omega), if_neg (by omega)]
    exact this
section ERA
variable {c : Nat} {S : Sto} {L k : Nat} {C : Chp} {b : Nat}
theorem k_er65 (wB : WFB C) (hb : b < kBx C) (hL : 344 ≤ L) (e20 : gI S L 20 = C 23 0 - 1) (eb : ∀ i, i < 5 * kBx C → gI S (L + 15) i = C 24 i) :
    WP (lpF (mX1_erase_L65 L) (5 * (b : Int), S)) (fun z => (∀ i, i < 5 * (kBx C - 1) → gI z (L + 15) i = erC C b 24 i) ∧ (∀ a i, a ≠ L + 15 → gI z a i = gI S a i) ∧ (∀ a i, gL z a i = gL S a i) ∧ nC z = nC S ∧ nS z = nS S) := by
  have hw := wB.1
  have h1 : (kBx C : Int) = C 23 0 := by unfold kBx at hb ⊢; omega
  have hn : kBx C ≤ 2000 := by omega
  obtain ⟨n, hnn⟩ : ∃ n, kBx C = n + 1 := ⟨kBx C - 1, by omega⟩
  have e20' : gI S L 20 = (n : Int) := by omega
  refine WP_cnt (5 * n - 5 * b) (fun i z => z.1 = ((5 * b + i : Nat) : Int) ∧ (∀ m, m < 5 * b + i → gI z.2 (L + 15) m = erC C b 24 m) ∧ (∀ m, 5 * b + i ≤ m → m < 5 * n + 5 → gI z.2 (L + 15) m = C 24 m) ∧ (∀ a i, a ≠ L + 15 → gI z.2 a i = gI S a i) ∧ (∀ a i, gL z.2 a i = gL S a i) ∧ nC z.2 = nC S ∧ nS z.2 = nS S) (by unfold cFU; omega) ⟨by show 5 * (b : Int) = _; omega, fun m hm => ?_, fun m _ hm => eb m (by omega), fun _ _ _ => rfl, fun _ _ => rfl, rfl, rfl⟩ (fun i z hi hI => ?_) (fun z hI => ?_)
  · rw [erC_24, if_pos (by omega)]; exact eb m (by omega)
  · obtain ⟨a1, a2, a3, a4, a5, a6, a7⟩ := hI
    have r20 : gI z.2 L 20 = (n : Int) := (a4 _ _ (by omega)).trans e20'
    have r5 := a3 (5 * b + i + 5) (by omega) (by omega)
    have rg := wB.rng (i := 5 * b + i + 5) (by omega)
    have zt : (((5 * b + i : Nat) : Int) + 5).toNat = 5 * b + i + 5 := by omega
    unfold mX1_erase_L65
    rw [r20, a1, w32_id (by omega), w32_id (by omega), if_pos (by omega), rdI_e (by omega), zt, r5, w16_id (by omega), wrI_e (by omega), Int.toNat_natCast]
    refine WP_some.2 ⟨by show ((5 * b + i : Nat) : Int) + 1 = _; omega, fun m hm => ?_, fun m h1' h2' => ?_, fun a j q => ?_, a5, a6, a7⟩
    · show gI (sI z.2 (L + 15) (5 * b + i) _) (L + 15) m = _
      by_cases q : m = 5 * b + i
      · rw [q, gI_set, w32_id (by omega), erC_24, if_neg (by omega)]
      · rw [hI_sI_i q]; exact a2 m (by omega)
    · show gI (sI z.2 (L + 15) (5 * b + i) _) (L + 15) m = _
      rw [hI_sI_i (by omega)]; exact a3 m (by omega) h2'
    · show gI (sI z.2 (L + 15) (5 * b + i) _) a j = _
      rw [hI_sI_a q]; exact a4 a j q
  · obtain ⟨a1, a2, a3, a4, a5, a6, a7⟩ := hI
    have r20 : gI z.2 L 20 = (n : Int) := (a4 _ _ (by omega)).trans e20'
    unfold mX1_erase_L65
    rw [r20, a1, w32_id (by omega), w32_id (by omega), if_neg (by omega)]
    refine WP_some.2 ⟨fun m hm => ?_, a4, a5, a6, a7⟩
    exact a2 m (by omega)
theorem m_er81 (wB : WFB C) (hb : b < kBx C) (hk : k < 4) (e47 : gI S 2147 k = C 23 0 - 1) (eb : ∀ i, i < 5 * kBx C → gI S 2148 (10000 * k + i) = C 24 i) :
    WP (lpF (mX23_erase_L81 (k : Int)) (5 * (2000 * (k : Int) + (b : Int)), S)) (fun z => (∀ i, i < 5 * (kBx C - 1) → gI z 2148 (10000 * k + i) = erC C b 24 i) ∧ (∀ a i, ¬ (a = 2148 ∧ 10000 * k ≤ i ∧ i < 10000 * k + 10000) → gI z a i = gI S a i) ∧ (∀ a i, gL z a i = gL S a i) ∧ nC z = nC S ∧ nS z = nS S) := by
  have hw := wB.1
  have h1 : (kBx C : Int) = C 23 0 := by unfold kBx at hb ⊢; omega
  have hn : kBx C ≤ 2000 := by omega
  obtain ⟨n, hnn⟩ : ∃ n, kBx C = n + 1 := ⟨kBx C - 1, by omega⟩
  have e47' : gI S 2147 k = (n : Int) := by omega
  refine WP_cnt (5 * n - 5 * b) (fun i z => z.1 = ((10000 * k + (5 * b + i) : Nat) : Int) ∧ (∀ m, m < 5 * b + i → gI z.2 2148 (10000 * k + m) = erC C b 24 m) ∧ (∀ m, 5 * b + i ≤ m → m < 5 * n + 5 → gI z.2 2148 (10000 * k + m) = C 24 m) ∧ (∀ a i, ¬ (a = 2148 ∧ 10000 * k ≤ i ∧ i < 10000 * k + 10000) → gI z.2 a i = gI S a i) ∧ (∀ a i, gL z.2 a i = gL S a i) ∧ nC z.2 = nC S ∧ nS z.2 = nS S) (by unfold cFU; omega) ⟨by show 5 * (2000 * (k : Int) + (b : Int)) = _; omega, fun m hm => ?_, fun m _ hm => eb m (by omega), fun _ _ _ => rfl, fun _ _ => rfl, rfl, rfl⟩ (fun i z hi hI => ?_) (fun z hI => ?_)
  · rw [erC_24, if_pos (by omega)]; exact eb m (by omega)
  · obtain ⟨a1, a2, a3, a4, a5, a6, a7⟩ := hI
    have r47 : gI z.2 2147 k = (n : Int) := (a4 _ _ (by omega)).trans e47'
    have r5 := a3 (5 * b + i + 5) (by omega) (by omega)
    have rg := wB.rng (i := 5 * b + i + 5) (by omega)
    have zt : (((10000 * k + (5 * b + i) : Nat) : Int) + 5).toNat = 10000 * k + (5 * b + i + 5) := by omega
    unfold mX23_erase_L81
    rw [rdI_e (by omega), Int.toNat_natCast, r47, a1, w32_id (by omega), w32_id (by omega), if_pos (by omega), rdI_e (by omega), zt, r5, wrI_e (by omega), Int.toNat_natCast]
    refine WP_some.2 ⟨by show ((10000 * k + (5 * b + i) : Nat) : Int) + 1 = _; omega, fun m hm => ?_, fun m h1' h2' => ?_, fun a j q => ?_, a5, a6, a7⟩
    · show gI (sI z.2 2148 (10000 * k + (5 * b + i)) _) 2148 (10000 * k + m) = _
      by_cases q : m = 5 * b + i
      · rw [q, gI_set, w32_id (by omega), erC_24, if_neg (by omega)]
      · rw [hI_sI_i (by omega)]; exact a2 m (by omega)
    · show gI (sI z.2 2148 (10000 * k + (5 * b + i)) _) 2148 (10000 * k + m) = _
      rw [hI_sI_i (by omega)]; exact a3 m (by omega) h2'
    · show gI (sI z.2 2148 (10000 * k + (5 * b + i)) _) a j = _
      rw [hI_sI, if_neg (by omega)]; exact a4 a j q
  · obtain ⟨a1, a2, a3, a4, a5, a6, a7⟩ := hI
    have r47 : gI z.2 2147 k = (n : Int) := (a4 _ _ (by omega)).trans e47'
    unfold mX23_erase_L81
    rw [rdI_e (by omega), Int.toNat_natCast, r47, a1, w32_id (by omega), w32_id (by omega), if_neg (by omega)]
    exact WP_some.2 ⟨fun m hm => a2 m (by omega), a4, a5, a6, a7⟩
end ERA
