/-! pins as the reference has them -/
def MPins (S : Sto) (C : Chp) (s : Pst) : Prop := (gI S 2000 159) = (s.1 : Int) ∧ ∀ p, p < s.1 → (gI S 2126 p) = ((s.2 p).1 : Int) ∧ (C 16 0 ≠ 0 → (gI S 2127 p) = pX C (s.2 p) ∧ (gI S 2128 p) = pY C (s.2 p))
section MPINS
variable {S : Sto} {C : Chp} {s : Pst} {k : Nat}
theorem m_addPin (h : MPins S C s) {net o x y : Int} {j : Nat} (hc : s.1 < 700) (hn : net < 1000 ∧ -2147483648 ≤ net) (hx : C 16 0 ≠ 0 → 0 ≤ net → x = pX C (net.toNat, o, j) ∧ y = pY C (net.toNat, o, j) ∧ 0 ≤ x ∧ x < 1000 ∧ 0 ≤ y ∧ y < 1000) : WP (mX23_addPin S net x y) (fun S' => MPins S' C (pAdd s net o j) ∧ Ch 2000 2128 S S') := by
  obtain ⟨h1, h2⟩ := h
  unfold mX23_addPin
  rw [w32_id (by omega)]
  by_cases q : net < 0
  · rw [if_neg (by omega), bX_some, pAdd_neg q]
    exact WP_some.2 ⟨⟨h1, h2⟩, Ch.refl⟩
  · obtain ⟨n, rfl⟩ : ∃ n : Nat, net = (n : Int) := ⟨net.toNat, by omega⟩
    have e : pAdd s (n : Int) o j = (s.1 + 1, updN s.2 s.1 (n, o, j)) := by unfold pAdd; rw [if_neg q, Int.toNat_natCast]
    have c1 : gI (sI S 2126 s.1 (n : Int)) 2000 159 = (s.1 : Int) := by rw [hI_sI_a (by omega)]; exact h1
    have c2 : gI (sI (sI S 2126 s.1 (n : Int)) 2127 s.1 x) 2000 159 = (s.1 : Int) := by rw [hI_sI_a (by omega)]; exact c1
    have c3 : gI (sI (sI (sI S 2126 s.1 (n : Int)) 2127 s.1 x) 2128 s.1 y) 2000 159 = (s.1 : Int) := by rw [hI_sI_a (by omega)]; exact c2
    rw [if_pos (by omega), h1, wrI_e (by omega), Int.toNat_natCast, c1, wrI_e (by omega), Int.toNat_natCast, c2, wrI_e (by omega), Int.toNat_natCast, wf_eq, c3, bX_some, e]
    refine WP_some.2 ⟨⟨?_, fun p hp => ?_⟩, (((Ch.refl.sI (by omega)).sI (by omega)).sI (by omega)).sI (by omega)⟩
    · show gI _ 2000 159 = ((s.1 + 1 : Nat) : Int)
      rw [gI_set, w32_id (by omega)]; omega
    · have hp : p < s.1 + 1 := hp
      show gI _ 2126 p = ((updN s.2 s.1 (n, o, j) p).1 : Int) ∧ (_ → gI _ 2127 p = pX C (updN s.2 s.1 (n, o, j) p) ∧ gI _ 2128 p = pY C (updN s.2 s.1 (n, o, j) p))
      by_cases z : p = s.1
      · have ez : updN s.2 s.1 (n, o, j) p = (n, o, j) := by rw [z]; exact updN_eq
        rw [ez]
        subst z
        refine ⟨?_, fun g => ?_⟩
        · rw [hI_sI_a (by omega), hI_sI_a (by omega), hI_sI_a (by omega), gI_set, w32_id (by omega)]
        · have := hx g (by omega)
          rw [Int.toNat_natCast] at this
          obtain ⟨t1, t2, t3⟩ := this
          rw [← t1, ← t2]
          refine ⟨?_, ?_⟩
          · rw [hI_sI_a (by omega), hI_sI_a (by omega), gI_set, w32_id (by omega)]
          · rw [hI_sI_a (by omega), gI_set, w32_id (by omega)]
      · have ez : updN s.2 s.1 (n, o, j) p = s.2 p := updN_ne z
        rw [ez]
        simp (disch := omega) only [gI_sIn]
        exact h2 p (by omega)
theorem m_addPinOf (h : MPins S C s) (w : WFC C) (wp : WFP C) (rP : RefP S k C) (hk : k < 4) {net : Int} {e j : Nat} (he : e < kE C) (hj : j < kSz C e) (hc : s.1 < 700) (hn : net < 1000 ∧ -2147483648 ≤ net) : WP (mX23_addPinOf S (k : Int) (e : Int) (j : Int) net) (fun S' => MPins S' C (pAdd s net (e : Int) j) ∧ Ch 2000 2128 S S') := by
  have hnn := w.nums
  have hE : kE C ≤ 156 := by unfold kE; omega
  have sz := kSz_rng w he
  have p1 := wp.1
  have zt : (156 * (k : Int) + (e : Int)).toNat = 156 * k + e := by omega
  unfold mX23_addPinOf
  rw [rdI_e (by omega), rdI_e (by omega), zt]
  refine WP_call (m_addPin h (o := (e : Int)) (j := j) hc hn (fun h0 _ => ?_)) (fun x hx => WP_some.2 hx)
  have r2 := rP.2 h0 e he
  have w2 := wp.2.1 h0 e he
  rw [r2.1, r2.2]
  unfold pX pY
  dsimp only
  rw [if_neg (by omega), if_neg (by omega), if_neg (by omega), Int.toNat_natCast]
  omega
end MPINS
