/-! the reference makes designs: single items -/
/-- what evaluation in slot sl and above may change -/
def PLw (sl a i : Nat) : Prop := (a = 2000 ∧ ((9 ≤ i ∧ i ≤ 11) ∨ i = 32 ∨ i = 33 ∨ i = 34 ∨ i = 37 ∨ i = 52 ∨ i = 53)) ∨ (2019 ≤ a ∧ a ≤ 2026) ∨ (a = 2027 ∧ 320 * sl ≤ i) ∨ (a = 2028 ∧ 12800 * sl ≤ i) ∨ (2029 ≤ a ∧ a ≤ 2031 ∧ sl < i) ∨ (a = 2032 ∧ sl ≤ i) ∨ (a = 2033 ∧ 40 * sl ≤ i) ∨ a = 2034 ∨ a = 2035
theorem PAQ1_w {sl : Nat} : ∀ a i, PAq Q1 a i → PLw sl a i := fun a i q => by
  unfold PAq at q
  rcases q with q | q | q | q
  · exact Or.inl (by omega)
  · exact Or.inr (Or.inl (by omega))
  · exact Or.inr (Or.inl (by omega))
  · have := Q1_n q
    unfold PLw
    omega
theorem PG9_w {sl : Nat} : ∀ a i, PG9 a i → PLw sl a i := fun a i q => by unfold PG9 at q; unfold PLw; omega
theorem PLw_n {sl a i : Nat} (q : PLw sl a i) : (a = 2000 ∧ ((9 ≤ i ∧ i ≤ 11) ∨ i = 32 ∨ i = 33 ∨ i = 34 ∨ i = 37 ∨ i = 52 ∨ i = 53)) ∨ (2019 ≤ a ∧ a ≤ 2035) := by
  unfold PLw at q
  omega
section MK1
variable {S z y : Sto} {u : Nat → Int} {n N M sl fa nin c ub : Nat} {fs : List Fin0} {cur m : Mdl} {j d : Nat} {k k' r K : List Row3} {w v : Int} {g : GSt} {F : Frm} {q : Qq}
theorem CmG.lw (h : CmG u n N fs S) (gg : ChW (PLw sl) S z) : CmG u n N fs z := h.ch gg (fun a i q => by have := PLw_n q; omega)
theorem begP_r : ∀ {k : Nat} {b : Int}, R32 b → R32 (begP v ub k b)
  | 0, _, h => h
  | _ + 1, _, _ => aRng
/-- a register's bits -/
theorem m_mkReg (h : CmG u n N fs S) (hM : M < fs.length) (h28 : gI S 2000 28 = (M : Int)) (hsl : gI S 2000 29 = (sl : Int) ∧ sl ≤ 15) (hc : c < (fAt fs M).2.2.1.length) (hnin : gI S 2015 (fs.length - 1) = (nin : Int)) (hn12 : nin ≤ 1000) (hw : ((fAt fs M).2.2.1.getD c nm0).2.2.1 = w) (hw8 : 1 ≤ w ∧ w ≤ 8) (hv : ((fAt fs M).2.2.1.getD c nm0).2.2.2 = v) (h53 : gI S 2000 53 = (ub : Int)) (hub : ub ≤ 100) :
    WP (lpF (mX23_makeRegister_L30 S (c : Int)) (0, S)) (fun y => ChW (fun a i => (a = 2000 ∧ (i = 52 ∨ i = 53)) ∨ (a = 2027 ∧ 320 * sl + 8 * c ≤ i ∧ i < 320 * sl + 8 * c + 8) ∨ (a = 2034 ∧ ub ≤ i)) S y ∧ gI y 2000 53 = ((ub + w.toNat : Nat) : Int) ∧ gI y 2000 52 = begP v ub w.toNat (gI S 2000 52) ∧ (∀ t, t < w.toNat → gI y 2027 (320 * sl + 8 * c + t) = 2 * ((1 + nin + (ub + t) : Nat) : Int)) ∧ ∀ t, t < w.toNat → gI y 2034 (ub + t) = 2 * ((1 + nin + (ub + t) : Nat) : Int)) := by
  have hml := (h.2.1 M hM).2.1.1.1
  obtain ⟨_, hmd⟩ := (h.2.1 M hM).1
  obtain ⟨_, _, m12, m13⟩ := hmd c hc
  rw [hw] at m12
  rw [hv] at m13
  have hf := h.1.2.2
  have h12 := h.2.2
  obtain ⟨W, eW⟩ : ∃ W : Nat, w = (W : Int) := ⟨w.toNat, by omega⟩
  subst eW
  rw [Int.toNat_natCast]
  refine WP_cnt W (fun i s => s.1 = (i : Int) ∧ ChW (fun a i => (a = 2000 ∧ (i = 52 ∨ i = 53)) ∨ (a = 2027 ∧ 320 * sl + 8 * c ≤ i ∧ i < 320 * sl + 8 * c + 8) ∨ (a = 2034 ∧ ub ≤ i)) S s.2 ∧ gI s.2 2000 53 = ((ub + i : Nat) : Int) ∧ gI s.2 2000 52 = begP v ub i (gI S 2000 52) ∧ (∀ t, t < i → gI s.2 2027 (320 * sl + 8 * c + t) = 2 * ((1 + nin + (ub + t) : Nat) : Int)) ∧ ∀ t, t < i → gI s.2 2034 (ub + t) = 2 * ((1 + nin + (ub + t) : Nat) : Int)) (by unfold cFU; omega) ⟨rfl, ChW.refl, h53, rfl, fun t ht => absurd ht (by omega), fun t ht => absurd ht (by omega)⟩ (fun i s hi hs => ?_) (fun s hs => ?_)
  · obtain ⟨a, s⟩ := s
    obtain ⟨s1, s2, s3, s4, s5, s6⟩ := hs
    dsimp only at s1 s2 s3 s4 s5 s6
    subst s1
    have e1 : ((40 : Int) * (M : Int) + (c : Int)) = ((40 * M + c : Nat) : Int) := by omega
    have e2 : ((8 : Int) * ((40 * (sl : Int)) + (c : Int)) + (i : Int)) = ((320 * sl + 8 * c + i : Nat) : Int) := by omega
    have x29 : gI s 2000 29 = (sl : Int) := (s2.1 _ _ (by omega)).trans hsl.1
    have x12 : gI s 2000 12 = (fs.length : Int) := (s2.1 _ _ (by omega)).trans h12
    have x15 : gI s 2015 (fs.length - 1) = (nin : Int) := (s2.1 _ _ (by omega)).trans hnin
    have xw : gI s 2012 (40 * M + c) = (W : Int) := (s2.1 _ _ (by omega)).trans m12
    unfold mX23_makeRegister_L30
    dsimp only
    rw [h28, e1, rdI_e (by omega), Int.toNat_natCast, xw, w32_id (x := (i : Int)) (by omega), w32_id (x := (W : Int)) (by omega), if_pos (by omega), x12, rdI_e (by omega), show ((fs.length : Int) - 1).toNat = fs.length - 1 by omega, x15, x29, e2, s3]
    rw [wrI_e (by omega), Int.toNat_natCast]
    have val : (2 : Int) * ((1 + (nin : Int)) + ((ub + i : Nat) : Int)) = 2 * ((1 + nin + (ub + i) : Nat) : Int) := by omega
    rw [val]
    generalize hA : sI s 2027 (320 * sl + 8 * c + i) (2 * ((1 + nin + (ub + i) : Nat) : Int)) = A
    have A53 : gI A 2000 53 = ((ub + i : Nat) : Int) := by rw [← hA, hI_sI_a (by decide)]; exact s3
    rw [A53, wrI_e (by omega), Int.toNat_natCast]
    generalize hB : sI A 2034 (ub + i) (2 * ((1 + nin + (ub + i) : Nat) : Int)) = B
    have eBs : ∀ a x, ¬ (a = 2027 ∧ x = 320 * sl + 8 * c + i) → ¬ (a = 2034 ∧ x = ub + i) → gI B a x = gI s a x := fun a x q1 q2 => by rw [← hB, hI_sI, if_neg q2, ← hA, hI_sI, if_neg q1]
    have B13 : gI B 2013 (40 * M + c) = v := by rw [eBs _ _ (by omega) (by omega), s2.1 _ _ (by omega)]; exact m13
    rw [rdI_e (by omega), Int.toNat_natCast, B13, wf_eq, wf_eq, eBs 2000 52 (by omega) (by omega), eBs 2000 53 (by omega) (by omega), s3, s4]
    rw [hI_sI_i (show (53 : Nat) ≠ 52 by decide), eBs 2000 53 (by omega) (by omega), s3]
    generalize hC : sI B 2000 52 (aOr (begP v ub i (gI S 2000 52)) (aShl (aAnd (aShr v (i : Int)) 1) ((ub + i : Nat) : Int))) = C
    generalize hD : sI C 2000 53 (((ub + i : Nat) : Int) + 1) = D
    have eD : ∀ a x, ¬ (a = 2000 ∧ (x = 52 ∨ x = 53)) → gI D a x = gI B a x := fun a x q1 => by rw [← hD, hI_sI, if_neg (by omega), ← hC, hI_sI, if_neg (by omega)]
    refine WP_some.2 ⟨by show (i : Int) + 1 = _; omega, ?_, ?_, ?_, fun t ht => ?_, fun t ht => ?_⟩
    · rw [← hD, ← hC, ← hB, ← hA]
      refine (((s2.sI ?_).sI ?_).sI ?_).sI ?_
      · exact Or.inr (Or.inl ⟨rfl, by omega, by omega⟩)
      · exact Or.inr (Or.inr ⟨rfl, by omega⟩)
      · exact Or.inl ⟨rfl, Or.inl rfl⟩
      · exact Or.inl ⟨rfl, Or.inr rfl⟩
    · rw [← hD, gI_sI_eq, w32_id (by omega)]; omega
    · rw [← hD, hI_sI_i (show (52 : Nat) ≠ 53 by decide), ← hC, gI_sI_eq, w32_aOr]; rfl
    · rw [eD _ _ (by omega), ← hB, hI_sI_a (by decide), ← hA, hI_sI]
      by_cases e : t = i
      · rw [if_pos ⟨rfl, by omega⟩, w32_id (by omega), e]
      · rw [if_neg (by omega)]; exact s5 t (by omega)
    · rw [eD _ _ (by omega), ← hB, hI_sI]
      by_cases e : t = i
      · rw [if_pos ⟨rfl, by omega⟩, w32_id (by omega), e]
      · rw [if_neg (by omega), ← hA, hI_sI_a (by decide)]; exact s6 t (by omega)
  · obtain ⟨a, s⟩ := s
    obtain ⟨s1, s2, s3, s4, s5, s6⟩ := hs
    dsimp only at s1 s2 s3 s4 s5 s6
    subst s1
    have e1 : ((40 : Int) * (M : Int) + (c : Int)) = ((40 * M + c : Nat) : Int) := by omega
    have xw : gI s 2012 (40 * M + c) = (W : Int) := (s2.1 _ _ (by omega)).trans m12
    unfold mX23_makeRegister_L30
    dsimp only
    rw [h28, e1, rdI_e (by omega), Int.toNat_natCast, xw, if_neg (by omega)]
    exact WP_some.2 ⟨s2, s3, s4, s5, s6⟩
/-- a value is kept under its name -/
theorem m_keepV (hsl : gI S 2000 29 = (sl : Int) ∧ sl ≤ 15) (hc : c < 40) : WP (mX23_keepValue S (c : Int)) (fun y => ChW (fun a i => a = 2027 ∧ 320 * sl + 8 * c ≤ i ∧ i < 320 * sl + 8 * c + 8) S y ∧ ∀ t, t < 8 → gI y 2027 (320 * sl + 8 * c + t) = gI S 2022 t) := by
  unfold mX23_keepValue
  refine WP_bX.2 (WP_cnt 8 (fun i s => s.1 = (i : Int) ∧ ChW (fun a i => a = 2027 ∧ 320 * sl + 8 * c ≤ i ∧ i < 320 * sl + 8 * c + 8) S s.2 ∧ ∀ t, t < i → gI s.2 2027 (320 * sl + 8 * c + t) = gI S 2022 t) (by decide) ⟨rfl, ChW.refl, fun t ht => absurd ht (by omega)⟩ (fun i s hi hs => ?_) (fun s hs => ?_))
  · obtain ⟨a, s⟩ := s
    obtain ⟨s1, s2, s3⟩ := hs
    dsimp only at s1 s2 s3
    subst s1
    have e2 : ((8 : Int) * ((40 * (sl : Int)) + (c : Int)) + (i : Int)) = ((320 * sl + 8 * c + i : Nat) : Int) := by omega
    have x29 : gI s 2000 29 = (sl : Int) := (s2.1 _ _ (by omega)).trans hsl.1
    unfold mX23_keepValue_L2
    dsimp only
    rw [w32_id (by omega), if_pos (by omega), rdI_e (by omega), Int.toNat_natCast, x29, e2, wrI_e (by omega), Int.toNat_natCast]
    refine WP_some.2 ⟨by show (i : Int) + 1 = _; omega, s2.sI ⟨rfl, by omega, by omega⟩, fun t ht => ?_⟩
    show gI (sI s 2027 (320 * sl + 8 * c + i) (gI s 2022 i)) 2027 (320 * sl + 8 * c + t) = gI S 2022 t
    rw [hI_sI]
    by_cases e : t = i
    · rw [if_pos ⟨rfl, by omega⟩, w32_gI, e]; exact s2.1 _ _ (by omega)
    · rw [if_neg (by omega)]; exact s3 t (by omega)
  · obtain ⟨a, s⟩ := s
    obtain ⟨s1, s2, s3⟩ := hs
    dsimp only at s1 s2 s3
    subst s1
    unfold mX23_keepValue_L2
    dsimp only
    rw [w32_id (by omega), if_neg (by omega)]
    exact WP_some.2 (WP_some.2 ⟨s2, s3⟩)
/-- next values of a register -/
theorem m_nextsV {S0 : Sto} {rb : Nat} (h28 : gI S0 2000 28 = (M : Int)) (hM : M ≤ 15) (hc : c < 40) (hsl : gI S 2000 29 = (sl : Int) ∧ sl ≤ 15) (hw : gI S 2012 (40 * M + c) = w) (hw8 : 1 ≤ w ∧ w ≤ 8) (h33 : gI S 2033 (40 * sl + c) = (rb : Int)) (hrb : rb ≤ 200) :
    WP (lpF (mX23_makeNext_L39 S0 (c : Int)) (0, S)) (fun y => ChW (fun a i => a = 2034 ∧ rb ≤ i ∧ i < rb + w.toNat) S y ∧ ∀ t, t < w.toNat → gI y 2034 (rb + t) = gI S 2022 t) := by
  obtain ⟨W, eW⟩ : ∃ W : Nat, w = (W : Int) := ⟨w.toNat, by omega⟩
  subst eW
  rw [Int.toNat_natCast]
  have e1 : ((40 : Int) * (M : Int) + (c : Int)) = ((40 * M + c : Nat) : Int) := by omega
  have e3 : ((40 : Int) * (sl : Int) + (c : Int)) = ((40 * sl + c : Nat) : Int) := by omega
  refine WP_cnt W (fun i s => s.1 = (i : Int) ∧ ChW (fun a i => a = 2034 ∧ rb ≤ i ∧ i < rb + W) S s.2 ∧ ∀ t, t < i → gI s.2 2034 (rb + t) = gI S 2022 t) (by unfold cFU; omega) ⟨rfl, ChW.refl, fun t ht => absurd ht (by omega)⟩ (fun i s hi hs => ?_) (fun s hs => ?_)
  · obtain ⟨a, s⟩ := s
    obtain ⟨s1, s2, s3⟩ := hs
    dsimp only at s1 s2 s3
    subst s1
    have x29 : gI s 2000 29 = (sl : Int) := (s2.1 _ _ (by omega)).trans hsl.1
    have xw : gI s 2012 (40 * M + c) = (W : Int) := (s2.1 _ _ (by omega)).trans hw
    have x33 : gI s 2033 (40 * sl + c) = (rb : Int) := (s2.1 _ _ (by omega)).trans h33
    unfold mX23_makeNext_L39
    dsimp only
    rw [h28, e1, rdI_e (by omega), Int.toNat_natCast, xw, w32_id (x := (i : Int)) (by omega), w32_id (x := (W : Int)) (by omega), if_pos (by omega), x29, e3, rdI_e (by omega), Int.toNat_natCast, x33, rdI_e (by omega), Int.toNat_natCast, show (rb : Int) + (i : Int) = ((rb + i : Nat) : Int) by omega, wrI_e (by omega), Int.toNat_natCast]
    refine WP_some.2 ⟨by show (i : Int) + 1 = _; omega, s2.sI ⟨rfl, by omega, by omega⟩, fun t ht => ?_⟩
    show gI (sI s 2034 (rb + i) (gI s 2022 i)) 2034 (rb + t) = gI S 2022 t
    rw [hI_sI]
    by_cases e : t = i
    · rw [if_pos ⟨rfl, by omega⟩, w32_gI, e]; exact s2.1 _ _ (by omega)
    · rw [if_neg (by omega)]; exact s3 t (by omega)
  · obtain ⟨a, s⟩ := s
    obtain ⟨s1, s2, s3⟩ := hs
    dsimp only at s1 s2 s3
    subst s1
    have xw : gI s 2012 (40 * M + c) = (W : Int) := (s2.1 _ _ (by omega)).trans hw
    unfold mX23_makeNext_L39
    dsimp only
    rw [h28, e1, rdI_e (by omega), Int.toNat_natCast, xw, if_neg (by omega)]
    exact WP_some.2 ⟨s2, s3⟩
end MK1
