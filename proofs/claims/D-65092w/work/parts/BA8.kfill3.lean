/-! the class's words of all nets: fill; the least place that shows -/
section KFILL3
variable {S : Sto} {k : Nat} {C : Chp}
theorem kWds_div (w : WFC C) : aDiv (aShl 1 ((kB C : Nat) : Int)) 64 = (if kB C < 6 then (0 : Int) else (kWds C : Int)) := by
  have hn := w.nums
  have p12 : 2 ^ kB C ≤ 4096 := Nat.pow_le_pow_right (n := 2) (by omega) hn.2.1
  rw [aShl1 (by omega)]
  obtain ⟨P, hP⟩ : ∃ P, 2 ^ kB C = P := ⟨_, rfl⟩
  rw [hP] at p12 ⊢
  rw [aDiv_nn (by omega) (by omega)]
  by_cases q : kB C < 6
  · have p5 : 2 ^ kB C ≤ 32 := Nat.pow_le_pow_right (n := 2) (by omega) (show kB C ≤ 5 by omega)
    rw [hP] at p5
    rw [if_pos q]; omega
  · rw [if_neg q, ← hP]
    unfold kWds
    rw [if_neg q]
    obtain ⟨e, he⟩ : ∃ e, kB C = 6 + e := ⟨kB C - 6, by omega⟩
    rw [he, Nat.pow_add, show 6 + e - 6 = e by omega]
    generalize 2 ^ e = E
    omega
theorem kWds_pos : 1 ≤ kWds C := by
  unfold kWds
  split
  · omega
  · exact Nat.one_le_two_pow
theorem k_fill (hk : k < 4) (r : RepK S (344 + 22 * k) C) (w : WFC C) : WP (mX19_fill S (344 + 22 * k)) (fun z => KFl z k C ∧ ∀ n u, n < kN C → u < kWds C → KWd z C n u) := by
  have hn := w.nums
  have kw := kWds_rng w
  have kp := kWds_pos (C := C)
  have p12 : 2 ^ kB C ≤ 4096 := Nat.pow_le_pow_right (n := 2) (by omega) hn.2.1
  unfold mX19_fill
  rw [wfR_eq]
  have r1 : RepK (sR S 264 0 (344 + 22 * k)) (344 + 22 * k) C := r.cg (fun a i _ _ => rfl)
  have g1 : gR (sR S 264 0 (344 + 22 * k)) 264 0 = 344 + 22 * k := by rw [gR_sR, if_pos ⟨rfl, rfl⟩]
  rw [g1, gk_chip hk, k_bits r1 w, bX_some, gnz_nz (by decide), kWds_div w]
  have mx : mJ9_max 1 (if kB C < 6 then (0 : Int) else (kWds C : Int)) = some (kWds C : Int) := by
    by_cases q : kB C < 6
    · have e : kWds C = 1 := if_pos q
      rw [if_pos q, e]; rfl
    · have mf := max_facts (1 : Int) (kWds C : Int)
      rw [if_neg q, max_e (by omega) (by omega)]
      congr 1; omega
  rw [mx, bX_some, wf_eq]
  refine WP_call (R := fun y => ∀ i, i < 64 → tb y i = kMsk C i) ?_ (fun y6 h6 => ?_)
  · rw [aShl1 (by omega)]
    obtain ⟨P, hP⟩ : ∃ P, 2 ^ kB C = P := ⟨_, rfl⟩
    have wP : w32 ((2 ^ kB C : Nat) : Int) = ((2 ^ kB C : Nat) : Int) := by rw [hP] at p12 ⊢; exact w32_id (by omega)
    rw [wP]
    unfold kMsk
    by_cases q : kB C < 6
    · have p5 : 2 ^ kB C ≤ 32 := Nat.pow_le_pow_right (n := 2) (by omega) (show kB C ≤ 5 by omega)
      rw [if_pos (by rw [hP] at p5 ⊢; omega)]
      refine WP_some.2 (fun i hi => ?_)
      have m := mask6 ⟨kB C, q⟩ ⟨i, hi⟩
      dsimp only at m
      rw [m, decide_eq_false (show ¬ 6 ≤ kB C by omega), Bool.false_or]
    · have p6 : 2 ^ 6 ≤ 2 ^ kB C := Nat.pow_le_pow_right (n := 2) (by omega) (show 6 ≤ kB C by omega)
      rw [if_neg (by rw [hP] at p6 ⊢; omega)]
      exact WP_some.2 (fun i hi => by rw [tb_m1 hi, decide_eq_true (show 6 ≤ kB C by omega), Bool.true_or])
  rw [wfL_eq]
  obtain ⟨T, hT⟩ : ∃ T, sL (sI (sR S 264 0 (344 + 22 * k)) 264 1 (kWds C : Int)) 264 2 y6 = T := ⟨_, rfl⟩
  have rT : RepK T (344 + 22 * k) C := by
    rw [← hT]; exact r1.cg (fun a i _ _ => by rw [gI_sL, hI_sI_a (by omega)])
  have fT : KFl T k C := by
    rw [← hT]
    refine ⟨by rw [gR_sL, gR_sI]; exact g1, by rw [gI_sL, gI_set, w32_id (by omega)], fun i hi => by rw [gL_sLe ⟨rfl, rfl⟩]; exact h6 i hi⟩
  rw [hT]
  refine WP_call (R := fun z => KFl z k C ∧ ∀ n u, n < kN C → u < kWds C → KWd z C n u) ?_ (fun z hz => WP_some.2 hz)
  refine WP_cnt (kWds C) (fun u z => z.1 = (u : Int) ∧ Ch 265 265 T z.2 ∧ ∀ n v, n < kN C → v < u → KWd z.2 C n v) (by unfold cFU; omega) ⟨rfl, Ch.refl, fun n v _ hv => absurd hv (Nat.not_lt_zero _)⟩ (fun u z hu hI => ?_) (fun z hI => ?_)
  · obtain ⟨b1, b2, b3⟩ := hI
    have hz := fT.ch b2 (by omega)
    have rz := rT.ch b2 (by omega)
    unfold mX19_fill_L50
    rw [hz.2.1, b1, w32_id (by omega), w32_id (by omega), if_pos (by omega)]
    refine WP_call (k_fill61 hk rz w hz hu b1) (fun x hx => ?_)
    obtain ⟨x1, x2, x3⟩ := hx
    refine WP_call (k_fill105 hk (rz.ch x1 (by omega)) w (hz.ch x1 (by omega)) hu x2 b1) (fun y hy => ?_)
    obtain ⟨y1, y2, y3⟩ := hy
    refine WP_some.2 ⟨by show (u : Int) + 1 = _; omega, (b2.tr x1 (by omega) (by omega)).tr y1 (by omega) (by omega), fun n v hn' hv => ?_⟩
    by_cases q : v = u
    · subst q; exact y2 n hn'
    · intro i hi
      dsimp only
      rw [y3 n v (by omega) q, x3 n v (by omega) q]
      exact b3 n v hn' (by omega) i hi
  · obtain ⟨b1, b2, b3⟩ := hI
    have hz := fT.ch b2 (by omega)
    unfold mX19_fill_L50
    rw [hz.2.1, b1, w32_id (by omega), if_neg (by omega)]
    exact WP_some.2 ⟨hz, fun n u hn' hu => b3 n u hn' hu⟩
end KFILL3
