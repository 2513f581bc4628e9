/-! the reference measures -/
section MEAS
variable {S : Sto} {k n : Nat} {C R : Chp} {dear : Bool}
abbrev dI (dear : Bool) : Int := if dear = true then 1 else 0
theorem m_me5 (h : MRt S k C) (o : MOw S k C R) (hk : k < 4) (g : GSz C) (rr : RRg C R) (hn : n < kN C) : WP (lpF (mX23_measure_L5 (n : Int)) (0, 0, S)) (fun z => ∃ ct : Nat, z.1 = (ct : Int) ∧ Ch 2141 2143 S z.2 ∧ MMq (2 * kLy C) z.2 0 ct ∧ ∀ p, p < 2 * kLy C → gI z.2 2141 p = (if R 20 p = (n : Int) then 0 else 1000000000) ∧ gI z.2 2143 p = (if R 20 p = (n : Int) then 1 else 0)) := by
  have g5 := g.2.2.2.2.1
  have g6 := g.2.2.2.2.2.1
  have g1 := g.1
  have g7 := g.2.2.2.2.2.2.1
  refine WP_cnt (2 * kLy C) (fun i s => ∃ ct : Nat, s.1 = (ct : Int) ∧ s.2.1 = (i : Int) ∧ ct ≤ i ∧ Ch 2141 2143 S s.2.2 ∧ smN (fun p => (gI s.2.2 2143 p).toNat) i = ct ∧ (∀ p, p < i → gI s.2.2 2141 p = (if R 20 p = (n : Int) then 0 else 1000000000) ∧ gI s.2.2 2143 p = (if R 20 p = (n : Int) then 1 else 0)) ∧ (∀ t, t < ct → ∃ x : Nat, gI s.2.2 2142 t = (x : Int) ∧ x < i ∧ R 20 x = (n : Int)) ∧ ∀ t u, t < u → u < ct → gI s.2.2 2142 t ≠ gI s.2.2 2142 u) (by unfold cFU; omega) ⟨0, rfl, rfl, Nat.le_refl _, Ch.refl, rfl, fun p hp => absurd hp (Nat.not_lt_zero _), fun p hp => absurd hp (Nat.not_lt_zero _), fun t u _ hp => absurd hp (Nat.not_lt_zero _)⟩ (fun i s hi hI => ?_) (fun s hI => ?_)
  · obtain ⟨z1, z2, z3⟩ := s
    obtain ⟨ct, b1, b2, b3, b4, b5, b6, b7, b8⟩ := hI
    dsimp only at b1 b2 b4 b5 b6 b7 b8
    subst b1 b2
    have hz := h.cm (CM.of b4 (by omega))
    have oz := o.ch b4 (by omega)
    have r0 := (rr.1 i hi).1
    have r1 := (rr.1 i hi).2.1
    unfold mX23_measure_L5
    dsimp only
    rw [hz.1.2.2.2, w32_id (by omega), w32_id (by omega), if_pos (by omega), m_own hz oz hk g hi, bX_some, w32_id (x := R 20 i) (by omega), w32_id (x := (n : Int)) (by omega)]
    by_cases q : R 20 i = (n : Int)
    · rw [if_pos q, if_pos (by decide), wrI_e (by omega), wrI_e (by omega), if_pos (by decide), wrI_e (by omega), bX_some, Int.toNat_natCast, Int.toNat_natCast]
      refine WP_some.2 ⟨ct + 1, by show (ct : Int) + 1 = _; omega, by show (i : Int) + 1 = _; omega, by omega, ((b4.sI (by omega)).sI (by omega)).sI (by omega), ?_, fun p hp => ?_, fun t ht => ?_, fun t u htu hu => ?_⟩
      · show smN _ i + (gI _ 2143 i).toNat = ct + 1
        dsimp only
        rw [hI_sI_a (by omega), gI_set]
        have : smN (fun p => (gI (sI (sI (sI z3 2141 i 0) 2143 i 1) 2142 ct (i : Int)) 2143 p).toNat) i = ct := by
          rw [← b5]
          refine smN_cg (fun x hx => ?_)
          rw [hI_sI_a (by omega), hI_sI_i (by omega), hI_sI_a (by omega)]
        rw [this]; rfl
      · dsimp only
        by_cases e : p = i
        · rw [e, if_pos q, if_pos q]
          refine ⟨?_, ?_⟩
          · rw [hI_sI_a (by omega), hI_sI_a (by omega), gI_set]; rfl
          · rw [hI_sI_a (by omega), gI_set]; rfl
        · refine ⟨?_, ?_⟩
          · rw [hI_sI_a (by omega), hI_sI_a (by omega), hI_sI_i e]; exact (b6 p (by omega)).1
          · rw [hI_sI_a (by omega), hI_sI_i e, hI_sI_a (by omega)]; exact (b6 p (by omega)).2
      · dsimp only
        by_cases e : t = ct
        · rw [e, gI_set, w32_id (by omega)]; exact ⟨i, rfl, by omega, q⟩
        · rw [hI_sI_i e, hI_sI_a (by omega), hI_sI_a (by omega)]
          obtain ⟨x, x1, x2, x3⟩ := b7 t (by omega)
          exact ⟨x, x1, by omega, x3⟩
      · dsimp only
        have et : gI (sI (sI (sI z3 2141 i 0) 2143 i 1) 2142 ct (i : Int)) 2142 t = gI z3 2142 t := by rw [hI_sI_i (by omega), hI_sI_a (by omega), hI_sI_a (by omega)]
        rw [et]
        by_cases e : u = ct
        · rw [e, gI_set, w32_id (by omega)]
          obtain ⟨x, x1, x2, x3⟩ := b7 t (by omega)
          rw [x1]; omega
        · rw [hI_sI_i e, hI_sI_a (by omega), hI_sI_a (by omega)]; exact b8 t u htu (by omega)
    · rw [if_neg q, if_neg (by decide), wrI_e (by omega), wrI_e (by omega), if_neg (by decide), bX_some, Int.toNat_natCast]
      refine WP_some.2 ⟨ct, rfl, by show (i : Int) + 1 = _; omega, by omega, (b4.sI (by omega)).sI (by omega), ?_, fun p hp => ?_, fun t ht => ?_, fun t u htu hu => ?_⟩
      · show smN _ i + (gI _ 2143 i).toNat = ct
        dsimp only
        rw [gI_set]
        have : smN (fun p => (gI (sI (sI z3 2141 i 1000000000) 2143 i 0) 2143 p).toNat) i = ct := by
          rw [← b5]
          refine smN_cg (fun x hx => ?_)
          rw [hI_sI_i (by omega), hI_sI_a (by omega)]
        rw [this]; rfl
      · dsimp only
        by_cases e : p = i
        · rw [e, if_neg q, if_neg q]
          refine ⟨?_, ?_⟩
          · rw [hI_sI_a (by omega), gI_set]; rfl
          · rw [gI_set]; rfl
        · refine ⟨?_, ?_⟩
          · rw [hI_sI_a (by omega), hI_sI_i e]; exact (b6 p (by omega)).1
          · rw [hI_sI_i e, hI_sI_a (by omega)]; exact (b6 p (by omega)).2
      · dsimp only
        rw [hI_sI_a (by omega), hI_sI_a (by omega)]
        obtain ⟨x, x1, x2, x3⟩ := b7 t ht
        exact ⟨x, x1, by omega, x3⟩
      · dsimp only
        rw [hI_sI_a (by omega), hI_sI_a (by omega), hI_sI_a (by omega), hI_sI_a (by omega)]; exact b8 t u htu hu
  · obtain ⟨z1, z2, z3⟩ := s
    obtain ⟨ct, b1, b2, b3, b4, b5, b6, b7, b8⟩ := hI
    dsimp only at b1 b2 b4 b5 b6 b7 b8
    subst b1 b2
    have hz := h.cm (CM.of b4 (by omega))
    have s0 : ∀ i, i < 2 * kLy C → slt (2 * kLy C) 0 i = i := fun i hi => by unfold slt; rw [Nat.zero_add, if_pos hi]
    unfold mX23_measure_L5
    dsimp only
    rw [hz.1.2.2.2, w32_id (by omega), if_neg (by omega)]
    refine WP_some.2 ⟨ct, rfl, b4, ⟨by omega, b3, fun p hp => ?_, b5, fun i hi => ?_, fun i j h hj => ?_⟩, b6⟩
    · rw [(b6 p hp).2]; split
      · exact .inr rfl
      · exact .inl rfl
    · rw [s0 i (by omega)]
      obtain ⟨x, x1, x2, x3⟩ := b7 i hi
      exact ⟨x, x1, x2, by rw [(b6 x x2).2, if_pos x3]⟩
    · rw [s0 i (by omega), s0 j (by omega)]; exact b8 i j h hj
theorem m_me132 (h : MRt S k C) (o : MOw S k C R) (hV : RInv C R) (hk : k < 4) (g : GSz C) (w : WFC C) (hn : n < kN C) {y : Sto} {ct0 ct bg0 bg u : Nat} (hb : bg0 < 2 * kLy C) (hbg : bg = if bg0 + 1 = 2 * kLy C then 0 else bg0 + 1) (hy : Ch 2141 2143 S y) {z0 : Sto} (hz0 : Ch 2141 2143 S z0) (hq : MMq (2 * kLy C) y bg ct) (hs : SpF C R n dear (mV y)) (hu : u < 2 * kLy C) (hv : mV y u ≠ 1000000000)
    (hr : ∀ x, x < 2 * kLy C → x ≠ u → gI y 2143 x = 0 → mV y x ≠ 1000000000 → RxF C R n dear (mV y) x 5) (hw : ∀ x, x < 2 * kLy C → gI y 2143 x = 1 → mV y x ≠ 1000000000) :
    WP (lpF (mX23_measure_L132 (u : Int) (n : Int) (dI dear) ((ct0 : Int), (bg0 : Int), z0)) ((ct : Int), 0, y)) (fun z => ∃ ct' : Nat, z.1 = (ct' : Int) ∧ Ch 2141 2143 S z.2 ∧ MMq (2 * kLy C) z.2 bg ct' ∧ SpF C R n dear (mV z.2) ∧ (∀ x, x < 2 * kLy C → gI z.2 2143 x = 0 → mV z.2 x ≠ 1000000000 → RxF C R n dear (mV z.2) x 5) ∧ (∀ x, x < 2 * kLy C → gI z.2 2143 x = 1 → mV z.2 x ≠ 1000000000) ∧ 2 * mzN (mV z.2) (2 * kLy C) + ct' ≤ 2 * mzN (mV y) (2 * kLy C) + ct) := by
  have g5 := g.2.2.2.2.1
  have g7 := g.2.2.2.2.2.2.1
  refine WP_cnt 5 (fun j s => ∃ ct' : Nat, s.1 = (ct' : Int) ∧ s.2.1 = (j : Int) ∧ Ch 2141 2143 S s.2.2 ∧ MMq (2 * kLy C) s.2.2 bg ct' ∧ SpF C R n dear (mV s.2.2) ∧ mV s.2.2 u = mV y u ∧ RxF C R n dear (mV s.2.2) u j ∧ (∀ x, x < 2 * kLy C → x ≠ u → gI s.2.2 2143 x = 0 → mV s.2.2 x ≠ 1000000000 → RxF C R n dear (mV s.2.2) x 5) ∧ (∀ x, x < 2 * kLy C → gI s.2.2 2143 x = 1 → mV s.2.2 x ≠ 1000000000) ∧ 2 * mzN (mV s.2.2) (2 * kLy C) + ct' ≤ 2 * mzN (mV y) (2 * kLy C) + ct) (by unfold cFU; omega) ⟨ct, rfl, rfl, hy, hq, hs, rfl, fun j x hj => absurd hj (Nat.not_lt_zero _), hr, hw, Nat.le_refl _⟩ (fun j s hj hI => ?_) (fun s hI => ?_)
  · obtain ⟨z1, z2, z3⟩ := s
    obtain ⟨ct', b1, b2, b3, b4, b5, b6, b7, b8, bw, b9⟩ := hI
    dsimp only at b1 b2 b3 b4 b5 b6 b7 b8 bw b9
    subst b1 b2
    have hz := h.cm (CM.of b3 (by omega))
    have oz := o.ch b3 (by omega)
    have all0 : gI z0 2000 176 = ((2 * kLy C : Nat) : Int) := (hz0.1 _ _ (by omega)).trans h.1.2.2.2
    have cl := rcN_le (v := mV z3) (P := 2 * kLy C)
    have vu : 0 ≤ gI z3 2141 u ∧ gI z3 2141 u ≤ 11 * ((rcN (mV z3) (2 * kLy C) : Nat) : Int) := ((b5 u hu).2.2).resolve_left (by rw [b6]; exact hv)
    have nr : mV z3 u ≠ 1000000000 := by rw [b6]; exact hv
    unfold mX23_measure_L132
    dsimp only
    rw [w32_id (by omega), if_pos (by omega), m_next hz g hu hj, bX_some]
    -- nothing is done
    have skip : (∀ x : Nat, nxF C u j = (x : Int) → R 20 x ≠ (n : Int) → 0 < prF C R n dear x → mV z3 x ≤ mV z3 u + (prF C R n dear x : Int)) → WP (some (Sum.inl ((ct' : Int), (j : Int) + 1, z3)) : Option ((Int × Int × Sto) ⊕ (Int × Sto))) (WE (fun s => ∃ ct' : Nat, s.1 = (ct' : Int) ∧ s.2.1 = ((j + 1 : Nat) : Int) ∧ Ch 2141 2143 S s.2.2 ∧ MMq (2 * kLy C) s.2.2 bg ct' ∧ SpF C R n dear (mV s.2.2) ∧ mV s.2.2 u = mV y u ∧ RxF C R n dear (mV s.2.2) u (j + 1) ∧ (∀ x, x < 2 * kLy C → x ≠ u → gI s.2.2 2143 x = 0 → mV s.2.2 x ≠ 1000000000 → RxF C R n dear (mV s.2.2) x 5) ∧ (∀ x, x < 2 * kLy C → gI s.2.2 2143 x = 1 → mV s.2.2 x ≠ 1000000000) ∧ 2 * mzN (mV s.2.2) (2 * kLy C) + ct' ≤ 2 * mzN (mV y) (2 * kLy C) + ct) (fun z => ∃ ct' : Nat, z.1 = (ct' : Int) ∧ Ch 2141 2143 S z.2 ∧ MMq (2 * kLy C) z.2 bg ct' ∧ SpF C R n dear (mV z.2) ∧ (∀ x, x < 2 * kLy C → gI z.2 2143 x = 0 → mV z.2 x ≠ 1000000000 → RxF C R n dear (mV z.2) x 5) ∧ (∀ x, x < 2 * kLy C → gI z.2 2143 x = 1 → mV z.2 x ≠ 1000000000) ∧ 2 * mzN (mV z.2) (2 * kLy C) + ct' ≤ 2 * mzN (mV y) (2 * kLy C) + ct)) := fun q => by
      refine WP_some.2 ⟨ct', rfl, by show (j : Int) + 1 = _; omega, b3, b4, b5, b6, fun i x h1 h2 h3 h4 => ?_, b8, bw, b9⟩
      by_cases e : i = j
      · rw [e] at h2; exact q x h2 h3 h4
      · exact b7 i x (by omega) h2 h3 h4
    rcases nxF_rng hu hj with e | ⟨x, e, hx, xu⟩
    · rw [e, if_neg (by decide), bX_some, if_pos rfl, bX_some, if_neg (by decide), bX_some, if_neg (by decide), bX_some]
      exact skip (fun x hx => by rw [e] at hx; omega)
    · have pr := prF_le (C := C) (p := x) (R := R) (n := n) (dear := dear)
      have r0 := (hV.1.1 x hx)
      rw [e, w32_id (by omega), if_pos (by omega), m_own hz oz hk g hx, bX_some, w32_id (x := R 20 x) (by omega), w32_id (x := (n : Int)) (by omega)]
      by_cases q : R 20 x = (n : Int)
      · rw [if_pos q, bX_some, if_pos rfl, bX_some, if_neg (by decide), bX_some, if_neg (by decide), bX_some]
        refine skip (fun x' hx' h3 => ?_)
        have : x' = x := by omega
        rw [this] at h3; exact absurd q h3
      · rw [if_neg q, bX_some, if_neg (by decide), m_price hz oz hV hk g w hx hn q, bX_some, bX_some, w32_id (x := (prF C R n dear x : Int)) (by omega)]
        by_cases q2 : 0 < prF C R n dear x
        · have vx := (b5 x hx).2.2
          rw [if_pos (by omega), rdI_e (by omega), rdI_e (by omega), Int.toNat_natCast, Int.toNat_natCast, w32_id (x := gI z3 2141 u + (prF C R n dear x : Int)) (by omega), w32_gI]
          by_cases q3 : gI z3 2141 u + (prF C R n dear x : Int) < gI z3 2141 x
          · rw [if_pos q3, bX_some, if_pos rfl, rdI_e (by omega), wrI_e (by omega), Int.toNat_natCast, Int.toNat_natCast, rdZ_e (by omega), Int.toNat_natCast]
            obtain ⟨Z, hZ⟩ : ∃ Z, Z = sI z3 2141 x (gI z3 2141 u + (prF C R n dear x : Int)) := ⟨_, rfl⟩
            have cZ : Ch 2141 2143 z3 Z := by rw [hZ]; exact Ch.refl.sI (by omega)
            have v' : ∀ p, mV Z p = if p = x then mV z3 u + (prF C R n dear x : Int) else mV z3 p := fun p => by
              show gI Z 2141 p = _
              rw [hZ]
              by_cases t : p = x
              · rw [t, gI_set, if_pos rfl, w32_id (by omega)]
              · rw [hI_sI_i t, if_neg t]
            have e43 : ∀ p, gI Z 2143 p = gI z3 2143 p := fun p => by rw [hZ, hI_sI_a (by omega)]
            have e42 : ∀ p, gI Z 2142 p = gI z3 2142 p := fun p => by rw [hZ, hI_sI_a (by omega)]
            have up := b5.up g5 hu hx hj e q q2 nr q3 v'
            have le : ∀ p, mV Z p ≤ mV z3 p := fun p => by
              rw [v']; split
              · rename_i t; rw [t]; exact Int.le_of_lt q3
              · exact Int.le_refl _
            have mq : MMq (2 * kLy C) Z bg ct' := by
              obtain ⟨a1, a2, a3, a4, a5, a6⟩ := b4
              refine ⟨a1, a2, fun p hp => by rw [e43]; exact a3 p hp, ?_, fun i hi => ?_, fun i j h1 h2 => by rw [e42, e42]; exact a6 i j h1 h2⟩
              · rw [← a4]; exact smN_cg (fun p _ => by rw [e43])
              · obtain ⟨t, t1, t2, t3⟩ := a5 i hi
                exact ⟨t, by rw [e42]; exact t1, t2, by rw [e43]; exact t3⟩
            have vZu : mV Z u = mV y u := by rw [v', if_neg (by omega)]; exact b6
            have rxu : RxF C R n dear (mV Z) u (j + 1) := fun i t h1 h2 h3 h4 => by
              by_cases ei : i = j
              · rw [ei] at h2
                have : t = x := by omega
                rw [this, v', if_pos rfl, v', if_neg (by omega)]; exact Int.le_refl _
              · exact (b7.up (by rw [v', if_neg (by omega)]) le) i t (by omega) h2 h3 h4
            have rx5 : ∀ t, t < 2 * kLy C → t ≠ u → t ≠ x → gI Z 2143 t = 0 → mV Z t ≠ 1000000000 → RxF C R n dear (mV Z) t 5 := fun t h1 h2 h2' h3 h4 => by
              have et : mV Z t = mV z3 t := by rw [v', if_neg h2']
              rw [e43] at h3; rw [et] at h4
              exact (b8 t h1 h2 h3 h4).up et le
            have wt : ∀ t, t < 2 * kLy C → gI Z 2143 t = 1 ∨ t = x → mV Z t ≠ 1000000000 := fun t h1 h2 => by
              rw [v']
              by_cases e : t = x
              · rw [if_pos e]; show gI z3 2141 u + _ ≠ _; have : gI z3 2141 u ≤ 51832 := by have := vu.2; omega
                omega
              · rw [if_neg e]
                rcases h2 with h2 | h2
                · rw [e43] at h2; exact bw t h1 h2
                · exact absurd h2 e
            have cS := b3.tr cZ (by omega) (by omega)
            have aZ : gI Z 2000 176 = ((2 * kLy C : Nat) : Int) := by rw [hZ, hI_sI_a (by omega)]; exact hz.1.2.2.2
            rw [← hZ]
            have mx := mq.2.2.1 x hx
            by_cases q4 : gI Z 2143 x = 0
            · obtain ⟨lt, put⟩ := mq.put (by omega) hx q4
              have eb : (if w32 ((bg0 : Int) + 1) = w32 ((2 * kLy C : Nat) : Int) then (0 : Int) else (bg0 : Int) + 1) = (bg : Int) := by
                rw [w32_id (by omega), w32_id (by omega), hbg]
                by_cases t : bg0 + 1 = 2 * kLy C
                · rw [if_pos t, if_pos (by omega)]; rfl
                · rw [if_neg t, if_neg (by omega)]; omega
              have bgl := mq.1
              have sl := slt_lt bgl lt
              have ix : aRem ((bg : Int) + (ct' : Int)) ((2 * kLy C : Nat) : Int) = (slt (2 * kLy C) bg ct' : Int) := by
                rw [aRem_nn (by omega) (by omega), ← slt_mod bgl lt, Int.natCast_emod, Int.natCast_add]
              rw [q4, if_pos (by decide), wrI_e (by omega), Int.toNat_natCast, hI_sI_a (by omega), aZ, gnz_i (by omega), all0, eb, ix, wrI_e (by omega), Int.toNat_natCast, bX_some]
              have v2 : ∀ p, mV (sI (sI Z 2143 x 1) 2142 (slt (2 * kLy C) bg ct') (x : Int)) p = mV Z p := fun p => by
                show gI _ 2141 p = _
                rw [hI_sI_a (by omega), hI_sI_a (by omega)]
              have v2' : mV (sI (sI Z 2143 x 1) 2142 (slt (2 * kLy C) bg ct') (x : Int)) = mV Z := funext v2
              refine WP_some.2 ⟨ct' + 1, by show (ct' : Int) + 1 = _; omega, by show (j : Int) + 1 = _; omega, (cS.sI (by omega)).sI (by omega), put, ?_, ?_, ?_, fun t h1 h2 h3 h4 => ?_, fun t h1 h2 => ?_, ?_⟩
              · dsimp only; rw [v2']; exact up.1
              · dsimp only; rw [v2']; exact vZu
              · dsimp only; rw [v2']; exact rxu
              · dsimp only at h3 h4 ⊢
                rw [v2'] at h4 ⊢
                rw [hI_sI_a (by omega)] at h3
                by_cases t : t = x
                · rw [t, gI_set] at h3; exact absurd h3 (by decide)
                · rw [hI_sI_i t] at h3; exact rx5 _ h1 h2 t h3 h4
              · dsimp only at h2 ⊢
                rw [v2']
                rw [hI_sI_a (by omega)] at h2
                by_cases e : t = x
                · exact wt t h1 (.inr e)
                · rw [hI_sI_i e] at h2; exact wt t h1 (.inl h2)
              · dsimp only; rw [v2']; have := up.2; omega
            · have q5 := mx.resolve_left q4
              rw [q5, if_neg (by decide), bX_some]
              refine WP_some.2 ⟨ct', rfl, by show (j : Int) + 1 = _; omega, cS, mq, up.1, vZu, rxu, fun t h1 h2 h3 h4 => ?_, fun t h1 h2 => wt t h1 (.inl h2), by dsimp only; have := up.2; omega⟩
              have t : t ≠ x := fun e => by rw [e] at h3; exact q4 h3
              exact rx5 _ h1 h2 t h3 h4
          · rw [if_neg q3, bX_some, if_neg (by decide), bX_some]
            refine skip (fun x' hx' _ _ => ?_)
            have : x' = x := by omega
            rw [this]; show gI z3 2141 x ≤ gI z3 2141 u + _; omega
        · rw [if_neg (by omega), bX_some, if_neg (by decide), bX_some]
          refine skip (fun x' hx' _ h4 => ?_)
          have : x' = x := by omega
          rw [this] at h4; exact absurd h4 q2
  · obtain ⟨z1, z2, z3⟩ := s
    obtain ⟨ct', b1, b2, b3, b4, b5, b6, b7, b8, bw, b9⟩ := hI
    dsimp only at b1 b2 b3 b4 b5 b6 b7 b8 bw b9
    subst b1 b2
    unfold mX23_measure_L132
    dsimp only
    rw [if_neg (by decide)]
    refine WP_some.2 ⟨ct', rfl, b3, b4, b5, fun x h1 h3 h4 => ?_, bw, b9⟩
    by_cases e : x = u
    · rw [e]; exact b7
    · exact b8 x h1 e h3 h4
abbrev dM (z : Sto) (p : Nat) : Int := if gI z 2141 p = 1000000000 then -1 else gI z 2141 p
theorem m_measure (h : MRt S k C) (o : MOw S k C R) (hV : RInv C R) (hk : k < 4) (g : GSz C) (w : WFC C) (hn : n < kN C) :
    WP (mX23_measure S (n : Int) (dI dear)) (fun z => Ch 2141 2143 S z ∧ DOk C R n dear (dM z) ∧ ∀ p, p < 2 * kLy C → gI z 2141 p = 1000000000 ∨ (0 ≤ gI z 2141 p ∧ gI z 2141 p ≤ 60000)) := by
  have g5 := g.2.2.2.2.1
  have g6 := g.2.2.2.2.2.1
  have g1 := g.1
  unfold mX23_measure
  refine WP_call (m_me5 h o hk g hV.1 hn) (fun y hy => ?_)
  obtain ⟨ct, a1, a2, a3, a4⟩ := hy
  refine WP_call (R := fun z => Ch 2141 2143 S z ∧ DOk C R n dear (dM z) ∧ ∀ p, p < 2 * kLy C → gI z 2141 p = 1000000000 ∨ (0 ≤ gI z 2141 p ∧ gI z 2141 p ≤ 60000)) ?_ (fun z hz => WP_some.2 hz)
  have s0 : SpF C R n dear (mV y.2) := fun p hp => by
    have e := (a4 p hp).1
    refine ⟨fun q => by show gI y.2 2141 p = 0; rw [e, if_pos q], fun q hv => absurd (by show gI y.2 2141 p = _; rw [e, if_neg q]) hv, ?_⟩
    show gI y.2 2141 p = 1000000000 ∨ (0 ≤ gI y.2 2141 p ∧ gI y.2 2141 p ≤ _)
    rw [e]; split
    · exact .inr ⟨by omega, by omega⟩
    · exact .inl rfl
  have r0 : ∀ x, x < 2 * kLy C → gI y.2 2143 x = 0 → mV y.2 x ≠ 1000000000 → RxF C R n dear (mV y.2) x 5 := fun x hx h1 h2 => by
    rw [(a4 x hx).2] at h1
    have h2 : gI y.2 2141 x ≠ 1000000000 := h2
    rw [(a4 x hx).1] at h2
    by_cases q : R 20 x = (n : Int)
    · rw [if_pos q] at h1; exact absurd h1 (by decide)
    · rw [if_neg q] at h2; exact absurd rfl h2
  have w0 : ∀ x, x < 2 * kLy C → gI y.2 2143 x = 1 → mV y.2 x ≠ 1000000000 := fun x hx h1 => by
    rw [(a4 x hx).2] at h1
    show gI y.2 2141 x ≠ _
    rw [(a4 x hx).1]
    by_cases q : R 20 x = (n : Int)
    · rw [if_pos q]; decide
    · rw [if_neg q] at h1; exact absurd h1 (by decide)
  have mz : mzN (mV y.2) (2 * kLy C) ≤ (2 * kLy C) * 60000 := smN_le (fun x _ => by show (min (mV y.2 x) 60000).toNat ≤ _; omega)
  have cl := a3.2.1
  rw [a1]
  refine WP_lpM (fun s m => ∃ ct bg : Nat, s.1 = (ct : Int) ∧ s.2.1 = (bg : Int) ∧ Ch 2141 2143 S s.2.2 ∧ MMq (2 * kLy C) s.2.2 bg ct ∧ SpF C R n dear (mV s.2.2) ∧ (∀ x, x < 2 * kLy C → gI s.2.2 2143 x = 0 → mV s.2.2 x ≠ 1000000000 → RxF C R n dear (mV s.2.2) x 5) ∧ (∀ x, x < 2 * kLy C → gI s.2.2 2143 x = 1 → mV s.2.2 x ≠ 1000000000) ∧ 2 * mzN (mV s.2.2) (2 * kLy C) + ct ≤ m) (fun s m hI => ?_) (m := 2 * mzN (mV y.2) (2 * kLy C) + ct) ⟨ct, 0, rfl, rfl, a2, a3, s0, r0, w0, Nat.le_refl _⟩ (by unfold cFU; omega)
  obtain ⟨z1, z2, z3⟩ := s
  obtain ⟨ct, bg, b1, b2, b3, b4, b5, b6, bw, b7⟩ := hI
  dsimp only at b1 b2 b3 b4 b5 b6 bw b7
  subst b1 b2
  have hz := h.cm (CM.of b3 (by omega))
  have cl := b4.2.1
  have bl := b4.1
  unfold mX23_measure_L84
  dsimp only
  rw [w32_id (by omega)]
  cases ct with
  | zero =>
    rw [if_neg (by omega)]
    have un : ∀ x, x < 2 * kLy C → gI z3 2143 x = 0 := fun x hx => by
      have := smN_ge (f := fun p => (gI z3 2143 p).toNat) hx
      rw [b4.2.2.2.1] at this
      rcases b4.2.2.1 x hx with e | e
      · exact e
      · rw [e] at this; exact absurd this (by decide)
    have rc := rcN_le (v := mV z3) (P := 2 * kLy C)
    refine WP_some.2 ⟨b3, b5.done g5 (fun u hu hv => b6 u hu (un u hu) hv), fun p hp => ?_⟩
    rcases (b5 p hp).2.2 with e | e
    · exact .inl e
    · exact .inr ⟨e.1, by have e2 : gI z3 2141 p ≤ 11 * ((rcN (mV z3) (2 * kLy C) : Nat) : Int) := e.2; omega⟩
  | succ ct =>
    obtain ⟨x, x1, x2, x3, x4⟩ := b4.pop
    rw [if_pos (by omega), rdI_e (by omega), Int.toNat_natCast, x1, wrI_e (by omega), Int.toNat_natCast, show ((ct + 1 : Nat) : Int) + -1 = (ct : Int) by omega]
    have vs : mV (sI z3 2143 x 0) = mV z3 := funext (fun p => hI_sI_a (by omega))
    have nr := bw x x2 x3
    refine WP_call (m_me132 (ct0 := ct + 1) (bg0 := bg) (z0 := z3) h o hV hk g w hn bl rfl (b3.sI (by omega)) b3 x4 (by rw [vs]; exact b5) x2 (by rw [vs]; exact nr) (fun t h1 h2 h3 h4 => ?_) (fun t h1 h2 => ?_)) (fun s hs => ?_)
    · rw [vs] at h4 ⊢
      rw [hI_sI_i h2] at h3
      exact b6 t h1 h3 h4
    · rw [vs]
      by_cases e : t = x
      · rw [e]; exact nr
      · rw [hI_sI_i e] at h2; exact bw t h1 h2
    · obtain ⟨ct', c1, c2, c3, c4, c5, cw, c6⟩ := hs
      rw [vs] at c6
      refine WP_some.2 ⟨m - 1, by omega, ct', _, c1, ?_, c2, c3, c4, c5, cw, by dsimp only; omega⟩
      show (if w32 ((bg : Int) + 1) = w32 (gI z3 2000 176) then (0 : Int) else (bg : Int) + 1) = _
      rw [hz.1.2.2.2, w32_id (by omega), w32_id (by omega)]
      by_cases t : bg + 1 = 2 * kLy C
      · rw [if_pos t, if_pos (by omega)]; rfl
      · rw [if_neg t, if_neg (by omega)]; omega
end MEAS
