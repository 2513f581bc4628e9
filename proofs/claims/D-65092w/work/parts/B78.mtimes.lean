/-! the reference's times and arrivals; the call -/
section MTIMES
variable {S : Sto} {C : Chp} {k : Nat}
theorem m_ft21 (r : RefK S k C) (rP : RefP S k C) (w : WFC C) (wp : WFP C) (hk : k < 4) (hb : MBox S C (kPn C)) : WP (lpF (mX23_findTimes_L21 (k : Int) (kI C : Int) (kR C : Int)) (0, S)) (fun z => (∀ n, n < kN C → gI z 2153 n = kTime C n) ∧ Ch 2153 2153 S z) := by
  have hn := w.nums
  have wp1 := wp.1
  refine WP_cnt (kN C) (fun i z => z.1 = (i : Int) ∧ Ch 2153 2153 S z.2 ∧ ∀ n, n < i → gI z.2 2153 n = kTime C n) (by unfold cFU; omega) ⟨rfl, Ch.refl, fun n hn => absurd hn (Nat.not_lt_zero _)⟩ (fun i z hi hI => ?_) (fun z hI => ?_)
  · obtain ⟨b1, b2, b3⟩ := hI
    have rz := r.ch b2 (by omega)
    have pz := rP.ch b2 (by omega)
    have bz' := hb.fr (S' := z.2) (fun a j q => b2.1 a j (by omega))
    have pc := (bz' i hi).1
    have e16 := pz.1.1
    have e0 := rz.1.1
    rw [w.i] at e0
    have tr := kTime_rng w wp hi
    have pm := kMany_pos w hi
    have pl := kMany_le w (n := i)
    have y9 : (if 0 < w32 (C 16 0) then bX (mX23_wireOf z.2 (i : Int)) fun x8 => gnz 4 (some (aDiv x8 4)) else some 0) = some (if C 16 0 = 0 then 0 else kWire C i / 4) := by
      rw [w32_id (by omega)]
      by_cases q : C 16 0 = 0
      · rw [if_neg (by omega), if_pos q]
      · have := kWire_rng w wp q i pm
        rw [if_pos (by omega), if_neg q, m_wireOf w q bz' hi, bX_some, gnz_4, aDiv_nn (by omega) (by omega)]
    have y13 : (if w32 (i : Int) < w32 (kI C : Int) then some 0 else if w32 (i : Int) < w32 ((kI C : Int) + (kR C : Int)) then some (3 + (((kMany C i : Int) - 1) + (if C 16 0 = 0 then 0 else kWire C i / 4))) else bX (mX23_cellOf z.2 (k : Int) ((i : Int) - ((kI C : Int) + (kR C : Int)))) fun x11 => rdI 48 z.2 2120 x11 fun v12 => some (v12 + (((kMany C i : Int) - 1) + (if C 16 0 = 0 then 0 else kWire C i / 4)))) = some (kTime C i) := by
      unfold kTime
      rw [w32_id (by omega), w32_id (by omega), w32_id (by omega)]
      by_cases q : i < kI C
      · rw [if_pos (by omega), if_pos q]
      · rw [if_neg (by omega), if_neg q]
        by_cases q2 : i < kB C
        · rw [if_pos (by omega), if_pos q2]; congr 1; omega
        · have ci := w.c (g := i - kB C) (by omega)
          have e12 := (rz.2.2.2.2.2 _ ci.2).2.2.2
          have zt : ((i : Int) - ((kI C : Int) + (kR C : Int))).toNat = i - kB C := by omega
          rw [if_neg (by omega), if_neg q2, m_cellOf rz w hk (by omega), zt, bX_some, rdI_e (by omega), Int.toNat_natCast, e12]
          unfold kDl
          congr 1; omega
    unfold mX23_findTimes_L21
    rw [m_netCount rz w hk, bX_some, b1, w32_id (show -2147483648 ≤ (kN C : Int) ∧ _ by omega)]
    have wi : w32 (i : Int) = (i : Int) := w32_id (by omega)
    rw [if_pos (by rw [wi]; omega), rdI_e (by omega), Int.toNat_natCast, pc, rdI_e (by omega), Int.toNat_natCast, e16, y9, bX_some, rdI_e (by omega), Int.toNat_natCast, e0]
    have y13' := y13
    unfold kMany at y13'
    rw [y13', bX_some, wrI_e (by omega), Int.toNat_natCast]
    refine WP_some.2 ⟨by show (i : Int) + 1 = _; omega, b2.sI (by omega), fun n hn' => ?_⟩
    show gI (sI z.2 2153 i _) 2153 n = _
    by_cases q : n = i
    · rw [q, gI_set, w32_id (by omega)]
    · rw [hI_sI_i q]; exact b3 n (by omega)
  · obtain ⟨b1, b2, b3⟩ := hI
    unfold mX23_findTimes_L21
    rw [m_netCount (r.ch b2 (by omega)) w hk, bX_some, b1, if_neg (by omega)]
    exact WP_some.2 ⟨b3, b2⟩
theorem m_findTimes (r : RefK S k C) (rP : RefP S k C) (w : WFC C) (wp : WFP C) (hk : k < 4) : WP (mX23_findTimes S (k : Int)) (fun z => (∀ n, n < kN C → gI z 2153 n = kTime C n) ∧ MPins z C (kPins C) ∧ MBox z C (kPn C) ∧ KeM S z) := by
  have hn := w.nums
  unfold mX23_findTimes
  refine WP_call (m_boxPins r rP w wp hk) (fun x hx => ?_)
  obtain ⟨x1, x2, x3⟩ := hx
  have rx := x3.K r
  have e0 := rx.1.1
  rw [w.i] at e0
  have e1 := rx.1.2.1
  rw [w.r] at e1
  rw [rdI_e (by omega), Int.toNat_natCast, e0, rdI_e (by omega), Int.toNat_natCast, e1]
  refine WP_call (m_ft21 rx (x3.P rP) w wp hk x2) (fun y hy => ?_)
  exact WP_some.2 ⟨hy.1, x1.fr (fun a i q => hy.2.1 a i (by omega)), x2.fr (fun a i q => hy.2.1 a i (by omega)), x3.tr (fun a i q => hy.2.1 a i (by omega))⟩
theorem m_fa44 (r : RefK S k C) (w : WFC C) (wp : WFP C) (hk : k < 4) {late : Bool} {i : Nat} (hi : i < kN C) {p : Int} (hp : p = if late = true then 1 else 0) (hl : ∀ n, n < i → gI S 2154 n = kArr C late n) :
    WP (lpF (mX23_findArrivals_L44 (kI C : Int) (kR C : Int) ((i : Int), S) (k : Int) p) (-1, 0)) (fun z => kB C ≤ i → z = kBest late (kArr C late) (kP C (i - kB C)) (kAr C (i - kB C))) := by
  have hn := w.nums
  have wi : w32 (i : Int) = (i : Int) := w32_id (by omega)
  have wb : w32 ((kI C : Int) + (kR C : Int)) = (kB C : Int) := by rw [w32_id (by omega)]; omega
  by_cases q : i < kB C
  · refine WP_cnt 0 (fun _ z => z = (-1, 0)) (by unfold cFU; omega) rfl (fun i z hi' => absurd hi' (Nat.not_lt_zero _)) (fun z hI => ?_)
    subst hI
    unfold mX23_findArrivals_L44
    dsimp only
    rw [wi, wb, if_neg (by omega), bX_some, if_neg (by decide)]
    exact WP_some.2 (fun g => absurd g (by omega))
  · obtain ⟨g, rfl⟩ : ∃ g, i = kB C + g := ⟨i - kB C, by omega⟩
    have hg : g < kG C := by omega
    rw [show kB C + g - kB C = g by omega]
    have ar := w.ar hg
    have ci := w.c hg
    have li := w.li ci.2
    have zz : ((kB C + g : Nat) : Int) - ((kI C : Int) + (kR C : Int)) = (g : Int) := by omega
    have e9 := (r.2.2.2.2.2 (kC C g) ci.2).1
    rw [li.1] at e9
    have bst := fun m (hm : m ≤ kAr C g) => kBest_rng (late := late) (v := kArr C late) (f := kP C g) (m := m) (b := 200000) (by omega) (fun j hj => kArr_rng' w wp (by have := (w.p hg (k := j) (by omega)).2; omega))
    refine WP_cnt (kAr C g) (fun j z => z.2 = (j : Int) ∧ z.1 = if j = 0 then -1 else kBest late (kArr C late) (kP C g) j) (by unfold cFU; omega) ⟨rfl, rfl⟩ (fun j z hj hI => ?_) (fun z hI => ?_)
    · obtain ⟨b1, b2⟩ := hI
      have pp := w.p hg hj
      have e5 := r.2.2.1 (3 * g + j) (by omega)
      rw [pp.1] at e5
      have hh := hl _ pp.2
      have ar' := kArr_rng' w wp (late := late) (n := kP C g j) (by omega)
      have zt : (3 * ((150 * (k : Int)) + (g : Int)) + (j : Int)).toNat = 450 * k + (3 * g + j) := by omega
      have bj := bst j (by omega)
      have wj : w32 (j : Int) = (j : Int) := w32_id (by omega)
      unfold mX23_findArrivals_L44
      dsimp only
      rw [zz, wi, wb, if_pos (by omega), m_cellOf r w hk (by omega), bX_some, Int.toNat_natCast, rdI_e (by omega), Int.toNat_natCast, e9, b1, wj, w32_id (show -2147483648 ≤ (kLi C (kC C g) : Int) ∧ _ by omega)]
      have hj' : (j : Int) < (kLi C (kC C g) : Int) := by have : kAr C g = kLi C (kC C g) := rfl; omega
      rw [if_pos hj', bX_some, if_pos rfl, rdI_e (by omega), zt, e5, rdI_e (by omega), Int.toNat_natCast, hh, b2]
      have fin : ∀ v : Int, v = kBest late (kArr C late) (kP C g) (j + 1) → WP (some (Sum.inl (v, (j : Int) + 1)) : Option ((Int × Int) ⊕ Int)) (WE (fun z => z.2 = ((j + 1 : Nat) : Int) ∧ z.1 = if j + 1 = 0 then -1 else kBest late (kArr C late) (kP C g) (j + 1)) (fun z => kB C ≤ kB C + g → z = kBest late (kArr C late) (kP C g) (kAr C g))) := fun v hv =>
        WP_some.2 ⟨by show (j : Int) + 1 = _; omega, by rw [if_neg (by omega)]; exact hv⟩
      have eb : kBest late (kArr C late) (kP C g) (j + 1) = (if late = true then max (kBest late (kArr C late) (kP C g) j) (kArr C late (kP C g j)) else min (kBest late (kArr C late) (kP C g) j) (kArr C late (kP C g j))) := rfl
      by_cases j0 : j = 0
      · subst j0
        rw [if_pos rfl, w32_id (by omega), if_neg (by omega), bX_some]
        refine fin _ ?_
        rw [eb]
        cases late with
        | true => show _ = max (0 : Int) _; omega
        | false => show _ = min (1000000 : Int) _; omega
      · rw [if_neg j0, w32_id (by omega), if_pos (by omega)]
        have xm := min_facts (kBest late (kArr C late) (kP C g) j) (kArr C late (kP C g j))
        have xM := max_facts (kBest late (kArr C late) (kP C g) j) (kArr C late (kP C g j))
        cases late with
        | true =>
          rw [hp, if_pos rfl, if_pos (by decide), w32_id (by omega)]
          by_cases c : kBest true (kArr C true) (kP C g) j < kArr C true (kP C g j)
          · rw [if_pos c, bE_inl, bX_some]
            refine fin _ ?_
            rw [eb, if_pos rfl, Int.max_eq_right (by omega)]
          · rw [if_neg c, bE_inr, bX_some]
            refine fin _ ?_
            rw [eb, if_pos rfl, Int.max_eq_left (by omega)]
        | false =>
          rw [hp, if_neg (by decide), w32_id (by omega)]
          by_cases c : kArr C false (kP C g j) < kBest false (kArr C false) (kP C g) j
          · rw [if_pos c, bE_inl, bX_some]
            refine fin _ ?_
            rw [eb, if_neg (by decide), Int.min_eq_right (by omega)]
          · rw [if_neg c, bE_inr, bX_some]
            refine fin _ ?_
            rw [eb, if_neg (by decide), Int.min_eq_left (by omega)]
    · obtain ⟨b1, b2⟩ := hI
      unfold mX23_findArrivals_L44
      dsimp only
      rw [zz, wi, wb, if_pos (by omega), m_cellOf r w hk (by omega), bX_some, Int.toNat_natCast, rdI_e (by omega), Int.toNat_natCast, e9, b1, w32_id (by omega), w32_id (by omega)]
      have hj' : ¬ (kAr C g : Int) < (kLi C (kC C g) : Int) := by have : kAr C g = kLi C (kC C g) := rfl; omega
      rw [if_neg hj', bX_some, if_neg (by decide), b2, if_neg (by omega)]
      exact WP_some.2 (fun _ => rfl)
theorem m_findArrivals (r : RefK S k C) (rP : RefP S k C) (w : WFC C) (wp : WFP C) (hk : k < 4) {late : Bool} {p : Int} (hp : p = if late = true then 1 else 0) : WP (mX23_findArrivals S (k : Int) p) (fun z => ∀ n, n < kN C → gI z 2154 n = kArr C late n) := by
  have hn := w.nums
  unfold mX23_findArrivals
  refine WP_call (m_findTimes r rP w wp hk) (fun x hx => ?_)
  obtain ⟨x1, x2, x3, x4⟩ := hx
  have rx := x4.K r
  have e0 := rx.1.1
  rw [w.i] at e0
  have e1 := rx.1.2.1
  rw [w.r] at e1
  rw [rdI_e (by omega), Int.toNat_natCast, e0, rdI_e (by omega), Int.toNat_natCast, e1]
  refine WP_call (R := fun z => ∀ n, n < kN C → gI z 2154 n = kArr C late n) ?_ (fun y hy => WP_some.2 hy)
  refine WP_cnt (kN C) (fun i z => z.1 = (i : Int) ∧ Ch 2154 2154 x z.2 ∧ ∀ n, n < i → gI z.2 2154 n = kArr C late n) (by unfold cFU; omega) ⟨rfl, Ch.refl, fun n hn => absurd hn (Nat.not_lt_zero _)⟩ (fun i z hi hI => ?_) (fun z hI => ?_)
  · obtain ⟨b1, b2, b3⟩ := hI
    have rz := rx.ch b2 (by omega)
    have tz : gI z.2 2153 i = kTime C i := (b2.1 _ _ (by omega)).trans (x1 i hi)
    have tr := kTime_rng w wp hi
    have ar := kArr_rng' w wp (late := late) hi
    obtain ⟨z1, z2⟩ := z
    have b1 : z1 = (i : Int) := b1
    subst b1
    dsimp only at rz b2 b3 tz
    unfold mX23_findArrivals_L22
    dsimp only
    rw [m_netCount rz w hk, bX_some, w32_id (show -2147483648 ≤ (kN C : Int) ∧ _ by omega), w32_id (show -2147483648 ≤ (i : Int) ∧ _ by omega), if_pos (by omega)]
    refine WP_call (m_fa44 rz w wp hk hi hp b3) (fun y hy => ?_)
    have e : kTime C i + (if (i : Int) < w32 ((kI C : Int) + (kR C : Int)) then 0 else y) = kArr C late i := by
      rw [w32_id (by omega)]
      by_cases q : i < kB C
      · rw [if_pos (by omega), kArr_src q]; omega
      · obtain ⟨g, rfl⟩ : ∃ g, i = kB C + g := ⟨i - kB C, by omega⟩
        have := hy (by omega)
        rw [show kB C + g - kB C = g by omega] at this
        rw [if_neg (by omega), kArr_gate w (by omega), this]
    rw [rdI_e (by omega), Int.toNat_natCast, tz, wrI_e (by omega), Int.toNat_natCast, e]
    refine WP_some.2 ⟨by show (i : Int) + 1 = _; omega, b2.sI (by omega), fun n hn' => ?_⟩
    show gI (sI z2 2154 i _) 2154 n = _
    by_cases q : n = i
    · rw [q, gI_set, w32_id (by omega)]
    · rw [hI_sI_i q]; exact b3 n (by omega)
  · obtain ⟨b1, b2, b3⟩ := hI
    unfold mX23_findArrivals_L22
    rw [m_netCount (rx.ch b2 (by omega)) w hk, bX_some, b1, if_neg (by omega)]
    exact WP_some.2 b3
end MTIMES
section ARRIVAL
variable {c : Nat} {S : Sto}
theorem L41 {p1 p2 p3 : Int} (h : Inv c S) (hc : c < 64) (h1 : i32 p1) (h2 : i32 p2) (h3 : i32 p3) : WP (mL_41 S p1 p2 p3) (Inv (c + 1)) := by
  have rx := h.1.x hc
  unfold mL_41 mX0_arrival
  obtain ⟨late, hl⟩ : ∃ late : Bool, (if ¬ w32 p3 = 0 then (1 : Int) else 0) = if late = true then 1 else 0 := by
    by_cases q : w32 p3 = 0
    · exact ⟨false, by rw [if_neg (fun g => g q), if_neg (by decide)]⟩
    · exact ⟨true, by rw [if_pos q, if_pos rfl]⟩
  rw [hl]
  by_cases hq : isCh S p1
  · have hx := chipIn_t hq; obtain ⟨k, C, hk, rfl, w, r, m, wx, rX, mX⟩ := InvC.get h hq; rw [Int.toNat_natCast] at hx; have hn := w.nums; have eg := r.1.2.2.2.1; have em := m.1.2.2.2.1; rw [w.g] at eg em; have ei := r.1.1; have mi := m.1.1; rw [w.i] at ei mi; have er := r.1.2.1; have mr := m.1.2.1; rw [w.r] at er mr; have eo := r.1.2.2.1; have mo := m.1.2.2.1; rw [w.o] at eo mo; have el := r.1.2.2.2.2.1; have ml := m.1.2.2.2.2.1; rw [w.l] at el ml
    have h2' := h2
    unfold i32 at h2
    have kn := k_nets r w
    by_cases q1 : 0 ≤ p2 ∧ p2 < (kN C : Int)
    · obtain ⟨n, rfl⟩ : ∃ n : Nat, p2 = (n : Int) := ⟨p2.toNat, by omega⟩
      have hnn : n < kN C := by omega
      have ar := kArr_rng' w wx.1 (late := late) hnn
      refine L_scr (m1 := fun S1 => mX23_arrival S1 _ _ _) (kArr C late n) h hc ?_ (fun S1 eS => ?_)
      · simp (disch := omega) only [mX1_arrival, hx, gI_thr, gz_0, gz_1, true_or, or_true, or_false, false_or, rdI_e, rdZ_e, rdL_e, wrI_e, wrL_e, bX_some, bE_inl, bE_inr, bT_inl, bT_inr, wf_eq, wfL_eq, wfR_eq, gkc_chip, gkc_dsg, gkc_lib, gk_chip, gk_dsg, gk_lib, gth_e rx, inside_0 rx, inside_1, need_0 rx, need_1, now_0 rx, now_1, roomX_0 rx, roomX_1, w32_id, w32_gI, ← Int.not_lt, not_true_eq_false, not_false_eq_true, if_true, if_false, reduceIte, Bool.false_eq_true, Int.toNat_natCast, Int.reduceToNat, Int.toNat_add, Int.toNat_mul, Int.reduceLT, Int.reduceEq, Int.reduceNeg, Nat.reduceAdd, hI_sI, and_self, Nat.reduceEqDiff, true_and, and_true, and_false, false_and, ne_eq, q1, kn]
        refine WP_call (k_times hk rfl r w wx.1 rX.1) (fun x hx => ?_)
        obtain ⟨x1, x2, x3, x4, x5⟩ := hx
        have sc : Sc S x := Sc.tr Sc.refl.sR.sR (Sc.ch x5 rfl)
        have tt := x1 n hnn
        cases late with
        | true =>
          rw [if_pos rfl, if_pos (by decide), tt.2.1, bX_some]
          exact WP_some.2 ⟨rfl, sc⟩
        | false =>
          rw [if_neg (by decide), tt.2.2, bX_some]
          exact WP_some.2 ⟨rfl, sc⟩
      · have s0 : Sc S1 (sI S1 2000 0 0) := Sc.refl.sI rfl
        have mS := eS.M m
        simp (disch := omega) only [mX23_arrival, m_isNet_t (eS.chip h h1 hq) mS w hk hnn, gI_thr, gz_0, gz_1, true_or, or_true, or_false, false_or, rdI_e, rdZ_e, rdL_e, wrI_e, wrL_e, bX_some, bE_inl, bE_inr, bT_inl, bT_inr, wf_eq, wfL_eq, wfR_eq, gkc_chip, gkc_dsg, gkc_lib, gk_chip, gk_dsg, gk_lib, gth_e rx, inside_0 rx, inside_1, need_0 rx, need_1, now_0 rx, now_1, roomX_0 rx, roomX_1, w32_id, w32_gI, ← Int.not_lt, not_true_eq_false, not_false_eq_true, if_true, if_false, reduceIte, Bool.false_eq_true, Int.toNat_natCast, Int.reduceToNat, Int.toNat_add, Int.toNat_mul, Int.reduceLT, Int.reduceEq, Int.reduceNeg, Nat.reduceAdd, hI_sI, and_self, Nat.reduceEqDiff, true_and, and_true, and_false, false_and, ne_eq, w32_1, w32_0, gI_set]
        refine WP_callF (m_findArrivals (s0.M mS) ((s0.Y w wx (eS.Y w wx mX)).1) w wx.1 hk rfl) fr_mX23_findArrivals (fun x hx hf => ?_)
        have sc := s0.tr (Sc.fr hf rfl rfl)
        have z0 : gI x 2000 0 = 0 := (hf.ei rfl).trans gI_set
        rw [hx n hnn]
        exact WP_some.2 ⟨rfl, z0, sc⟩
    · refine L_modF (m1 := fun S1 => mX23_arrival S1 _ _ _) 1 1 h hc ?_ rfl (by omega) (fun S1 eS => ?_)
      · by_cases q2 : 0 ≤ p2
        · have q3 : ¬ p2 < (kN C : Int) := by omega
          have q2' : ¬ p2 < 0 := by omega
          simp (disch := omega) only [mX1_arrival, hx, gI_thr, gz_0, gz_1, true_or, or_true, or_false, false_or, rdI_e, rdZ_e, rdL_e, wrI_e, wrL_e, bX_some, bE_inl, bE_inr, bT_inl, bT_inr, wf_eq, wfL_eq, wfR_eq, gkc_chip, gkc_dsg, gkc_lib, gk_chip, gk_dsg, gk_lib, gth_e rx, inside_0 rx, inside_1, need_0 rx, need_1, now_0 rx, now_1, roomX_0 rx, roomX_1, w32_id, w32_gI, ← Int.not_lt, not_true_eq_false, not_false_eq_true, if_true, if_false, reduceIte, Bool.false_eq_true, Int.toNat_natCast, Int.reduceToNat, Int.toNat_add, Int.toNat_mul, Int.reduceLT, Int.reduceEq, Int.reduceNeg, Nat.reduceAdd, hI_sI, and_self, Nat.reduceEqDiff, true_and, and_true, and_false, false_and, ne_eq, q2', q3, kn]
        · have q2' : p2 < 0 := by omega
          simp (disch := omega) only [mX1_arrival, hx, gI_thr, gz_0, gz_1, true_or, or_true, or_false, false_or, rdI_e, rdZ_e, rdL_e, wrI_e, wrL_e, bX_some, bE_inl, bE_inr, bT_inl, bT_inr, wf_eq, wfL_eq, wfR_eq, gkc_chip, gkc_dsg, gkc_lib, gk_chip, gk_dsg, gk_lib, gth_e rx, inside_0 rx, inside_1, need_0 rx, need_1, now_0 rx, now_1, roomX_0 rx, roomX_1, w32_id, w32_gI, ← Int.not_lt, not_true_eq_false, not_false_eq_true, if_true, if_false, reduceIte, Bool.false_eq_true, Int.toNat_natCast, Int.reduceToNat, Int.toNat_add, Int.toNat_mul, Int.reduceLT, Int.reduceEq, Int.reduceNeg, Nat.reduceAdd, hI_sI, and_self, Nat.reduceEqDiff, true_and, and_true, and_false, false_and, ne_eq, q2']
      · simp (disch := omega) only [mX23_arrival, m_isNet_f (m_isChip_t h eS h1 hq) (m.cg (fun a i _ _ => eS a i)) w hk h2' q1, gI_thr, gz_0, gz_1, true_or, or_true, or_false, false_or, rdI_e, rdZ_e, rdL_e, wrI_e, wrL_e, bX_some, bE_inl, bE_inr, bT_inl, bT_inr, wf_eq, wfL_eq, wfR_eq, gkc_chip, gkc_dsg, gkc_lib, gk_chip, gk_dsg, gk_lib, gth_e rx, inside_0 rx, inside_1, need_0 rx, need_1, now_0 rx, now_1, roomX_0 rx, roomX_1, w32_id, w32_gI, ← Int.not_lt, not_true_eq_false, not_false_eq_true, if_true, if_false, reduceIte, Bool.false_eq_true, Int.toNat_natCast, Int.reduceToNat, Int.toNat_add, Int.toNat_mul, Int.reduceLT, Int.reduceEq, Int.reduceNeg, Nat.reduceAdd, hI_sI, and_self, Nat.reduceEqDiff, true_and, and_true, and_false, false_and, ne_eq, w32_1, w32_0, gI_set]
  · refine L_modF (m1 := fun S1 => mX23_arrival S1 _ _ _) 1 1 h hc ?_ rfl (by omega) (fun S1 eS => ?_)
    · rw [mX1_arrival, chipIn_f hq rx h1]; rfl
    · unfold mX23_arrival; rw [m_isNet_no (m_isChip_f h eS h1 hq)]; rfl
end ARRIVAL
