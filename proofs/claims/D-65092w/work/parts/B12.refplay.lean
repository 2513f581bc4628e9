/-! the reference plays chips: words of sixty-four patterns -/
def gW (S : Sto) (a n i : Nat) : Bool := tb (gL S a n) i
theorem tb_lit {x : Int64} {f : Fin 64 → Bool} (h : ∀ i : Fin 64, tb x i.val = f i) {i : Nat} (hi : i < 64) : tb x i = f ⟨i, hi⟩ := h ⟨i, hi⟩
theorem patt0 : ∀ i : Fin 64, tb (-6148914691236517206) i.val = i.val.testBit 0 := by decide
theorem patt1 : ∀ i : Fin 64, tb (-3689348814741910324) i.val = i.val.testBit 1 := by decide
theorem patt2 : ∀ i : Fin 64, tb (-1085102592571150096) i.val = i.val.testBit 2 := by decide
theorem patt3 : ∀ i : Fin 64, tb (-71777214294589696) i.val = i.val.testBit 3 := by decide
theorem patt4 : ∀ i : Fin 64, tb (-281470681808896) i.val = i.val.testBit 4 := by decide
theorem patt5 : ∀ i : Fin 64, tb (-4294967296) i.val = i.val.testBit 5 := by decide
theorem testBit_split {w i b : Nat} (hi : i < 64) : (64 * w + i).testBit b = if b < 6 then i.testBit b else w.testBit (b - 6) := by
  have e : 64 * w + i = 2 ^ 6 * w + i := rfl
  rw [e, Nat.testBit_two_pow_mul_add _ hi]
theorem m_base {b w : Nat} (hb : b < 12) (hw : w < 64) : WP (mX23_base (b : Int) (w : Int)) (fun x => ∀ i, i < 64 → tb x i = (64 * w + i).testBit b) := by
  unfold mX23_base
  rw [w32_id (by omega)]
  have hc : b = 0 ∨ b = 1 ∨ b = 2 ∨ b = 3 ∨ b = 4 ∨ b = 5 ∨ 6 ≤ b := by omega
  rcases hc with rfl | rfl | rfl | rfl | rfl | rfl | h6
  · exact WP_some.2 (fun i hi => by rw [testBit_split hi]; exact patt0 ⟨i, hi⟩)
  · exact WP_some.2 (fun i hi => by rw [testBit_split hi]; exact patt1 ⟨i, hi⟩)
  · exact WP_some.2 (fun i hi => by rw [testBit_split hi]; exact patt2 ⟨i, hi⟩)
  · exact WP_some.2 (fun i hi => by rw [testBit_split hi]; exact patt3 ⟨i, hi⟩)
  · exact WP_some.2 (fun i hi => by rw [testBit_split hi]; exact patt4 ⟨i, hi⟩)
  · exact WP_some.2 (fun i hi => by rw [testBit_split hi]; exact patt5 ⟨i, hi⟩)
  · have e : ((b : Int) - 6) = ((b - 6 : Nat) : Int) := by omega
    rw [if_neg (by omega), if_neg (by omega), if_neg (by omega), if_neg (by omega), if_neg (by omega), if_neg (by omega), e, aBit (by omega) (by omega), w32_b2i]
    simp only [b2i_eq1, WP_ite, WP_some, WP_none, WE_inl, WE_inr, wf, wfL, wfR, rdI_e, rdZ_e, rdL_e, wrI_e, wrL_e, bX_some, bE_inl, bE_inr, bT_inl, bT_inr, bX_ite, ite_someI, ite_someL, ite_someB, tt_eq, iteb, gz_01, gz_b2i]
    intro i hi
    rw [testBit_split hi, if_neg (show ¬ b < 6 by omega)]
    cases w.testBit (b - 6) with
    | true => rw [if_pos rfl]; exact tb_m1 hi
    | false => rw [if_neg (by decide)]; exact tb_0
/-- which row of a table three words tell -/
def idx3 (m : Nat) (a b d : Bool) : Nat := bitsN m (fun k => if k = 0 then a else if k = 1 then b else d)
theorem idx3_eq {m s : Nat} (hm : 1 ≤ m ∧ m ≤ 3) (hs : s < 2 ^ m) (a b d : Bool) : (idx3 m a b d = s) ↔ (a = s.testBit 0 ∧ (1 < m → b = s.testBit 1) ∧ (2 < m → d = s.testBit 2)) := by
  have hc : m = 1 ∨ m = 2 ∨ m = 3 := by omega
  rcases hc with rfl | rfl | rfl
  · have hc : s = 0 ∨ s = 1 := by omega
    rcases hc with rfl | rfl <;> revert a b d <;> decide
  · have hc : s = 0 ∨ s = 1 ∨ s = 2 ∨ s = 3 := by omega
    rcases hc with rfl | rfl | rfl | rfl <;> revert a b d <;> decide
  · have hc : s = 0 ∨ s = 1 ∨ s = 2 ∨ s = 3 ∨ s = 4 ∨ s = 5 ∨ s = 6 ∨ s = 7 := by omega
    rcases hc with rfl | rfl | rfl | rfl | rfl | rfl | rfl | rfl <;> revert a b d <;> decide
theorem m_toldBy {f m : Nat} {x y z : Int64} (hf : f < 256) (hm : 1 ≤ m ∧ m ≤ 3) : WP (mX23_toldBy (f : Int) (m : Int) x y z) (fun v => ∀ i, i < 64 → tb v i = f.testBit (idx3 m (tb x i) (tb y i) (tb z i))) := by
  have h2 : 2 ^ m ≤ 8 := Nat.pow_le_pow_right (n := 2) (by omega) hm.2
  unfold mX23_toldBy
  refine WP_call (R := fun v => ∀ i, i < 64 → tb v i = f.testBit (idx3 m (tb x i) (tb y i) (tb z i))) ?_ (fun v h => WP_some.2 h)
  refine WP_cnt (2 ^ m) (fun s t => t.2 = (s : Int) ∧ ∀ i, i < 64 → tb t.1 i = (decide (idx3 m (tb x i) (tb y i) (tb z i) < s) && f.testBit (idx3 m (tb x i) (tb y i) (tb z i)))) (by unfold cFU; omega) ⟨rfl, fun i hi => by simp [tb_0]⟩ (fun s t hs hI => ?_) (fun t hI => ?_)
  · obtain ⟨a1, a2⟩ := hI
    have hp : aAnd (s : Int) 1 = b2i (s.testBit 0) := by
      have := aBit (x := s) (k := 0) (by omega) (by omega)
      rwa [show aShr (s : Int) ((0 : Nat) : Int) = s by rw [aShr_nat (by omega) (by omega)]; simp] at this
    simp (disch := omega) only [mX23_toldBy_L6, a1, aShl1, hp, WP_ite, WP_some, WP_none, WE_inl, WE_inr, wf, wfL, wfR, rdI_e, rdZ_e, rdL_e, wrI_e, wrL_e, bX_some, bE_inl, bE_inr, bT_inl, bT_inr, bX_ite, ite_someI, ite_someL, ite_someB, tt_eq, iteb, gz_01, gz_b2i, w32_id, w32_gI, w32_bz, Int.toNat_natCast, Int.reduceToNat, Int.toNat_add, Int.toNat_mul, Int.ofNat_lt, Int.ofNat_le, Int.natCast_inj, Int.natCast_one]
    refine ⟨fun _ => ?_, fun _ => by omega⟩
    have q1 : aAnd (aShr (s : Int) 1) 1 = b2i (s.testBit 1) := aBit (x := s) (k := 1) (by omega) (by omega)
    have q2 : aAnd (aShr (s : Int) 2) 1 = b2i (s.testBit 2) := aBit (x := s) (k := 2) (by omega) (by omega)
    have q3 : aAnd (aShr (f : Int) (s : Int)) 1 = b2i (f.testBit s) := aBit (by omega) (by omega)
    simp (disch := omega) only [q1, q2, q3, w32_b2i, b2i_eq1, WP_ite, WP_some, WP_none, WE_inl, WE_inr, wf, wfL, wfR, rdI_e, rdZ_e, rdL_e, wrI_e, wrL_e, bX_some, bE_inl, bE_inr, bT_inl, bT_inr, bX_ite, ite_someI, ite_someL, ite_someB, tt_eq, iteb, gz_01, gz_b2i, w32_id, w32_gI, w32_bz, Int.toNat_natCast, Int.reduceToNat, Int.toNat_add, Int.toNat_mul, Int.ofNat_lt, Int.ofNat_le, Int.natCast_inj]
    refine ⟨by omega, fun i hi => ?_⟩
    have e := idx3_eq hm hs (tb x i) (tb y i) (tb z i)
    rw [tb_or, a2 i hi]
    have m1 := tb_m1 hi
    have m0 := tb_0 (i := i)
    have n1 := tb_not (x := x) hi
    have n2 := tb_not (x := y) hi
    have n3 := tb_not (x := z) hi
    by_cases hq : idx3 m (tb x i) (tb y i) (tb z i) = s
    · grind [tb_and]
    · grind [tb_and]
  · obtain ⟨a1, a2⟩ := hI
    simp (disch := omega) only [mX23_toldBy_L6, a1, aShl1, WP_ite, WP_some, WP_none, WE_inl, WE_inr, wf, wfL, wfR, rdI_e, rdZ_e, rdL_e, wrI_e, wrL_e, bX_some, bE_inl, bE_inr, bT_inl, bT_inr, bX_ite, ite_someI, ite_someL, ite_someB, tt_eq, iteb, gz_01, gz_b2i, w32_id, w32_gI, w32_bz, Int.toNat_natCast, Int.reduceToNat, Int.toNat_add, Int.toNat_mul, Int.ofNat_lt, Int.ofNat_le, Int.natCast_inj]
    refine ⟨fun _ => by omega, fun _ i hi => ?_⟩
    have e : idx3 m (tb x i) (tb y i) (tb z i) < 2 ^ m := bitsN_lt m _
    rw [a2 i hi, decide_eq_true e, Bool.true_and]
section MPLAY
variable {S : Sto} {k : Nat} {C : Chp}
theorem m_cellOf (h : RefK S k C) (w : WFC C) (hk : k < 4) {p : Int} (hp : 0 ≤ p ∧ p < kG C) : mX23_cellOf S (k : Int) p = some ((12 * k + kC C p.toNat : Nat) : Int) := by
  have hn := w.nums
  have e := h.2.1 p.toNat (by omega)
  have hc := w.c (g := p.toNat) (by omega)
  simp (disch := omega) only [mX23_cellOf, rdI_e, rdZ_e, rdL_e, wrI_e, wrL_e, bX_some, bE_inl, bE_inr, bT_inl, bT_inr, bX_ite, ite_someI, ite_someL, ite_someB, tt_eq, iteb, gz_01, gz_b2i, wf_eq, wfL_eq, wfR_eq, w32_id, w32_gI, w32_bz, Int.toNat_natCast, Int.reduceToNat, Int.toNat_add, Int.toNat_mul, Int.ofNat_lt, Int.ofNat_le, Int.natCast_inj, e, hc.1]
  congr 1
theorem kIdx3 {v : Nat → Bool} {pn : Int} {b : Bool} {g : Nat} (hm : kAr C g ≤ 3) : kIdx C v pn b g = idx3 (kAr C g) (if ((3 * g : Nat) : Int) = pn then b else v (kP C g 0)) (if ((3 * g + 1 : Nat) : Int) = pn then b else v (kP C g 1)) (if ((3 * g + 2 : Nat) : Int) = pn then b else v (kP C g 2)) := by
  unfold kIdx idx3
  refine bitsN_congr (fun j hj => ?_)
  have hc : j = 0 ∨ j = 1 ∨ j = 2 := by omega
  rcases hc with rfl | rfl | rfl <;> rfl
theorem m_workNets (h : RefK S k C) (w : WFC C) (hk : k < 4) {u : Nat} (hu : u < 64) {st pn : Int} {x : Int64} {b : Bool} (hst : -1 ≤ st ∧ st < 1000) (hpn : -1 ≤ pn ∧ pn < 1000) (hx : ∀ i, i < 64 → tb x i = b) :
    WP (mX23_workNets S (k : Int) (u : Int) st pn x) (fun S' => ∀ n, n < kN C → ∀ i, i < 64 → tb (gL S' 2121 n) i = kValF C (64 * u + i) st pn b n) := by
  have hn := w.nums
  obtain ⟨⟨c1, c2, c3, c4, c5, c6, c7⟩, h2, h3, h4, h5, h6⟩ := h
  rw [w.i] at c1
  rw [w.r] at c2
  rw [w.g] at c4
  have h0 : RefK S k C := ⟨⟨by rw [c1, w.i], by rw [c2, w.r], c3, by rw [c4, w.g], c5, c6, c7⟩, h2, h3, h4, h5, h6⟩
  unfold mX23_workNets
  simp (disch := omega) only [c1, c2, WP_ite, WP_some, WP_none, WE_inl, WE_inr, wf, wfL, wfR, rdI_e, rdZ_e, rdL_e, wrI_e, wrL_e, bX_some, bE_inl, bE_inr, bT_inl, bT_inr, bX_ite, ite_someI, ite_someL, ite_someB, tt_eq, iteb, gz_01, gz_b2i, w32_id, w32_gI, w32_bz, Int.toNat_natCast, Int.reduceToNat, Int.toNat_add, Int.toNat_mul, Int.ofNat_lt, Int.ofNat_le, Int.natCast_inj]
  refine WP_call (R := fun S' => RefK S' k C ∧ ∀ n, n < kB C → ∀ i, i < 64 → tb (gL S' 2121 n) i = kValF C (64 * u + i) st pn b n) ?_ (fun S1 g1 => ?_)
  · refine WP_cnt (kB C) (fun j s => s.1 = (j : Int) ∧ RefK s.2 k C ∧ ∀ n, n < j → ∀ i, i < 64 → tb (gL s.2 2121 n) i = kValF C (64 * u + i) st pn b n) (by unfold cFU; omega) ⟨rfl, h0, by grind⟩ (fun j s hj hI => ?_) (fun s hI => ?_)
    · obtain ⟨a1, a2, a3⟩ := hI
      simp (disch := omega) only [mX23_workNets_L18, a1, WP_ite, WP_some, WP_none, WE_inl, WE_inr, wf, wfL, wfR, rdI_e, rdZ_e, rdL_e, wrI_e, wrL_e, bX_some, bE_inl, bE_inr, bT_inl, bT_inr, bX_ite, ite_someI, ite_someL, ite_someB, tt_eq, iteb, gz_01, gz_b2i, w32_id, w32_gI, w32_bz, Int.toNat_natCast, Int.reduceToNat, Int.toNat_add, Int.toNat_mul, Int.ofNat_lt, Int.ofNat_le, Int.natCast_inj]
      refine ⟨fun _ => ?_, fun _ => by omega⟩
      refine WP_call (R := fun y => ∀ i, i < 64 → tb y i = kValF C (64 * u + i) st pn b j) ?_ (fun y hy => ?_)
      · simp only [WP_ite, WP_some, WP_none, WE_inl, WE_inr, wf, wfL, wfR, rdI_e, rdZ_e, rdL_e, wrI_e, wrL_e, bX_some, bE_inl, bE_inr, bT_inl, bT_inr, bX_ite, ite_someI, ite_someL, ite_someB, tt_eq, iteb, gz_01, gz_b2i]
        refine ⟨fun e i hi => ?_, fun e => ?_⟩
        · rw [hx i hi, kValF_src hj, if_pos e]
        · refine WP_call (m_base (by omega) hu) (fun y hy => WP_some.2 (fun i hi => ?_))
          rw [hy i hi, kValF_src hj, if_neg e]
      · simp (disch := omega) only [WP_ite, WP_some, WP_none, WE_inl, WE_inr, wf, wfL, wfR, rdI_e, rdZ_e, rdL_e, wrI_e, wrL_e, bX_some, bE_inl, bE_inr, bT_inl, bT_inr, bX_ite, ite_someI, ite_someL, ite_someB, tt_eq, iteb, gz_01, gz_b2i, w32_id, w32_gI, w32_bz, Int.toNat_natCast, Int.reduceToNat, Int.toNat_add, Int.toNat_mul, Int.ofNat_lt, Int.ofNat_le, Int.natCast_inj]
        refine ⟨by omega, a2.sL, fun n hn' i hi => ?_⟩
        grind [gL_sL]
    · obtain ⟨a1, a2, a3⟩ := hI
      simp (disch := omega) only [mX23_workNets_L18, a1, WP_ite, WP_some, WP_none, WE_inl, WE_inr, wf, wfL, wfR, rdI_e, rdZ_e, rdL_e, wrI_e, wrL_e, bX_some, bE_inl, bE_inr, bT_inl, bT_inr, bX_ite, ite_someI, ite_someL, ite_someB, tt_eq, iteb, gz_01, gz_b2i, w32_id, w32_gI, w32_bz, Int.toNat_natCast, Int.reduceToNat, Int.toNat_add, Int.toNat_mul, Int.ofNat_lt, Int.ofNat_le, Int.natCast_inj]
      exact ⟨fun _ => by omega, fun _ => ⟨a2, a3⟩⟩
  · refine WP_call (R := fun S' => ∀ n, n < kN C → ∀ i, i < 64 → tb (gL S' 2121 n) i = kValF C (64 * u + i) st pn b n) ?_ (fun S2 g2 => WP_some.2 g2)
    refine WP_cnt (kG C) (fun j s => s.1 = (j : Int) ∧ RefK s.2 k C ∧ ∀ n, n < kB C + j → ∀ i, i < 64 → tb (gL s.2 2121 n) i = kValF C (64 * u + i) st pn b n) (by unfold cFU; omega) ⟨rfl, g1.1, by grind⟩ (fun j s hj hI => ?_) (fun s hI => ?_)
    · obtain ⟨a1, a2, a3⟩ := hI
      have ha := w.ar hj
      have hc := w.c hj
      have hli := w.li hc.2
      have hlf := w.lf hc.2
      have q1 := a2.1.2.2.2.1
      rw [w.g] at q1
      have q2 := (a2.2.2.2.2.2 _ hc.2).1
      have q3 := (a2.2.2.2.2.2 _ hc.2).2.1
      rw [hli.1] at q2
      rw [hlf.1] at q3
      have p0 := w.p hj (k := 0) (by omega)
      have r0 := a2.2.2.1 (3 * j) (by omega)
      have r1 := a2.2.2.1 (3 * j + 1) (by omega)
      have r2 := a2.2.2.1 (3 * j + 2) (by omega)
      have z0 : (3 * (150 * (k : Int) + j)).toNat = 450 * k + 3 * j := by omega
      have z1 : (3 * (150 * (k : Int) + j) + 1).toNat = 450 * k + (3 * j + 1) := by omega
      have z2 : (3 * (150 * (k : Int) + j) + 2).toNat = 450 * k + (3 * j + 2) := by omega
      have zc : ((12 * k + kC C j : Nat) : Int).toNat = 12 * k + kC C j := by omega
      rw [show C 5 (3 * j) = (kP C j 0 : Int) from p0.1] at r0
      simp (disch := omega) only [mX23_workNets_L58, a1, q1, m_cellOf a2 w hk, WP_ite, WP_some, WP_none, WE_inl, WE_inr, wf, wfL, wfR, rdI_e, rdZ_e, rdL_e, wrI_e, wrL_e, bX_some, bE_inl, bE_inr, bT_inl, bT_inr, bX_ite, ite_someI, ite_someL, ite_someB, tt_eq, iteb, gz_01, gz_b2i, Int.toNat_natCast, w32_id, zc, q2, q3, z0, z1, z2, r0, r1, r2]
      refine ⟨fun _ => ?_, fun _ => by omega⟩
      have f0 := a3 (kP C j 0) (by omega)
      refine WP_call (R := fun y => 1 < kAr C j → ∀ i, i < 64 → tb y i = if ((3 * j + 1 : Nat) : Int) = pn then b else kValF C (64 * u + i) st pn b (kP C j 1)) ?_ (fun y1 hy1 => ?_)
      · rw [WP_ite]
        refine ⟨fun e => WP_some.2 (fun hm => ?_), fun e => ?_⟩
        · exact absurd e (by have : kAr C j = kLi C (kC C j) := rfl; omega)
        · have p1 := w.p hj (k := 1) (by show 1 < kLi C (kC C j); omega)
          have f1 := a3 (kP C j 1) (by omega)
          rw [p1.1]
          simp (disch := omega) only [WP_ite, WP_some, WP_none, WE_inl, WE_inr, wf, wfL, wfR, rdI_e, rdZ_e, rdL_e, wrI_e, wrL_e, bX_some, bE_inl, bE_inr, bT_inl, bT_inr, bX_ite, ite_someI, ite_someL, ite_someB, tt_eq, iteb, gz_01, gz_b2i, w32_id, w32_gI, w32_bz, Int.toNat_natCast, Int.reduceToNat, Int.toNat_add, Int.toNat_mul, Int.ofNat_lt, Int.ofNat_le, Int.natCast_inj]
          intro _ i hi
          by_cases e2 : pn = 3 * (j : Int) + 1
          · rw [if_pos e2, if_pos (by omega)]; exact hx i hi
          · rw [if_neg e2, if_neg (by omega)]; exact f1 i hi
      refine WP_call (R := fun y => 2 < kAr C j → ∀ i, i < 64 → tb y i = if ((3 * j + 2 : Nat) : Int) = pn then b else kValF C (64 * u + i) st pn b (kP C j 2)) ?_ (fun y2 hy2 => ?_)
      · rw [WP_ite]
        refine ⟨fun e => WP_some.2 (fun hm => ?_), fun e => ?_⟩
        · exact absurd e (by have : kAr C j = kLi C (kC C j) := rfl; omega)
        · have p1 := w.p hj (k := 2) (by show 2 < kLi C (kC C j); omega)
          have f1 := a3 (kP C j 2) (by omega)
          rw [p1.1]
          simp (disch := omega) only [WP_ite, WP_some, WP_none, WE_inl, WE_inr, wf, wfL, wfR, rdI_e, rdZ_e, rdL_e, wrI_e, wrL_e, bX_some, bE_inl, bE_inr, bT_inl, bT_inr, bX_ite, ite_someI, ite_someL, ite_someB, tt_eq, iteb, gz_01, gz_b2i, w32_id, w32_gI, w32_bz, Int.toNat_natCast, Int.reduceToNat, Int.toNat_add, Int.toNat_mul, Int.ofNat_lt, Int.ofNat_le, Int.natCast_inj]
          intro _ i hi
          by_cases e2 : pn = 3 * (j : Int) + 2
          · rw [if_pos e2, if_pos (by omega)]; exact hx i hi
          · rw [if_neg e2, if_neg (by omega)]; exact f1 i hi
      refine WP_call (R := fun y => ∀ i, i < 64 → tb y i = kValF C (64 * u + i) st pn b (kB C + j)) ?_ (fun y3 hy3 => ?_)
      · rw [WP_ite]
        refine ⟨fun e => WP_some.2 (fun i hi => ?_), fun e => ?_⟩
        · rw [hx i hi, kValF_gate w hj, if_pos (by omega)]
        · refine WP_call (m_toldBy hlf.2 hli.2) (fun y hy => WP_some.2 (fun i hi => ?_))
          rw [hy i hi, kValF_gate w hj, if_neg (show ¬ ((kB C + j : Nat) : Int) = st by omega)]
          unfold kStep
          rw [kIdx3 ha.2]
          show (kLf C (kC C j)).testBit _ = (kLf C (kC C j)).testBit _
          congr 1
          show idx3 (kAr C j) _ _ _ = _
          unfold idx3
          refine bitsN_congr (fun z hz => ?_)
          have hc : z = 0 ∨ z = 1 ∨ z = 2 := by omega
          rcases hc with rfl | rfl | rfl
          · show tb _ i = _
            by_cases e2 : ((3 * j : Nat) : Int) = pn
            · rw [if_pos (by omega), if_pos e2]; exact hx i hi
            · rw [if_neg (by omega), if_neg e2]; exact f0 i hi
          · exact hy1 hz i hi
          · exact hy2 hz i hi
      · simp (disch := omega) only [WP_ite, WP_some, WP_none, WE_inl, WE_inr, wf, wfL, wfR, rdI_e, rdZ_e, rdL_e, wrI_e, wrL_e, bX_some, bE_inl, bE_inr, bT_inl, bT_inr, bX_ite, ite_someI, ite_someL, ite_someB, tt_eq, iteb, gz_01, gz_b2i, w32_id, w32_gI, w32_bz, Int.toNat_natCast, Int.reduceToNat, Int.toNat_add, Int.toNat_mul, Int.ofNat_lt, Int.ofNat_le, Int.natCast_inj]
        refine ⟨by omega, a2.sL, fun n hn' i hi => ?_⟩
        rw [gL_sL]
        split
        · rename_i e
          rw [e.2]
          have : ((kI C : Int) + (kR C : Int) + (j : Int)).toNat = kB C + j := by omega
          rw [hy3 i hi]
          congr 1
        · exact a3 n (by omega) i hi
    · obtain ⟨a1, a2, a3⟩ := hI
      have q1 := a2.1.2.2.2.1
      rw [w.g] at q1
      simp (disch := omega) only [mX23_workNets_L58, a1, q1, WP_ite, WP_some, WP_none, WE_inl, WE_inr, wf, wfL, wfR, rdI_e, rdZ_e, rdL_e, wrI_e, wrL_e, bX_some, bE_inl, bE_inr, bT_inl, bT_inr, bX_ite, ite_someI, ite_someL, ite_someB, tt_eq, iteb, gz_01, gz_b2i, w32_id, w32_gI, w32_bz, Int.toNat_natCast, Int.reduceToNat, Int.toNat_add, Int.toNat_mul, Int.ofNat_lt, Int.ofNat_le, Int.natCast_inj]
      refine ⟨fun _ => by omega, fun _ n hn' i hi => ?_⟩
      exact a3 n (by omega) i hi
end MPLAY
