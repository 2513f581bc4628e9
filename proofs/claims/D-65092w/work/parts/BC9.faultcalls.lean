/-! how many faults: the call -/
section FAULTC
variable {c : Nat} {S : Sto} {k : Nat} {C : Chp}
/-- how many of the first -/
def cntB (b : Nat → Bool) : Nat → Nat
  | 0 => 0
  | n + 1 => cntB b n + (if b n = true then 1 else 0)
theorem cntB_le {b : Nat → Bool} {n : Nat} : cntB b n ≤ n := by
  induction n with
  | zero => exact Nat.le_refl _
  | succ n ih => show cntB b n + (if b n = true then 1 else 0) ≤ _; split <;> omega
def noT (C : Chp) (f : Nat) : Bool := decide (kLeast C f = -1)
def shT (C : Chp) (f : Nat) : Bool := anyX C (C 29) f (-1) (kSn C)
theorem k_untested19 (hk : k < 4) (r : RepK S (344 + 22 * k) C) (w : WFC C) (rT : RepT S (344 + 22 * k) C) : WP (mX19_untested S (344 + 22 * k)) (fun x => x.1 = (cntB (noT C) (kFa C) : Int) ∧ ChQ k S x.2 ∧ RepT x.2 (344 + 22 * k) (teC C (C 28 0) (C 29) (C 30))) := by
  have fa := kFa_le w
  unfold mX19_untested
  refine WP_call (k_all hk r w rT) (fun x1 hx1 => ?_)
  obtain ⟨a1, a2, a3, a4⟩ := hx1
  have r1 := a2.K hk r
  refine WP_call (R := fun y => y = (cntB (noT C) (kFa C) : Int)) ?_ (fun y hy => WP_some.2 ⟨hy, a2, k_sameT rT a1 a3 a4⟩)
  refine WP_cnt (kFa C) (fun f z => z.2 = (f : Int) ∧ z.1 = (cntB (noT C) f : Int)) (by unfold cFU; omega) ⟨rfl, rfl⟩ (fun f z hf hI => ?_) (fun z hI => ?_)
  · obtain ⟨b1, b2⟩ := hI
    have lr := kLeast_rng w (f := f)
    have eC : cntB (noT C) (f + 1) = cntB (noT C) f + if noT C f = true then 1 else 0 := rfl
    unfold mX19_untested_L9
    rw [k_faults r1 w, bX_some, b1, w32_id (by omega), w32_id (by omega), if_pos (by omega), rdI_e (by omega), Int.toNat_natCast, (a1.2 f hf).1, w32_id (by omega)]
    refine WP_some.2 ⟨by show (f : Int) + 1 = _; omega, ?_⟩
    show z.1 + (if kLeast C f = -1 then 1 else 0) = _
    rw [b2, eC]
    unfold noT
    by_cases q : kLeast C f = -1
    · rw [if_pos q, if_pos (decide_eq_true q)]; omega
    · rw [if_neg q, if_neg (fun g => q (of_decide_eq_true g))]; omega
  · obtain ⟨b1, b2⟩ := hI
    unfold mX19_untested_L9
    rw [k_faults r1 w, bX_some, b1, w32_id (by omega), if_neg (by omega)]
    exact WP_some.2 b2
theorem k_shown19 (hk : k < 4) (r : RepK S (344 + 22 * k) C) (w : WFC C) (wT : WFT C) (rT : RepT S (344 + 22 * k) C) (h28 : C 28 0 ≠ -1) : WP (mX19_shown S (344 + 22 * k)) (fun x => x.1 = (cntB (shT C) (kFa C) : Int) ∧ ChQ k S x.2 ∧ RepT x.2 (344 + 22 * k) (teC C (C 28 0) (C 29) (C 30))) := by
  have fa := kFa_le w
  unfold mX19_shown
  refine WP_call (k_all hk r w rT) (fun x1 hx1 => ?_)
  obtain ⟨a1, a2, a3, a4⟩ := hx1
  rw [wfR_eq]
  obtain ⟨S2, hS2⟩ : ∃ S2, sR x1 264 0 (344 + 22 * k) = S2 := ⟨_, rfl⟩
  rw [hS2]
  have gT : gR S2 264 0 = 344 + 22 * k := by rw [← hS2, gR_sR, if_pos ⟨rfl, rfl⟩]
  have q2 : ChQ k x1 S2 := by rw [← hS2]; exact ⟨fun _ _ _ _ _ => rfl, fun _ _ _ _ => rfl, rfl, rfl⟩
  have k2 : KAll S2 k C := by rw [← hS2]; exact a1
  have r2 : RepK S2 (344 + 22 * k) C := (a2.tr q2).K hk r
  have row : KRow S2 k C := ⟨gT, fun f hf p hp => (k2.2 f hf).2 p hp⟩
  have e18 : ∀ i, i < kSn C → gI S2 (344 + 22 * k + 18) i = C 29 i := fun i hi => by rw [← hS2]; exact (a4 i).1.trans (rT.2.1 i hi).1
  have e19 : ∀ i, i < kSn C → gI S2 (344 + 22 * k + 19) i = C 30 i := fun i hi => by rw [← hS2]; exact (a4 i).2.trans (rT.2.1 i hi).2
  have e25 : gI S2 (344 + 22 * k) 25 = C 28 0 := by rw [← hS2]; exact a3.trans rT.1
  have ks : KSet S2 k C (C 29) (kSn C) := KSet.of w wT h28 e25 e18
  have rt : RepT S2 (344 + 22 * k) (teC C (C 28 0) (C 29) (C 30)) := k2.T e25 (fun i hi => ⟨e18 i hi, e19 i hi⟩)
  refine WP_call (R := fun y => y = (cntB (shT C) (kFa C) : Int)) ?_ (fun y hy => WP_some.2 ⟨hy, a2.tr q2, rt⟩)
  refine WP_cnt (kFa C) (fun f z => z.2 = (f : Int) ∧ z.1 = (cntB (shT C) f : Int)) (by unfold cFU; omega) ⟨rfl, rfl⟩ (fun f z hf hI => ?_) (fun z hI => ?_)
  · obtain ⟨b1, b2⟩ := hI
    have eC : cntB (shT C) (f + 1) = cntB (shT C) f + if shT C f = true then 1 else 0 := rfl
    unfold mX19_shown_L14
    rw [gT, gk_chip hk, k_faults r2 w, bX_some, b1, w32_id (by omega), w32_id (by omega), if_pos (by omega), k_isShown hk w (by omega) row ks hf, bX_some, w32_b2i]
    refine WP_some.2 ⟨by show (f : Int) + 1 = _; omega, ?_⟩
    show z.1 + (if ¬ b2i (shT C f) = 0 then 1 else 0) = _
    rw [b2, eC]
    cases shT C f
    · rw [if_neg (by decide), if_neg (by decide)]; omega
    · rw [if_pos (by decide), if_pos rfl]; omega
  · obtain ⟨b1, b2⟩ := hI
    unfold mX19_shown_L14
    rw [gT, gk_chip hk, k_faults r2 w, bX_some, b1, w32_id (by omega), if_neg (by omega)]
    exact WP_some.2 b2
theorem m_faults1 (r : RefK S k C) (w : WFC C) (hk : k < 4) (hM : MLeast S k C) {T : Sto} (hT : T = S) : WP (lpF (mX23_faults_L54 (kFa C : Int) 1 (k : Int)) (0, 0, 0, T)) (fun y => y.1 = (cntB (noT C) (kFa C) : Int) ∧ MLeast y.2.2 k C ∧ MhQ k S y.2.2 ∧ gI y.2.2 2000 0 = gI S 2000 0 ∧ (∀ a i, a = 2172 ∨ a = 2173 ∨ a = 2174 → gI y.2.2 a i = gI S a i) ∧ ∀ i, gL y.2.2 2175 i = gL S 2175 i) := by
  have fa := kFa_le w
  subst hT
  refine WP_cnt (kFa C) (fun f z => z.2.2.1 = (f : Int) ∧ z.1 = (cntB (noT C) f : Int) ∧ MLeast z.2.2.2 k C ∧ MhQ k T z.2.2.2 ∧ gI z.2.2.2 2000 0 = gI T 2000 0 ∧ (∀ a i, a = 2172 ∨ a = 2173 ∨ a = 2174 → gI z.2.2.2 a i = gI T a i) ∧ ∀ i, gL z.2.2.2 2175 i = gL T 2175 i) (by unfold cFU; omega) ⟨rfl, rfl, hM, MhQ.refl, rfl, fun _ _ _ => rfl, fun _ => rfl⟩ (fun f z hf hI => ?_) (fun z hI => ?_)
  · obtain ⟨z1, z2, z3, z4⟩ := z
    obtain ⟨b1, b2, b3, b4, b5, b6, b7⟩ := hI
    dsimp only at b1 b2 b3 b4 b5 b6 b7
    subst b1
    have eC : cntB (noT C) (f + 1) = cntB (noT C) f + if noT C f = true then 1 else 0 := rfl
    have lr := kLeast_rng w (f := f)
    unfold mX23_faults_L54
    dsimp only
    rw [w32_id (by omega), w32_id (by omega), if_pos (by omega), if_pos (by decide), bX_some, if_pos rfl, if_pos (by decide)]
    refine WP_call (R := fun y => y.1 = (if noT C f = true then 1 else 0) ∧ MLeast y.2 k C ∧ MhQ k T y.2 ∧ gI y.2 2000 0 = gI T 2000 0 ∧ (∀ a i, a = 2172 ∨ a = 2173 ∨ a = 2174 → gI y.2 a i = gI T a i) ∧ ∀ i, gL y.2 2175 i = gL T 2175 i) ?_ (fun y8 h8 => ?_)
    · refine WP_callF (m_leastPattern (b4.K r) w hk hf b3) fr_mX23_leastPattern (fun x hx hg => ?_)
      obtain ⟨a1, a2, a3⟩ := hx
      have e : ∀ a i, a = 2172 ∨ a = 2173 ∨ a = 2174 → gI x.2 a i = gI T a i := fun a i q => by
        rw [← b6 a i q]
        rcases q with rfl | rfl | rfl
        · exact hg.ei rfl
        · exact hg.ei rfl
        · exact hg.ei rfl
      have tl : MLeast x.2 k C ∧ MhQ k T x.2 ∧ gI x.2 2000 0 = gI T 2000 0 ∧ (∀ a i, a = 2172 ∨ a = 2173 ∨ a = 2174 → gI x.2 a i = gI T a i) ∧ ∀ i, gL x.2 2175 i = gL T 2175 i := ⟨a2, b4.tr (MhQ.least hg a3), (hg.ei rfl).trans b5, e, fun i => (hg.el rfl).trans (b7 i)⟩
      rw [a1, w32_id (by omega)]
      unfold noT
      by_cases q : kLeast C f = -1
      · rw [if_pos q]
        exact WP_some.2 ⟨by rw [if_pos (decide_eq_true q)], tl⟩
      · rw [if_neg q]
        exact WP_some.2 ⟨by rw [if_neg (fun g => q (of_decide_eq_true g))], tl⟩
    · obtain ⟨y1, y2⟩ := h8
      rw [if_neg (by decide), bX_some, if_neg (by decide), bX_some]
      refine WP_some.2 ⟨by show (f : Int) + 1 = _; omega, ?_, y2⟩
      show z1 + y8.1 = _
      rw [y1, b2, eC]
      split <;> omega
  · obtain ⟨z1, z2, z3, z4⟩ := z
    obtain ⟨b1, b2, b3, b4, b5, b6, b7⟩ := hI
    dsimp only at b1 b2 b3 b4 b5 b6 b7
    subst b1
    unfold mX23_faults_L54
    dsimp only
    rw [w32_id (by omega), if_neg (by omega), bX_some, if_neg (by decide)]
    exact WP_some.2 ⟨b2, b3, b4, b5, b6, b7⟩
theorem m_faults2 (w : WFC C) (hk : k < 4) {b : Nat → Bool} (hm : ∀ f, f < kFa C → ∃ x : Nat, x ≤ 2000 ∧ mX23_manyShow S (k : Int) (f : Int) = some (x : Int) ∧ (0 < x ↔ b f = true)) : WP (lpF (mX23_faults_L54 (kFa C : Int) 2 (k : Int)) (0, 0, 0, S)) (fun y => y.2.1 = (cntB b (kFa C) : Int) ∧ y.2.2 = S) := by
  have fa := kFa_le w
  refine WP_cnt (kFa C) (fun f z => z.2.2.1 = (f : Int) ∧ z.2.1 = (cntB b f : Int) ∧ z.2.2.2 = S) (by unfold cFU; omega) ⟨rfl, rfl, rfl⟩ (fun f z hf hI => ?_) (fun z hI => ?_)
  · obtain ⟨z1, z2, z3, z4⟩ := z
    obtain ⟨b1, b2, b3⟩ := hI
    dsimp only at b1 b2 b3
    subst b1; subst b3
    have eC : cntB b (f + 1) = cntB b f + if b f = true then 1 else 0 := rfl
    obtain ⟨x, x1, x2, x3⟩ := hm f hf
    unfold mX23_faults_L54
    dsimp only
    rw [w32_id (by omega), w32_id (by omega), if_pos (by omega), if_pos (by decide), bX_some, if_pos rfl, if_neg (by decide), bX_some, if_pos (by decide), x2, bX_some, w32_id (by omega)]
    cases e : b f with
    | true =>
      have := x3.2 e
      rw [e, if_pos rfl] at eC
      rw [if_pos (by omega), bX_some, if_pos rfl, bX_some]
      exact WP_some.2 ⟨by show (f : Int) + 1 = _; omega, by show z2 + 1 = _; omega, rfl⟩
    | false =>
      have : ¬ 0 < x := fun g => by rw [x3.1 g] at e; exact absurd e (by decide)
      rw [e, if_neg (by decide)] at eC
      rw [if_neg (by omega), bX_some, if_neg (by decide), bX_some]
      exact WP_some.2 ⟨by show (f : Int) + 1 = _; omega, by show z2 + 0 = _; omega, rfl⟩
  · obtain ⟨z1, z2, z3, z4⟩ := z
    obtain ⟨b1, b2, b3⟩ := hI
    dsimp only at b1 b2 b3
    subst b1; subst b3
    unfold mX23_faults_L54
    dsimp only
    rw [w32_id (by omega), if_neg (by omega), bX_some, if_neg (by decide)]
    exact WP_some.2 ⟨b2, rfl⟩
theorem L52 {p1 p2 : Int} (h : Inv c S) (hc : c < 64) (h1 : i32 p1) (h2 : i32 p2) : WP (mL_52 S p1 p2) (Inv (c + 1)) := by
  have rx := h.1.x hc
  unfold mL_52 mX0_faults
  by_cases hq : isCh S p1
  · have hx := chipIn_t hq; obtain ⟨k, C, hk, rfl, w, r, m, wx, rX, mX⟩ := InvC.get h hq; rw [Int.toNat_natCast] at hx; have hn := w.nums; have eg := r.1.2.2.2.1; have em := m.1.2.2.2.1; rw [w.g] at eg em; have ei := r.1.1; have mi := m.1.1; rw [w.i] at ei mi; have er := r.1.2.1; have mr := m.1.2.1; rw [w.r] at er mr; have eo := r.1.2.2.1; have mo := m.1.2.2.1; rw [w.o] at eo mo; have el := r.1.2.2.2.2.1; have ml := m.1.2.2.2.2.1; rw [w.l] at el ml
    have h2' := h2
    unfold i32 at h2
    have wt := wx.2.2.2.2
    have e28 := rX.2.2.2.2.1
    have w1' := wt.1
    have fa := kFa_le w
    -- the reference up to its loop
    have pre : ∀ S1, mX23_isChip S1 (k : Int) = some 1 → RefK S1 k C → 0 ≤ p2 ∧ p2 ≤ 2 → mX23_faults S1 (k : Int) p2 = bX (lpF (mX23_faults_L54 (kFa C : Int) p2 (k : Int)) (0, 0, 0, sI S1 2000 0 0)) fun y11 => bX (if w32 p2 = 0 then some (kFa C : Int) else if w32 p2 = 1 then some y11.1 else rdI 4 y11.2.2 2172 (k : Int) fun v12 => if w32 v12 = (-1) then some (-1) else some y11.2.1) fun y13 => some (y13, y11.2.2) := fun S1 ch m1 q => by
      have m2 : RefK (sI S1 2000 0 0) k C := (Sc.refl.sI rfl : Sc S1 (sI S1 2000 0 0)).M m1
      unfold mX23_faults
      rw [ch, bX_some, if_neg (by decide), m_within_t h2 (by omega) (by omega) q, bX_some, if_neg (by decide), bX_some, wf_eq, gI_set, if_neg (by decide), m_faultCount m2 w hk, bX_some]
    by_cases q0 : p2 = 0
    · subst q0
      refine L_scr (m1 := fun S1 => mX23_faults S1 _ _) (kFa C : Int) h hc ?_ (fun S1 eS => ?_)
      · unfold mX1_faults
        rw [hx, bT_inl, gkc_chip hk, if_pos (by decide), k_faults r w, bX_some]
        exact WP_some.2 ⟨rfl, Sc.refl⟩
      · rw [pre S1 (eS.chip h h1 hq) (eS.M m) (by omega)]
        have lo : lpF (mX23_faults_L54 (kFa C : Int) 0 (k : Int)) (0, 0, 0, sI S1 2000 0 0) = some (0, 0, sI S1 2000 0 0) := by
          refine WP.of ?_
          refine WP_cnt 0 (fun _ z => z = (0, 0, 0, sI S1 2000 0 0)) (by unfold cFU; omega) rfl (fun i z hi _ => absurd hi (Nat.not_lt_zero _)) (fun z hI => ?_)
          subst hI
          unfold mX23_faults_L54
          dsimp only
          have : (if w32 (0 : Int) < w32 (kFa C : Int) then if 0 < w32 0 then some true else some false else some false) = some false := by
            rw [if_neg (show ¬ (0 : Int) < w32 0 by decide)]; split <;> rfl
          rw [this, bX_some, if_neg (by decide)]
          exact WP_some.2 rfl
        rw [lo, bX_some, if_pos (by decide), bX_some]
        exact WP_some.2 ⟨rfl, gI_set, Sc.refl.sI rfl⟩
    by_cases q1 : p2 = 1
    · subst q1
      refine L_tst (m1 := fun S1 => mX23_faults S1 _ _) (cntB (noT C) (kFa C) : Int) (C 28 0) (C 29) (C 30) h hc hk w r m wx rX mX (WFT_same wt) ?_ (fun S1 g => ?_)
      · unfold mX1_faults
        rw [hx, bT_inl, gkc_chip hk, if_neg (by decide), if_pos (by decide)]
        refine WP_call (k_untested19 hk r w rX.2.2.2.2) (fun x hx' => WP_some.2 hx')
      · have m1 := g.M hk m
        have t1 := g.T hk w wt mX.2.2.2.2
        have s0 : Sc S1 (sI S1 2000 0 0) := Sc.refl.sI rfl
        have hM : MLeast (sI S1 2000 0 0) k C := fun f hf => by rw [hI_sI_a (by omega)]; exact t1.2.2.2 f hf
        rw [pre S1 (g.chip hk h h1 hq) m1 (by omega)]
        refine WP_call (m_faults1 (s0.M m1) w hk hM rfl) (fun y hy => ?_)
        obtain ⟨y1, y2, y3, y4, y5, y6⟩ := hy
        rw [if_neg (by decide), if_pos (by decide), bX_some]
        refine WP_some.2 ⟨y1, y4.trans gI_set, s0.H.tr y3, m_sameT t1 y2 (fun a i q => (y5 a i q).trans (hI_sI_a (by omega))) (fun i => (y6 i).trans rfl)⟩
    by_cases q2 : p2 = 2
    · subst q2
      by_cases q28 : C 28 0 = -1
      · refine L_scr (m1 := fun S1 => mX23_faults S1 _ _) (-1) h hc ?_ (fun S1 eS => ?_)
        · unfold mX1_faults
          rw [hx, bT_inl, gkc_chip hk, if_neg (by decide), if_neg (by decide), if_pos (by decide), e28, q28, if_pos (by decide), bX_some]
          exact WP_some.2 ⟨rfl, Sc.refl⟩
        · have t1 := eS.Y w wx mX
          have f28 : gI (sI S1 2000 0 0) 2172 k = -1 := by rw [hI_sI_a (by omega)]; have := t1.2.2.2.2.1; rw [q28] at this; exact this
          rw [pre S1 (eS.chip h h1 hq) (eS.M m) (by omega)]
          refine WP_call (m_faults2 (S := sI S1 2000 0 0) (b := fun _ => false) w hk (fun f hf => ⟨0, by omega, ?_, by simp⟩)) (fun y hy => ?_)
          · unfold mX23_manyShow
            have : lpF (mX23_manyShow_L5 (sI S1 2000 0 0) (k : Int) (f : Int)) (0, 0) = some 0 := by
              refine WP.of ?_
              refine WP_cnt 0 (fun _ z => z = (0, 0)) (by unfold cFU; omega) rfl (fun i z hi _ => absurd hi (Nat.not_lt_zero _)) (fun z hI => ?_)
              subst hI
              unfold mX23_manyShow_L5
              rw [rdI_e (by omega), Int.toNat_natCast, f28, if_neg (by decide)]
              exact WP_some.2 rfl
            rw [this]; rfl
          · rw [hy.2, if_neg (by decide), if_neg (by decide), rdI_e (by omega), Int.toNat_natCast, f28, if_pos (by decide), bX_some]
            exact WP_some.2 ⟨rfl, gI_set, Sc.refl.sI rfl⟩
      · refine L_tst (m1 := fun S1 => mX23_faults S1 _ _) (cntB (shT C) (kFa C) : Int) (C 28 0) (C 29) (C 30) h hc hk w r m wx rX mX (WFT_same wt) ?_ (fun S1 g => ?_)
        · unfold mX1_faults
          rw [hx, bT_inl, gkc_chip hk, if_neg (by decide), if_neg (by decide), if_pos (by decide), e28, w32_id (by omega), if_neg q28]
          refine WP_call (R := fun x => x.1 = (cntB (shT C) (kFa C) : Int) ∧ ChQ k S x.2 ∧ RepT x.2 (344 + 22 * k) (teC C (C 28 0) (C 29) (C 30))) ?_ (fun x hx' => WP_some.2 hx')
          refine WP_call (k_shown19 hk r w wt rX.2.2.2.2 q28) (fun x hx' => WP_some.2 hx')
        · have m1 := g.M hk m
          have t1 := g.T hk w wt mX.2.2.2.2
          have s0 : Sc S1 (sI S1 2000 0 0) := Sc.refl.sI rfl
          have t2 : RefT (sI S1 2000 0 0) k C := by
            obtain ⟨a1, a2, a3, a4⟩ := t1
            exact ⟨by rw [hI_sI_a (by omega)]; exact a1, fun i hi => by rw [hI_sI_a (by omega), hI_sI_a (by omega)]; exact a2 i hi, a3, fun f hf => by rw [hI_sI_a (by omega)]; exact a4 f hf⟩
          have ms : MSet (sI S1 2000 0 0) k C (C 29) (kSn C) := MSet.of wt q28 t2
          obtain ⟨n1, n2⟩ := wt.num q28
          rw [pre S1 (g.chip hk h h1 hq) m1 (by omega)]
          refine WP_call (m_faults2 (S := sI S1 2000 0 0) (b := shT C) w hk (fun f hf => ⟨cntS C (C 29) f (kSn C), by have := cntS_le (C := C) (set := C 29) (f := f) (n := kSn C); omega, m_manyShow w hk ms hf, ?_⟩)) (fun y hy => ?_)
          · have c0 := cntS_0 (C := C) (set := C 29) (f := f) (n := kSn C)
            unfold shT
            cases e : anyX C (C 29) f (-1) (kSn C) with
            | true => exact ⟨fun _ => rfl, fun _ => Nat.pos_of_ne_zero (fun g' => by rw [c0.1 g'] at e; exact absurd e (by decide))⟩
            | false => exact ⟨fun g' => by have := c0.2 e; omega, fun g' => absurd g' (by decide)⟩
          · obtain ⟨y1, y2⟩ := hy
            rw [y2, if_neg (by decide), if_neg (by decide), rdI_e (by omega), Int.toNat_natCast, t2.1, w32_id (by omega), if_neg q28, bX_some]
            exact WP_some.2 ⟨y1, gI_set, s0.H, m_sameT t2 (fun f hf => t2.2.2.2 f hf) (fun _ _ _ => rfl) (fun _ => rfl)⟩
    · refine L_modF (m1 := fun S1 => mX23_faults S1 _ _) 2 2 h hc ?_ rfl (by omega) (fun S1 eS => ?_)
      · unfold mX1_faults
        rw [hx, bT_inl, gkc_chip hk, w32_id h2, if_neg q0, if_neg q1, if_neg q2, gth_e rx]
      · unfold mX23_faults
        rw [m_isChip_t h eS h1 hq, bX_some, if_neg (by decide), m_within_f h2 (by omega) (by omega) (by omega), bX_some, if_pos (by decide), bX_some, wf_eq, gI_set, if_pos (by decide)]
  · refine L_modF (m1 := fun S1 => mX23_faults S1 _ _) 1 1 h hc ?_ rfl (by omega) (fun S1 eS => ?_)
    · unfold mX1_faults; rw [chipIn_f hq rx h1]; rfl
    · unfold mX23_faults; rw [m_isChip_f h eS h1 hq]; rfl
end FAULTC
