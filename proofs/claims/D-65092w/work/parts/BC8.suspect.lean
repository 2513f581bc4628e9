/-! suspects: the call -/
def susF (b : Nat → Bool) : Nat → Nat → Int → Int
  | 0, _, _ => -1
  | m + 1, f, left => if b f = true then (if left = 0 then (f : Int) else susF b m (f + 1) (left - 1)) else susF b m (f + 1) left
section SUSPECT
variable {c : Nat} {S : Sto} {k : Nat} {C : Chp}
theorem susF_rng {b : Nat → Bool} : ∀ (m f : Nat) (l : Int), -1 ≤ susF b m f l ∧ susF b m f l < ((f + m : Nat) : Int) + 1 := by
  intro m
  induction m with
  | zero => intro f l; show (-1 : Int) ≤ -1 ∧ (-1 : Int) < _; omega
  | succ m ih =>
    intro f l
    show -1 ≤ (if b f = true then (if l = 0 then (f : Int) else susF b m (f + 1) (l - 1)) else susF b m (f + 1) l) ∧ (if b f = true then (if l = 0 then (f : Int) else susF b m (f + 1) (l - 1)) else susF b m (f + 1) l) < _
    have h1 := ih (f + 1) (l - 1)
    have h2 := ih (f + 1) l
    split
    · split <;> omega
    · omega
/-- marks of a set -/
def flS (C : Chp) (i : Nat) : Bool := decide (C 30 i = 1)
theorem flS_e (wT : WFT C) {i : Nat} (hi : i < kSn C) : C 30 i = b2i (flS C i) := by
  unfold flS b2i
  rcases (wT.2 i hi).2.2 with g | g
  · rw [g]; rfl
  · rw [g]; rfl
/-- whether a fault is suspect -/
def susB (C : Chp) (f : Nat) : Bool := anyS C (C 29) f (kSn C) && allS C (C 29) (flS C) f (kSn C)
theorem WFT.num (wT : WFT C) (h : C 28 0 ≠ -1) : C 28 0 = (kSn C : Int) ∧ kSn C ≤ 1224 := by have := wT.1; unfold kSn; omega
theorem KSet.of (w : WFC C) (wT : WFT C) (h28 : C 28 0 ≠ -1) {z : Sto} (h1 : gI z (344 + 22 * k) 25 = C 28 0) (h2 : ∀ i, i < kSn C → gI z (344 + 22 * k + 18) i = C 29 i) : KSet z k C (C 29) (kSn C) := by
  obtain ⟨n1, n2⟩ := wT.num h28
  refine ⟨by rw [h1, n1], n2, fun i hi => ?_⟩
  have := wT.2 i hi
  have e : (2 : Int) ^ kB C = ((2 ^ kB C : Nat) : Int) := ipow _
  rw [e] at this
  exact ⟨h2 i hi, this.1, this.2.1⟩
theorem MSet.of (wT : WFT C) (h28 : C 28 0 ≠ -1) (mT : RefT S k C) : MSet S k C (C 29) (kSn C) := by
  obtain ⟨n1, n2⟩ := wT.num h28
  obtain ⟨t1, t2, t3, t4⟩ := mT
  exact ⟨by rw [t1, n1], n2, fun i hi => (t2 i hi).1, t3⟩
theorem k_suspect19 (hk : k < 4) (r : RepK S (344 + 22 * k) C) (w : WFC C) (wT : WFT C) (rT : RepT S (344 + 22 * k) C) (h28 : C 28 0 ≠ -1) {p : Int} (hp : 0 ≤ p ∧ p < 2147483648) :
    WP (mX19_suspect S (344 + 22 * k) p) (fun x => x.1 = susF (susB C) (kFa C) 0 p ∧ ChQ k S x.2 ∧ RepT x.2 (344 + 22 * k) (teC C (C 28 0) (C 29) (C 30))) := by
  have fa := kFa_le w
  unfold mX19_suspect
  refine WP_call (k_all hk r w rT) (fun x1 hx1 => ?_)
  obtain ⟨a1, a2, a3, a4⟩ := hx1
  rw [wfR_eq]
  obtain ⟨S2, hS2⟩ : ∃ S2, sR x1 264 0 (344 + 22 * k) = S2 := ⟨_, rfl⟩
  rw [hS2]
  have gT : gR S2 264 0 = 344 + 22 * k := by rw [← hS2, gR_sR, if_pos ⟨rfl, rfl⟩]
  have q2 : ChQ k x1 S2 := by rw [← hS2]; exact ⟨fun _ _ _ _ _ => rfl, fun _ _ _ _ => rfl, rfl, rfl⟩
  have k2 : KAll S2 k C := by rw [← hS2]; exact a1
  have r2 : RepK S2 (344 + 22 * k) C := (a2.tr q2).K hk r
  have row : KRow S2 k C := ⟨gT, fun f hf p hp => (k2.2 f hf).2 p hp⟩
  have e18 : ∀ i, i < kSn C → gI S2 (344 + 22 * k + 18) i = C 29 i := fun i hi => by rw [← hS2]; exact (a4 i).1.trans (rT.2.1 i hi).1
  have e19 : ∀ i, i < kSn C → gI S2 (344 + 22 * k + 19) i = C 30 i := fun i hi => by rw [← hS2]; exact (a4 i).2.trans (rT.2.1 i hi).2
  have e25 : gI S2 (344 + 22 * k) 25 = C 28 0 := by rw [← hS2]; exact a3.trans rT.1
  have ks : KSet S2 k C (C 29) (kSn C) := KSet.of w wT h28 e25 e18
  have sus : ∀ f, f < kFa C → mX19_isSuspect S2 (f : Int) = some (b2i (susB C f)) := fun f hf => k_isSuspect hk w row ks hf (fun i hi => (e19 i hi).trans (flS_e wT hi))
  have rt : RepT S2 (344 + 22 * k) (teC C (C 28 0) (C 29) (C 30)) := k2.T e25 (fun i hi => ⟨e18 i hi, e19 i hi⟩)
  refine WP_bE.2 ?_
  refine WP_cnt (kFa C) (fun f z => z.2 = (f : Int) ∧ susF (susB C) (kFa C - f) f z.1 = susF (susB C) (kFa C) 0 p ∧ 0 ≤ z.1 ∧ z.1 ≤ p) (by unfold cFU; omega) ⟨rfl, rfl, hp.1, Int.le_refl _⟩ (fun f z hf hI => ?_) (fun z hI => ?_)
  · obtain ⟨z1, z2⟩ := z
    obtain ⟨b1, b2, b3, b4⟩ := hI
    dsimp only at b1 b2 b3 b4
    subst b1
    obtain ⟨m, hm⟩ : ∃ m, kFa C - f = m + 1 := ⟨kFa C - f - 1, by omega⟩
    have e' : kFa C - (f + 1) = m := by omega
    rw [hm] at b2
    have b2 : (if susB C f = true then (if z1 = 0 then (f : Int) else susF (susB C) m (f + 1) (z1 - 1)) else susF (susB C) m (f + 1) z1) = _ := b2
    unfold mX19_suspect_L15
    dsimp only
    rw [gT, gk_chip hk, k_faults r2 w, bX_some, w32_id (by omega), w32_id (by omega), if_pos (by omega), sus f hf, bX_some, w32_b2i]
    cases e : susB C f with
    | false =>
      rw [e, if_neg (by decide)] at b2
      rw [if_pos (by decide), bE_inl]
      exact WP_some.2 ⟨by show (f : Int) + 1 = _; omega, by rw [e']; exact b2, b3, b4⟩
    | true =>
      rw [e, if_pos rfl] at b2
      rw [if_neg (by decide), w32_id (by omega)]
      by_cases q : z1 = 0
      · rw [if_pos q] at b2
        rw [if_pos q, bE_inr]
        exact WP_some.2 ⟨b2, a2.tr q2, rt⟩
      · rw [if_neg q] at b2
        rw [if_neg q, bE_inl]
        exact WP_some.2 ⟨by show (f : Int) + 1 = _; omega, by rw [e']; exact b2, by show 0 ≤ z1 + (-1); omega, by show z1 + (-1) ≤ p; omega⟩
  · obtain ⟨z1, z2⟩ := z
    obtain ⟨b1, b2, b3, b4⟩ := hI
    dsimp only at b1 b2 b3 b4
    subst b1
    rw [Nat.sub_self] at b2
    unfold mX19_suspect_L15
    dsimp only
    rw [gT, gk_chip hk, k_faults r2 w, bX_some, w32_id (by omega), if_neg (by omega)]
    refine WP_some.2 (WP_some.2 ⟨b2, a2.tr q2, rt⟩)
theorem m_suspect49 (r : RefK S k C) (w : WFC C) (hk : k < 4) (wT : WFT C) (mT : RefT S k C) (h28 : C 28 0 ≠ -1) {p : Int} (hp : 0 ≤ p ∧ p < 2147483648) :
    WP (bE (lpF (mX23_suspect_L49 S (k : Int)) (p, 0)) fun y9 => some ((-1), S)) (fun y => y.1 = susF (susB C) (kFa C) 0 p ∧ y.2 = S) := by
  have fa := kFa_le w
  have ms : MSet S k C (C 29) (kSn C) := MSet.of wT h28 mT
  have sus : ∀ f, f < kFa C → mX23_isSuspect S (k : Int) (f : Int) = some (b2i (susB C f)) := fun f hf => m_isSuspect w hk ms hf (fun i hi => ((mT.2.1 i hi).2).trans (flS_e wT hi))
  refine WP_bE.2 ?_
  refine WP_cnt (kFa C) (fun f z => z.2 = (f : Int) ∧ susF (susB C) (kFa C - f) f z.1 = susF (susB C) (kFa C) 0 p ∧ 0 ≤ z.1 ∧ z.1 ≤ p) (by unfold cFU; omega) ⟨rfl, rfl, hp.1, Int.le_refl _⟩ (fun f z hf hI => ?_) (fun z hI => ?_)
  · obtain ⟨z1, z2⟩ := z
    obtain ⟨b1, b2, b3, b4⟩ := hI
    dsimp only at b1 b2 b3 b4
    subst b1
    obtain ⟨m, hm⟩ : ∃ m, kFa C - f = m + 1 := ⟨kFa C - f - 1, by omega⟩
    have e' : kFa C - (f + 1) = m := by omega
    rw [hm] at b2
    have b2 : (if susB C f = true then (if z1 = 0 then (f : Int) else susF (susB C) m (f + 1) (z1 - 1)) else susF (susB C) m (f + 1) z1) = _ := b2
    unfold mX23_suspect_L49
    dsimp only
    rw [m_faultCount r w hk, bX_some, w32_id (by omega), w32_id (by omega), if_pos (by omega), sus f hf, bX_some, w32_b2i]
    cases e : susB C f with
    | false =>
      rw [e, if_neg (by decide)] at b2
      rw [if_neg (by decide), bE_inl]
      exact WP_some.2 ⟨by show (f : Int) + 1 = _; omega, by rw [e']; exact b2, b3, b4⟩
    | true =>
      rw [e, if_pos rfl] at b2
      rw [if_pos (by decide), w32_id (by omega)]
      by_cases q : z1 = 0
      · rw [if_pos q] at b2
        rw [if_pos q, bE_inr]
        exact WP_some.2 ⟨b2, rfl⟩
      · rw [if_neg q] at b2
        rw [if_neg q, bE_inl]
        exact WP_some.2 ⟨by show (f : Int) + 1 = _; omega, by rw [e']; exact b2, by show 0 ≤ z1 + (-1); omega, by show z1 + (-1) ≤ p; omega⟩
  · obtain ⟨z1, z2⟩ := z
    obtain ⟨b1, b2, b3, b4⟩ := hI
    dsimp only at b1 b2 b3 b4
    subst b1
    rw [Nat.sub_self] at b2
    unfold mX23_suspect_L49
    dsimp only
    rw [m_faultCount r w hk, bX_some, w32_id (by omega), if_neg (by omega)]
    exact WP_some.2 (WP_some.2 ⟨b2, rfl⟩)
theorem L51 {p1 p2 : Int} (h : Inv c S) (hc : c < 64) (h1 : i32 p1) (h2 : i32 p2) : WP (mL_51 S p1 p2) (Inv (c + 1)) := by
  have rx := h.1.x hc
  unfold mL_51 mX0_suspect
  by_cases hq : isCh S p1
  · have hx := chipIn_t hq; obtain ⟨k, C, hk, rfl, w, r, m, wx, rX, mX⟩ := InvC.get h hq; rw [Int.toNat_natCast] at hx; have hn := w.nums; have eg := r.1.2.2.2.1; have em := m.1.2.2.2.1; rw [w.g] at eg em; have ei := r.1.1; have mi := m.1.1; rw [w.i] at ei mi; have er := r.1.2.1; have mr := m.1.2.1; rw [w.r] at er mr; have eo := r.1.2.2.1; have mo := m.1.2.2.1; rw [w.o] at eo mo; have el := r.1.2.2.2.2.1; have ml := m.1.2.2.2.2.1; rw [w.l] at el ml
    unfold i32 at h2
    have wt := wx.2.2.2.2
    have e28 := rX.2.2.2.2.1
    have f28 := mX.2.2.2.2.1
    have w1' := wt.1
    by_cases q1 : p2 < 0
    · refine L_modF (m1 := fun S1 => mX23_suspect S1 _ _) 1 1 h hc ?_ rfl (by omega) (fun S1 eS => ?_)
      · unfold mX1_suspect
        rw [hx, bT_inl, gkc_chip hk, w32_id h2, if_neg (by omega), inside_0 rx]; rfl
      · unfold mX23_suspect
        rw [m_isChip_t h eS h1 hq, bX_some, if_pos (by decide), w32_id h2, if_pos q1, bX_some, if_pos rfl, bX_some, wf_eq, gI_set, if_pos (by decide)]
    by_cases q2 : C 28 0 = -1
    · refine L_modF (m1 := fun S1 => mX23_suspect S1 _ _) 2 3 h hc ?_ rfl (by omega) (fun S1 eS => ?_)
      · unfold mX1_suspect
        rw [hx, bT_inl, gkc_chip hk, w32_id h2, if_pos (by omega), inside_1, bT_inl, e28, q2, if_neg (fun g => g rfl), now_0 rx]; rfl
      · unfold mX23_suspect
        rw [m_isChip_t h eS h1 hq, bX_some, if_pos (by decide), w32_id h2, if_neg q1, bX_some, if_neg (by decide), rdI_e (by omega), Int.toNat_natCast, eS, f28, q2, if_pos (by decide), bX_some, wf_eq, gI_set, if_pos (by decide)]
    · refine L_tst (m1 := fun S1 => mX23_suspect S1 _ _) (susF (susB C) (kFa C) 0 p2) (C 28 0) (C 29) (C 30) h hc hk w r m wx rX mX (WFT_same wt) ?_ (fun S1 g => ?_)
      · unfold mX1_suspect
        rw [hx, bT_inl, gkc_chip hk, w32_id h2, if_pos (by omega), inside_1, bT_inl, e28, w32_id (by omega), if_pos q2, now_1, bT_inl]
        refine WP_call (k_suspect19 hk r w wt rX.2.2.2.2 q2 (p := p2) (by omega)) (fun x hx' => WP_some.2 hx')
      · have m1 := g.M hk m
        have t1 := g.T hk w wt mX.2.2.2.2
        have s0 : Sc S1 (sI S1 2000 0 0) := Sc.refl.sI rfl
        have t2 : RefT (sI S1 2000 0 0) k C := by
          obtain ⟨a1, a2, a3, a4⟩ := t1
          exact ⟨by rw [hI_sI_a (by omega)]; exact a1, fun i hi => by rw [hI_sI_a (by omega), hI_sI_a (by omega)]; exact a2 i hi, a3, fun f hf => by rw [hI_sI_a (by omega)]; exact a4 f hf⟩
        unfold mX23_suspect
        rw [g.chip hk h h1 hq, bX_some, if_pos (by decide), w32_id h2, if_neg q1, bX_some, if_neg (by decide), rdI_e (by omega), Int.toNat_natCast, t1.1, w32_id (by omega), if_neg q2, bX_some, wf_eq, gI_set, if_neg (by decide)]
        refine WP.mono (m_suspect49 (s0.M m1) w hk wt t2 q2 (p := p2) (by omega)) (fun y hy => ?_)
        obtain ⟨y1, y2⟩ := hy
        rw [y2]
        refine ⟨y1, gI_set, s0.H, m_sameT t2 (fun f hf => t2.2.2.2 f hf) (fun _ _ _ => rfl) (fun _ => rfl)⟩
  · refine L_modF (m1 := fun S1 => mX23_suspect S1 _ _) 1 1 h hc ?_ rfl (by omega) (fun S1 eS => ?_)
    · unfold mX1_suspect; rw [chipIn_f hq rx h1]; rfl
    · unfold mX23_suspect; rw [m_isChip_f h eS h1 hq]; rfl
end SUSPECT
