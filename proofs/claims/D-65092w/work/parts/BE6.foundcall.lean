/-! found: parts of the reference, the call -/
section MPARTS2
variable {S : Sto} {k : Nat} {C : Chp} {N : Nat} {f : Nat → Nat}
theorem m_f97 (hc0 : gI S 2000 159 = (kPn C : Int)) (hn : kBx C ≤ 2000) (hP : kPn C ≤ 640) (hN : N = kBx C + kPn C) :
    WP (lpF (mX23_found_L97 (kBx C : Int)) (0, S)) (fun z => Ch 2152 2152 S z ∧ ∀ x, x < N → gI z 2152 x = 0) := by
  refine WP_cnt N (fun i z => z.1 = (i : Int) ∧ Ch 2152 2152 S z.2 ∧ ∀ x, x < i → gI z.2 2152 x = 0) (by unfold cFU; omega) ⟨rfl, Ch.refl, fun x hx => absurd hx (by omega)⟩ (fun i z hi hI => ?_) (fun z hI => ?_)
  · obtain ⟨z1, z2⟩ := z
    obtain ⟨b1, b2, b3⟩ := hI
    dsimp only at b1 b2 b3
    subst b1
    have hc : gI z2 2000 159 = (kPn C : Int) := (b2.1 _ _ (by omega)).trans hc0
    unfold mX23_found_L97
    dsimp only
    rw [hc, w32_id (by omega), w32_id (by omega), if_pos (by omega), wrI_e (by omega), Int.toNat_natCast]
    refine WP_some.2 ⟨by show (i : Int) + 1 = _; omega, b2.sI (by omega), fun x hx => ?_⟩
    by_cases q : x = i
    · subst q
      show gI (sI z2 2152 x 0) 2152 x = _
      rw [gI_set, w32_id (by omega)]
    · show gI (sI z2 2152 i 0) 2152 x = _
      rw [hI_sI_i q]; exact b3 x (by omega)
  · obtain ⟨z1, z2⟩ := z
    obtain ⟨b1, b2, b3⟩ := hI
    dsimp only at b1 b2 b3
    subst b1
    have hc : gI z2 2000 159 = (kPn C : Int) := (b2.1 _ _ (by omega)).trans hc0
    unfold mX23_found_L97
    dsimp only
    rw [hc, w32_id (by omega), w32_id (by omega), if_neg (by omega)]
    exact WP_some.2 ⟨b2, b3⟩
theorem m_f125 (hc0 : gI S 2000 159 = (kPn C : Int)) (hn : kBx C ≤ 2000) (hP : kPn C ≤ 640) (hN : N = kBx C + kPn C) (hf : URt S 2149 N f) (h0 : ∀ x, x < N → gI S 2152 x = 0) :
    WP (lpF (mX23_found_L125 (kBx C : Int)) (0, S)) (fun z => Ch 2149 2152 S z ∧ URt z 2149 N f ∧ ∀ x, x < N → gI z 2152 x = (bo (tP C (ptF C f) x) : Int)) := by
  refine WP_cnt (kPn C) (fun i z => z.1 = (i : Int) ∧ Ch 2149 2152 S z.2 ∧ URt z.2 2149 N f ∧ ∀ x, x < N → gI z.2 2152 x = (bo (∃ p, p < i ∧ ptF C f p = x) : Int)) (by unfold cFU; omega) ⟨rfl, Ch.refl, hf, fun x hx => by show gI S 2152 x = _; rw [h0 x hx, bo_f (fun ⟨p, h1, _⟩ => by omega)]; rfl⟩ (fun i z hi hI => ?_) (fun z hI => ?_)
  · obtain ⟨z1, z2⟩ := z
    obtain ⟨b1, b2, b3, b4⟩ := hI
    dsimp only at b1 b2 b3 b4
    subst b1
    have hc : gI z2 2000 159 = (kPn C : Int) := (b2.1 _ _ (by omega)).trans hc0
    have ei : (kBx C : Int) + (i : Int) = ((kBx C + i : Nat) : Int) := by omega
    have li := b3.le (x := kBx C + i) (by omega)
    unfold mX23_found_L125
    dsimp only
    rw [hc, w32_id (by omega), w32_id (by omega), if_pos (by omega), ei]
    refine WP_call (m_partOf b3 (by omega) (show kBx C + i < N by omega)) (fun x14 h14 => ?_)
    obtain ⟨a1, a2, a3⟩ := h14
    rw [a1, wrI_e (by omega), Int.toNat_natCast]
    refine WP_some.2 ⟨by show (i : Int) + 1 = _; omega, (b2.tr a3 (by omega) (by omega)).sI (by omega), a2.cg (fun i => hI_sI_a (by omega)), fun x hx => ?_⟩
    by_cases q : x = f (kBx C + i)
    · subst q
      show gI (sI x14.2 2152 (f (kBx C + i)) 1) 2152 (f (kBx C + i)) = _
      rw [gI_set, w32_id (by omega), bo_t ⟨i, by omega, rfl⟩]; rfl
    · show gI (sI x14.2 2152 (f (kBx C + i)) 1) 2152 x = _
      rw [hI_sI_i q, a3.1 _ _ (by omega), b4 x hx]
      refine congrArg _ (bo_cg ⟨fun ⟨p, h1, h2⟩ => ⟨p, by omega, h2⟩, fun ⟨p, h1, h2⟩ => ⟨p, ?_, h2⟩⟩)
      by_cases l : p = i
      · rw [l] at h2; exact absurd h2.symm q
      · omega
  · obtain ⟨z1, z2⟩ := z
    obtain ⟨b1, b2, b3, b4⟩ := hI
    dsimp only at b1 b2 b3 b4
    subst b1
    have hc : gI z2 2000 159 = (kPn C : Int) := (b2.1 _ _ (by omega)).trans hc0
    unfold mX23_found_L125
    dsimp only
    rw [hc, w32_id (by omega), if_neg (by omega)]
    exact WP_some.2 ⟨b2, b3, b4⟩
theorem m_f163 (hc0 : gI S 2000 159 = (kPn C : Int)) (hn : kBx C ≤ 2000) (hP : kPn C ≤ 640) (hN : N = kBx C + kPn C) (hf : URt S 2149 N f) (h0 : ∀ x, x < N → gI S 2152 x = (bo (tP C (ptF C f) x) : Int)) :
    WP (lpF (mX23_found_L163 (kBx C : Int)) (0, 0, 0, S)) (fun z => z.1 = (nP2 C N f (ptF C f) true : Int) ∧ z.2.1 = (nP2 C N f (ptF C f) false : Int)) := by
  refine WP_cnt N (fun i z => z.2.2.1 = (i : Int) ∧ z.1 = (nP2 C i f (ptF C f) true : Int) ∧ z.2.1 = (nP2 C i f (ptF C f) false : Int) ∧ Ch 2149 2149 S z.2.2.2 ∧ URt z.2.2.2 2149 N f) (by unfold cFU; omega) ⟨rfl, rfl, rfl, Ch.refl, hf⟩ (fun i z hi hI => ?_) (fun z hI => ?_)
  · obtain ⟨z1, z2, z3, z4⟩ := z
    obtain ⟨b1, b2, b3, b4, b5⟩ := hI
    dsimp only at b1 b2 b3 b4 b5
    subst b1 b2 b3
    have hc : gI z4 2000 159 = (kPn C : Int) := (b4.1 _ _ (by omega)).trans hc0
    have li := b5.le (x := i) hi
    unfold mX23_found_L163
    dsimp only
    rw [hc, w32_id (by omega), w32_id (by omega), if_pos (by omega)]
    refine WP_call (m_partOf b5 (by omega) hi) (fun x18 h18 => ?_)
    obtain ⟨a1, a2, a3⟩ := h18
    have fl18 : gI x18.2 2152 i = (bo (tP C (ptF C f) i) : Int) := (a3.1 _ _ (by omega)).trans ((b4.1 _ _ (by omega)).trans (h0 i hi))
    have fin : ∀ (y : Sto) (n1 n2 : Nat), Ch 2149 2149 S y → URt y 2149 N f → bo (f i = i ∧ (true = true ↔ tP C (ptF C f) i)) = n1 → bo (f i = i ∧ (false = true ↔ tP C (ptF C f) i)) = n2 →
        WP (some (Sum.inl ((nP2 C i f (ptF C f) true : Int) + (n1 : Int), (nP2 C i f (ptF C f) false : Int) + (n2 : Int), (i : Int) + 1, y) : (Int × Int × Int × Sto) ⊕ (Int × Int × Sto))) (WE (fun z => z.2.2.1 = ((i + 1 : Nat) : Int) ∧ z.1 = (nP2 C (i + 1) f (ptF C f) true : Int) ∧ z.2.1 = (nP2 C (i + 1) f (ptF C f) false : Int) ∧ Ch 2149 2149 S z.2.2.2 ∧ URt z.2.2.2 2149 N f) (fun z => z.1 = (nP2 C N f (ptF C f) true : Int) ∧ z.2.1 = (nP2 C N f (ptF C f) false : Int))) :=
      fun y n1 n2 g1 g2 g3 g4 => by
        refine WP_some.2 ⟨by show (i : Int) + 1 = _; omega, ?_, ?_, g1, g2⟩
        · show (nP2 C i f (ptF C f) true : Int) + (n1 : Int) = ((nP2 C i f (ptF C f) true + bo (f i = i ∧ (true = true ↔ tP C (ptF C f) i)) : Nat) : Int)
          rw [g3]; omega
        · show (nP2 C i f (ptF C f) false : Int) + (n2 : Int) = ((nP2 C i f (ptF C f) false + bo (f i = i ∧ (false = true ↔ tP C (ptF C f) i)) : Nat) : Int)
          rw [g4]; omega
    rw [a1, w32_id (by omega)]
    by_cases q : f i = i
    · rw [if_pos (by omega), rdZ_e (by omega), Int.toNat_natCast, fl18]
      by_cases t : tP C (ptF C f) i
      · rw [bo_t t, if_pos (by decide), bX_some, if_pos rfl, bX_some]
        refine WP_call (m_partOf a2 (by omega) hi) (fun x21 h21 => ?_)
        obtain ⟨c1, c2, c3⟩ := h21
        have fl21 : gI x21.2 2152 i = (bo (tP C (ptF C f) i) : Int) := (c3.1 _ _ (by omega)).trans fl18
        rw [c1, w32_id (by omega), if_pos (by omega), rdZ_e (by omega), Int.toNat_natCast, fl21, bo_t t, if_neg (by decide), bX_some, if_neg (by decide), bX_some]
        exact fin x21.2 1 0 ((b4.tr a3 (by omega) (by omega)).tr c3 (by omega) (by omega)) c2 (bo_t ⟨q, ⟨fun _ => t, fun _ => rfl⟩⟩) (bo_f (fun g => absurd (g.2.2 t) (by decide)))
      · rw [bo_f t, if_neg (by decide), bX_some, if_neg (by decide), bX_some]
        refine WP_call (m_partOf a2 (by omega) hi) (fun x21 h21 => ?_)
        obtain ⟨c1, c2, c3⟩ := h21
        have fl21 : gI x21.2 2152 i = (bo (tP C (ptF C f) i) : Int) := (c3.1 _ _ (by omega)).trans fl18
        rw [c1, w32_id (by omega), if_pos (by omega), rdZ_e (by omega), Int.toNat_natCast, fl21, bo_f t, if_pos (by decide), bX_some, if_pos rfl, bX_some]
        exact fin x21.2 0 1 ((b4.tr a3 (by omega) (by omega)).tr c3 (by omega) (by omega)) c2 (bo_f (fun g => t (g.2.1 rfl))) (bo_t ⟨q, ⟨fun g => absurd g (by decide), fun g => absurd g t⟩⟩)
    · rw [if_neg (by omega), bX_some, if_neg (by decide), bX_some]
      refine WP_call (m_partOf a2 (by omega) hi) (fun x21 h21 => ?_)
      obtain ⟨c1, c2, c3⟩ := h21
      rw [c1, w32_id (by omega), if_neg (by omega), bX_some, if_neg (by decide), bX_some]
      exact fin x21.2 0 0 ((b4.tr a3 (by omega) (by omega)).tr c3 (by omega) (by omega)) c2 (bo_f (fun g => q g.1)) (bo_f (fun g => q g.1))
  · obtain ⟨z1, z2, z3, z4⟩ := z
    obtain ⟨b1, b2, b3, b4, b5⟩ := hI
    dsimp only at b1 b2 b3 b4 b5
    subst b1 b2 b3
    have hc : gI z4 2000 159 = (kPn C : Int) := (b4.1 _ _ (by omega)).trans hc0
    unfold mX23_found_L163
    dsimp only
    rw [hc, w32_id (by omega), w32_id (by omega), if_neg (by omega)]
    exact WP_some.2 ⟨rfl, rfl⟩
end MPARTS2
/-- the answer -/
noncomputable def vFo (C : Chp) (f : Nat → Nat) (p2 : Int) : Int :=
  if p2 = 0 then (if nS2 C (ptF C f) + nO2 C (ptF C f) = 0 then 1 else 0) else if p2 = 1 then (nS2 C (ptF C f) : Int) else if p2 = 2 then (nO2 C (ptF C f) : Int) else if p2 = 3 then (nP2 C (kBx C + kPn C) f (ptF C f) true : Int) else (nP2 C (kBx C + kPn C) f (ptF C f) false : Int)
theorem bo_small {n : Nat} {g : Nat → Prop} : smN (fun a => bo (g a)) n ≤ n := by
  have := smN_le (f := fun a => bo (g a)) (n := n) (b := 1) (fun x _ => bo_le)
  omega
theorem nS2_le {C : Chp} {pt : Nat → Nat} (hN : kN C ≤ 162) : nS2 C pt ≤ 30000 ∧ nO2 C pt ≤ 162 := by
  have a := smN_le (f := fun a => smN (fun b => bo (tS C pt a b)) (kN C)) (n := kN C) (b := 162) (fun x _ => by
    have := bo_small (n := kN C) (g := fun b => tS C pt x b)
    omega)
  have b : kN C * 162 ≤ 162 * 162 := Nat.mul_le_mul_right _ hN
  have c := bo_small (n := kN C) (g := fun a => tO C pt a)
  unfold nS2 nO2
  omega
section FOUNDK
variable {S : Sto} {k : Nat} {C : Chp}
theorem k_found16 (r : RepK S (344 + 22 * k) C) (rP : RepP S (344 + 22 * k) C) (e20 : gI S (344 + 22 * k) 20 = C 23 0) (e24 : ∀ i, i < 5 * kBx C → gI S (344 + 22 * k + 15) i = C 24 i) (w : WFC C) (wp : WFP C) (wB : WFB C) (hB : C 23 0 ≠ -1) (hP0 : C 16 0 ≠ 0) (hk : k < 4) {p2 : Int} (h2 : 0 ≤ p2 ∧ p2 ≤ 4) :
    ∃ f, (∃ z, UFs z 241 (kBx C + kPn C) (EAll C) f) ∧ WP (mX16_found S (344 + 22 * k) p2) (fun z => z.1 = vFo C f p2) := by
  obtain ⟨nb, nb2⟩ := kBx_e wB hB
  have hP : kPn C ≤ 640 := (kPins_ok w).2
  have nums := w.nums
  have hN : kN C ≤ 162 := by omega
  have c1 : ∀ a i, gI (sR S 240 1 (344 + 22 * k)) a i = gI S a i := fun _ _ => rfl
  have r1 : RepK (sR S 240 1 (344 + 22 * k)) (344 + 22 * k) C := r
  obtain ⟨x3, g3, t1, t2, t3⟩ := k_take r1 w hk rfl
  have t3g : gR x3 240 1 = 344 + 22 * k := by
    have := t3.2.2.1 240 1
    rw [this]
    rfl
  have ga : KGa k C x3 := ⟨⟨t3g, (t3.1 _ _ (by omega)).trans e20, fun i hi => (t3.1 _ _ (by omega)).trans (e24 i hi)⟩, t1, t2, RepP.ch (S := sR (sR S 240 1 (344 + 22 * k)) 219 0 (344 + 22 * k)) rP t3 (by omega)⟩
  obtain ⟨x4, g4, t4, f, u4, v4⟩ := k_gather16 ga hk w wp wB hB hP0 hP
  refine ⟨f, ⟨x4, u4⟩, ?_⟩
  have ht : KPt x4 C (ptF C f) := fun p hp => ⟨v4 p hp, by have := u4.1.le (x := kBx C + p) (by omega); show f (kBx C + p) < _; omega⟩
  have ga4 := ga.ch t4 (by omega)
  have r4 : RepK x4 (344 + 22 * k) C := r.cg (fun a i l1 l2 => (t4.1 _ _ (by omega)).trans (t3.1 _ _ (by omega)))
  have g1 := ga4.1.1
  obtain ⟨s, sS, hs⟩ := k_shorts r4 w g1 hk hP ga4.2.1 ht hN
  obtain ⟨o, oS, ho⟩ := k_opens r4 w g1 hk hP ga4.2.1 ht hN
  have bd := nS2_le (C := C) (pt := ptF C f) hN
  subst hs ho
  have pr : mX16_found S (344 + 22 * k) p2 = bX (some x4 : Option Sto) fun x4 => if w32 p2 = 0 then bX (mX16_shorts x4) fun x5 => bX (bX (if w32 x5 = 0 then bX (mX16_opens x4) fun x6 => if w32 x6 = 0 then some true else some false else some false) fun b => if b = true then some 1 else some 0) fun y7 => some (y7, x4) else if w32 p2 = 1 then bX (mX16_shorts x4) fun x8 => some (x8, x4) else if w32 p2 = 2 then bX (mX16_opens x4) fun x9 => some (x9, x4) else bX (mX16_parts x4 (if w32 p2 = 3 then 1 else 0)) fun x10 => some (x10.1, x10.2) := by
    unfold mX16_found
    rw [wfR_eq, gR_sR, if_pos ⟨rfl, rfl⟩, gk_chip hk, g3, bX_some, g4]
  rw [pr, bX_some, w32_id (by omega)]
  unfold vFo
  by_cases q0 : p2 = 0
  · rw [if_pos q0, if_pos q0, sS, bX_some, w32_id (by omega)]
    by_cases z : nS2 C (ptF C f) = 0
    · rw [if_pos (by omega), oS, bX_some, w32_id (by omega)]
      by_cases z2 : nO2 C (ptF C f) = 0
      · rw [if_pos (by omega), bX_some, if_pos rfl, bX_some, if_pos (by omega)]; exact WP_some.2 rfl
      · rw [if_neg (by omega), bX_some, if_neg (by decide), bX_some, if_neg (by omega)]; exact WP_some.2 rfl
    · rw [if_neg (by omega), bX_some, if_neg (by decide), bX_some, if_neg (by omega)]; exact WP_some.2 rfl
  · rw [if_neg q0, if_neg q0]
    by_cases q1 : p2 = 1
    · rw [if_pos q1, if_pos q1, sS, bX_some]; exact WP_some.2 rfl
    · rw [if_neg q1, if_neg q1]
      by_cases q2 : p2 = 2
      · rw [if_pos q2, if_pos q2, oS, bX_some]; exact WP_some.2 rfl
      · rw [if_neg q2, if_neg q2]
        have hpt : ∀ p, p < kPn C → ptF C f p < kBx C + kPn C := fun p hp => by have := u4.1.le (x := kBx C + p) (by omega); show f (kBx C + p) < _; omega
        by_cases q3 : p2 = 3
        · rw [if_pos q3, if_pos q3]
          exact WP_call (k_parts (v := true) ga4 hk wB hB hP ht u4.1 hpt) (fun y hy => WP_some.2 hy)
        · rw [if_neg q3, if_neg q3]
          exact WP_call (k_parts (v := false) ga4 hk wB hB hP ht u4.1 hpt) (fun y hy => WP_some.2 hy)
end FOUNDK
section FOUNDM
variable {S : Sto} {k : Nat} {C : Chp}
/-- the reference, once it has a chip whose boxes are set -/
def mFo (S : Sto) (p1 p2 : Int) : Option (Int × Sto) := bX (mX23_findParts S p1) fun x6 => if w32 p2 < 3 then bX (mX23_pinTroubles x6 p1 p2) fun x7 => bX (if 0 < w32 p2 then some x7.1 else if w32 x7.1 = 0 then some 1 else some 0) fun y8 => some (y8, x7.2) else rdI 4 x6 2147 p1 fun v9 => bX (lpF (mX23_found_L97 v9) (0, x6)) fun y12 => bX (lpF (mX23_found_L125 v9) (0, y12)) fun y16 => bX (lpF (mX23_found_L163 v9) (0, 0, 0, y16)) fun y24 => some ((if w32 p2 = 3 then y24.1 else y24.2.1), y24.2.2)
theorem m_fo (r : RefK S k C) (rP : RefP S k C) (h : MBx S k C) (w : WFC C) (wp : WFP C) (wB : WFB C) (hB : C 23 0 ≠ -1) (hP0 : C 16 0 ≠ 0) (hk : k < 4) {p2 : Int} (h2 : 0 ≤ p2 ∧ p2 ≤ 4) {f : Nat → Nat} {z0 : Sto} (u0 : UFs z0 241 (kBx C + kPn C) (EAll C) f) :
    WP (mFo S (k : Int) p2) (fun z => z.1 = vFo C f p2 ∧ gI z.2 2000 0 = gI S 2000 0) := by
  obtain ⟨nb, nb2⟩ := kBx_e wB hB
  have hP : kPn C ≤ 640 := (kPins_ok w).2
  have nums := w.nums
  have hN : kN C ≤ 162 := by omega
  have bd := nS2_le (C := C) (pt := ptF C f) hN
  unfold mFo
  refine WP_callF (m_findParts r rP h w wp wB hB hP0 hk hP) fr_mX23_findParts (fun x6 h6 hf6 => ?_)
  have e6 : gI x6 2000 0 = gI S 2000 0 := hf6.ei rfl
  obtain ⟨m1, m2, g, ug⟩ := h6
  have eg : ∀ x, x < kBx C + kPn C → f x = g x := UFs.eq u0 ug (fun a b e => ER_all.1 e) (fun a b e => ER_all.2 e)
  have ur : URt x6 2149 (kBx C + kPn C) f := fun x hx => by
    obtain ⟨y, y1, y2, y3, y4, y5⟩ := ug.1 x hx
    rw [← eg x hx, ← eg y (by omega)] at y3
    rw [← eg x hx] at y4 y5
    exact ⟨y, y1, y2, y3, y4, y5⟩
  unfold vFo
  rw [w32_id (by omega)]
  by_cases q : p2 < 3
  · rw [if_pos q]
    refine WP_callF (m_troubles w m1 hk nb m2 nb2 hP rfl ur ⟨h2.1, q⟩) fr_mX23_pinTroubles (fun x7 h7 hf7 => ?_)
    have e7 : gI x7.2 2000 0 = gI S 2000 0 := (hf7.ei rfl).trans e6
    by_cases q0 : p2 = 0
    · have e : x7.1 = (nS2 C (ptF C f) : Int) + (nO2 C (ptF C f) : Int) := by rw [h7, if_neg (by omega), if_neg (by omega)]
      rw [if_neg (show ¬ 0 < p2 by omega), e, w32_id (by omega), if_pos q0]
      by_cases z : nS2 C (ptF C f) + nO2 C (ptF C f) = 0
      · rw [if_pos (by omega), if_pos z, bX_some]; exact WP_some.2 ⟨rfl, e7⟩
      · rw [if_neg (by omega), if_neg z, bX_some]; exact WP_some.2 ⟨rfl, e7⟩
    · rw [if_pos (show 0 < p2 by omega), bX_some, h7, if_neg q0]
      refine WP_some.2 ⟨?_, e7⟩
      by_cases q1 : p2 = 1
      · show (if _ then _ else _) = _; rw [if_pos q1, if_pos q1]
      · have q2 : p2 = 2 := by omega
        show (if _ then _ else _) = _; rw [if_neg q1, if_neg q1, if_pos q2, if_pos q2]
  · rw [if_neg q, rdI_e (by omega), Int.toNat_natCast, m1.1, nb, if_neg (by omega), if_neg (by omega), if_neg (by omega)]
    refine WP_callF (m_f97 m2.1 nb2 hP rfl) fr_mX23_found_L97 (fun y12 h12 hf12 => ?_)
    obtain ⟨a1, a2⟩ := h12
    refine WP_callF (m_f125 ((a1.1 _ _ (by omega)).trans m2.1) nb2 hP rfl (ur.cg (fun i => a1.1 _ _ (by omega))) a2) fr_mX23_found_L125 (fun y16 h16 hf16 => ?_)
    obtain ⟨b1, b2, b3⟩ := h16
    refine WP_callF (m_f163 ((b1.1 _ _ (by omega)).trans ((a1.1 _ _ (by omega)).trans m2.1)) nb2 hP rfl b2 b3) fr_mX23_found_L163 (fun y24 h24 hf24 => WP_some.2 ⟨?_, (hf24.ei rfl).trans ((hf16.ei rfl).trans ((hf12.ei rfl).trans e6))⟩)
    obtain ⟨d1, d2⟩ := h24
    show (if _ then _ else _) = _
    by_cases q3 : p2 = 3
    · rw [if_pos q3, if_pos q3, d1]
    · rw [if_neg q3, if_neg q3, d2]
end FOUNDM
section FOUND
variable {c : Nat} {S : Sto}
theorem L40 {p1 p2 : Int} (h : Inv c S) (hc : c < 64) (h1 : i32 p1) (h2 : i32 p2) : WP (mL_40 S p1 p2) (Inv (c + 1)) := by
  have rx := h.1.x hc
  unfold mL_40 mX0_found
  by_cases hq : isCh S p1
  · have hx := chipIn_t hq; obtain ⟨k, C, hk, rfl, w, r, m, wx, rX, mX⟩ := InvC.get h hq; rw [Int.toNat_natCast] at hx; have hn := w.nums; have eg := r.1.2.2.2.1; have em := m.1.2.2.2.1; rw [w.g] at eg em; have ei := r.1.1; have mi := m.1.1; rw [w.i] at ei mi; have er := r.1.2.1; have mr := m.1.2.1; rw [w.r] at er mr; have eo := r.1.2.2.1; have mo := m.1.2.2.1; rw [w.o] at eo mo; have el := r.1.2.2.2.2.1; have ml := m.1.2.2.2.2.1; rw [w.l] at el ml
    have e23 := rX.2.2.1.1
    have f23 := mX.2.2.1.1
    have wB := wx.2.2.1
    have h2' := h2
    unfold i32 at h2
    by_cases q1 : 0 ≤ p2 ∧ p2 ≤ 4
    · have needs : (bX (if 0 ≤ w32 p2 then if w32 p2 ≤ 4 then some true else some false else some false) fun b => if b = true then some (1 : Int) else some 0) = some 1 := by
        rw [w32_id h2, if_pos q1.1, if_pos q1.2, bX_some, if_pos rfl]
      by_cases q2 : C 23 0 = -1
      · rw [q2] at e23
        rw [if_pos q2] at f23
        refine L_modF (m1 := fun S1 => mX23_found S1 _ _) 3 3 h hc ?_ rfl (by omega) (fun S1 eS => ?_)
        · rw [mX1_found, hx, bT_inl, gkc_chip hk, needs, bX_some, need_1, bT_inl, e23, if_neg (by decide), now_0 rx]; rfl
        · simp (disch := omega) only [mX23_found, m_isChip_t h eS h1 hq, m_within_t (p := p2) (a := 0) (b := 4) (by omega) (by omega) (by omega) q1, gI_thr, gz_0, gz_1, true_or, or_true, or_false, false_or, rdI_e, rdZ_e, rdL_e, wrI_e, wrL_e, bX_some, bE_inl, bE_inr, bT_inl, bT_inr, wf_eq, wfL_eq, wfR_eq, gkc_chip, gkc_dsg, gkc_lib, gk_chip, gk_dsg, gk_lib, gth_e rx, inside_0 rx, inside_1, need_0 rx, need_1, now_0 rx, now_1, roomX_0 rx, roomX_1, w32_id, w32_gI, ← Int.not_lt, not_true_eq_false, not_false_eq_true, if_true, if_false, reduceIte, Bool.false_eq_true, Int.toNat_natCast, Int.reduceToNat, Int.toNat_add, Int.toNat_mul, Int.reduceLT, Int.reduceEq, Int.reduceNeg, Nat.reduceAdd, hI_sI, and_self, Nat.reduceEqDiff, true_and, and_true, and_false, false_and, ne_eq, eS, f23, bz_0, w32_0, w32_1, gI_set]
      · rw [if_neg q2] at f23
        have hB : C 23 0 ≠ -1 := q2
        have hP0 : C 16 0 ≠ 0 := (wB.1.2.2 hB).1
        obtain ⟨f, ⟨z0, u0⟩, kf⟩ := k_found16 r rX.1 e23 rX.2.2.1.2 w wx.1 wB hB hP0 hk q1
        refine L_scr (m1 := fun S1 => mX23_found S1 _ _) (vFo C f p2) h hc ?_ (fun S1 eS => ?_)
        · rw [mX1_found, hx, bT_inl, gkc_chip hk, needs, bX_some, need_1, bT_inl, e23, w32_id (by have := wB.1; omega), if_pos hB, now_1, bT_inl]
          exact WP_callF kf fr_mX16_found (fun y hy hf => WP_some.2 ⟨hy, Sc.fr hf.1 rfl rfl⟩)
        · have mS := eS.M m
          have mSX := eS.Y w wx mX
          have f23' := mSX.2.2.1.1
          rw [if_neg q2] at f23'
          have s0 : Sc S1 (sI S1 2000 0 0) := Sc.refl.sI rfl
          have pr : mX23_found S1 (k : Int) p2 = mFo (sI S1 2000 0 0) (k : Int) p2 := by
            rw [mX23_found, eS.chip h h1 hq, bX_some, if_neg (by decide), m_within_t (p := p2) (a := 0) (b := 4) (by omega) (by omega) (by omega) q1, bX_some, if_neg (by decide), rdZ_e (by omega), Int.toNat_natCast, f23', bz_1, if_neg (by decide), bX_some, wf_eq, gI_set, if_neg (by decide)]
            rfl
          have sY := s0.Y w wx mSX
          have mm := m_fo (s0.M mS) sY.1 (MBx.of sY.2.2.1 q2) w wx.1 wB hB hP0 hk q1 u0
          rw [← pr] at mm
          obtain ⟨y, gy, y1, y2⟩ := mm
          exact ⟨y, gy, y1, y2.trans gI_set, Sc.fr (fr_mX23_found y gy) rfl rfl⟩
    · refine L_modF (m1 := fun S1 => mX23_found S1 _ _) 2 2 h hc ?_ rfl (by omega) (fun S1 eS => ?_)
      · have nn : (bX (if 0 ≤ w32 p2 then if w32 p2 ≤ 4 then some true else some false else some false) fun b => if b = true then some (1 : Int) else some 0) = some 0 := by
          rw [w32_id h2]
          by_cases t : 0 ≤ p2
          · rw [if_pos t, if_neg (fun g => q1 ⟨t, g⟩), bX_some, if_neg (by decide)]
          · rw [if_neg t, bX_some, if_neg (by decide)]
        rw [mX1_found, hx, bT_inl, gkc_chip hk, nn, bX_some, need_0 rx]; rfl
      · simp (disch := omega) only [mX23_found, m_isChip_t h eS h1 hq, m_within_f (p := p2) (a := 0) (b := 4) (by omega) (by omega) (by omega) q1, gI_thr, gz_0, gz_1, true_or, or_true, or_false, false_or, rdI_e, rdZ_e, rdL_e, wrI_e, wrL_e, bX_some, bE_inl, bE_inr, bT_inl, bT_inr, wf_eq, wfL_eq, wfR_eq, gkc_chip, gkc_dsg, gkc_lib, gk_chip, gk_dsg, gk_lib, gth_e rx, inside_0 rx, inside_1, need_0 rx, need_1, now_0 rx, now_1, roomX_0 rx, roomX_1, w32_id, w32_gI, ← Int.not_lt, not_true_eq_false, not_false_eq_true, if_true, if_false, reduceIte, Bool.false_eq_true, Int.toNat_natCast, Int.reduceToNat, Int.toNat_add, Int.toNat_mul, Int.reduceLT, Int.reduceEq, Int.reduceNeg, Nat.reduceAdd, hI_sI, and_self, Nat.reduceEqDiff, true_and, and_true, and_false, false_and, ne_eq, w32_1, w32_0, gI_set, Int.reduceLT]
  · refine L_modF (m1 := fun S1 => mX23_found S1 _ _) 1 1 h hc ?_ rfl (by omega) (fun S1 eS => ?_)
    · rw [mX1_found, chipIn_f hq rx h1]; rfl
    · unfold mX23_found; rw [m_isChip_f h eS h1 hq]; rfl
end FOUND
