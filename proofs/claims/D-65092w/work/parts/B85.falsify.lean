/-! falsify -/
def faC (C : Chp) (n e : Int) : Chp := fun f i => if f = 25 then C 25 0 + 1 else if f = 26 then (if i = kFs C then n else C 26 i) else if f = 27 then (if i = kFs C then e else C 27 i) else C f i
theorem faC_o {C : Chp} {n e : Int} {f i : Nat} (h : f < 25 ∨ 27 < f) : faC C n e f i = C f i := by unfold faC; rw [if_neg (by omega), if_neg (by omega), if_neg (by omega)]
section FALSIFY
variable {c : Nat} {S : Sto}
theorem L42 {p1 p2 p3 : Int} (h : Inv c S) (hc : c < 64) (h1 : i32 p1) (h2 : i32 p2) (h3 : i32 p3) : WP (mL_42 S p1 p2 p3) (Inv (c + 1)) := by
  have rx := h.1.x hc
  unfold mL_42 mX0_falsify
  by_cases hq : isCh S p1
  · have hx := chipIn_t hq; obtain ⟨k, C, hk, rfl, w, r, m, wx, rX, mX⟩ := InvC.get h hq; rw [Int.toNat_natCast] at hx; have hn := w.nums; have eg := r.1.2.2.2.1; have em := m.1.2.2.2.1; rw [w.g] at eg em; have ei := r.1.1; have mi := m.1.1; rw [w.i] at ei mi; have er := r.1.2.1; have mr := m.1.2.1; rw [w.r] at er mr; have eo := r.1.2.2.1; have mo := m.1.2.2.1; rw [w.o] at eo mo; have el := r.1.2.2.2.2.1; have ml := m.1.2.2.2.2.1; rw [w.l] at el ml
    have h2' := h2
    have h3' := h3
    unfold i32 at h2 h3
    have wF := wx.2.2.2.1
    have w0 := wF.1
    have hf : kFs C ≤ 40 ∧ C 25 0 = (kFs C : Int) := by unfold kFs; omega
    have e25 := rX.2.2.2.1.1
    rw [hf.2] at e25
    have f25 := mX.2.2.2.1.1
    rw [hf.2] at f25
    obtain ⟨L, hL⟩ : ∃ L, 344 + 22 * k = L := ⟨_, rfl⟩
    obtain ⟨S2, hS2⟩ : ∃ S2, sR S 244 1 (344 + 22 * k) = S2 := ⟨_, rfl⟩
    have sc2 : Sc S S2 := by rw [← hS2]; exact Sc.refl.sR
    have gT : gR S2 244 1 = 344 + 22 * k := by rw [← hS2, gR_sR, if_pos ⟨rfl, rfl⟩]
    have r2 := sc2.K hk r
    have X2 := sc2.X hk rX
    have rx2 : RoomX S2 := by unfold RoomX at rx ⊢; rw [sc2.2.2.1, sc2.2.2.2]; exact rx
    have kb := k_bits r2 w
    have ke := k_ends hk rfl gT r2 w
    have m1 : mX1_falsify S (k : Int) p2 p3 = bX (bX (if 0 ≤ w32 p2 then bX (mX22_bits S2 (344 + 22 * k)) fun x3 => if w32 p2 < w32 x3 then if 0 ≤ w32 p3 then bX (mX17_ends S2) fun x4 => if w32 p3 < w32 x4 then bX (mX17_netOfEnd S2 p3) fun x5 => if 0 ≤ w32 x5 then some true else some false else some false else some false else some false else some false) fun b => if b = true then some 1 else some 0) fun y6 => bT (mX1_inside S2 y6) fun x7 => bX (mX17_isFalse S2 p2 p3) fun x8 => if ¬ w32 x8 = 0 then some (Sum.inl (0, S2)) else bT (mX1_room S2 (if w32 (gI S2 (344 + 22 * k) 22) < 40 then 1 else 0)) fun x9 => wrI 40 S2 (344 + 22 * k + 16) (gI S2 (344 + 22 * k) 22) p2 fun S10 => wf S10 (344 + 22 * k) 22 ((gI S10 (344 + 22 * k) 22) + 1) fun S11 => wrI 40 S11 (344 + 22 * k + 17) (gI S10 (344 + 22 * k) 22) p3 fun S12 => some (Sum.inl (1, S12)) := by
      unfold mX1_falsify
      rw [hx, bT_inl, gkc_chip hk, wfR_eq, hS2]
    have mch : ∀ S1, (∀ a i, kept a i = true → gI S1 a i = gI S a i) → mX23_isChip S1 (k : Int) = some 1 := fun S1 eS => m_isChip_w h (fun i => eS _ _ (kept_rng (by omega))) (fun i => eS _ _ (kept_rng (by omega))) h1 hq
    have mK : ∀ S1, (∀ a i, kept a i = true → gI S1 a i = gI S a i) → RefK S1 k C := fun S1 eS => m.cg (fun a i l1 l2 => eS a i (kept_rng (by omega)))
    by_cases q1 : (0 ≤ p2 ∧ p2 < (kB C : Int)) ∧ (0 ≤ p3 ∧ p3 < ((kO C + kR C : Nat) : Int)) ∧ 0 ≤ kEnd C p3.toNat
    · obtain ⟨⟨a1, a2⟩, ⟨a3, a4⟩, a5⟩ := q1
      obtain ⟨n, rfl⟩ : ∃ n : Nat, p2 = (n : Int) := ⟨p2.toNat, by omega⟩
      obtain ⟨e, rfl⟩ : ∃ e : Nat, p3 = (e : Int) := ⟨p3.toNat, by omega⟩
      rw [Int.toNat_natCast] at a5
      have er' := kEnd_rng w (e := e) (by omega)
      have okc : (bX (if 0 ≤ w32 (n : Int) then bX (mX22_bits S2 (344 + 22 * k)) fun x3 => if w32 (n : Int) < w32 x3 then if 0 ≤ w32 (e : Int) then bX (mX17_ends S2) fun x4 => if w32 (e : Int) < w32 x4 then bX (mX17_netOfEnd S2 (e : Int)) fun x5 => if 0 ≤ w32 x5 then some true else some false else some false else some false else some false else some false) fun b => if b = true then some (1 : Int) else some 0) = some 1 := by
        rw [w32_id (by omega), if_pos a1, kb, bX_some, w32_id (by omega), if_pos a2, w32_id (by omega), if_pos a3, ke, bX_some, w32_id (by omega), if_pos a4, k_netOfEnd hk rfl gT r2 w (by omega), bX_some, w32_id (by omega), if_pos a5, bX_some, if_pos rfl]
      have okm : ∀ S1, (∀ a i, kept a i = true → gI S1 a i = gI S a i) → (bX (if 0 ≤ w32 (n : Int) then rdI 4 S1 2106 (k : Int) fun v2 => rdI 4 S1 2107 (k : Int) fun v3 => if w32 (n : Int) < w32 (v2 + v3) then bX (mX23_endNet S1 (k : Int) (e : Int)) fun x4 => if w32 x4 < 0 then some true else some false else some true else some true) fun b => if b = true then some (1 : Int) else some 0) = some 0 := fun S1 eS => by
        have r' := mK S1 eS
        have e0 := r'.1.1
        rw [w.i] at e0
        have e1 := r'.1.2.1
        rw [w.r] at e1
        rw [w32_id (by omega), if_pos a1, rdI_e (by omega), rdI_e (by omega), Int.toNat_natCast, e0, e1, w32_id (by omega), if_pos (by omega), m_endNet hk r' w (by omega), bX_some, w32_id (by omega), if_neg (by omega), bX_some, if_neg (by decide)]
      have isf := k_isFalse (p1 := (n : Int)) (p2 := (e : Int)) hk rfl gT X2.2.2.2.1 wF h2' h3'
      by_cases q2 : kFls C (n : Int) (e : Int) = true
      · rw [q2] at isf
        refine L_bscr (m1 := fun S1 => mX23_falsify S1 _ _ _) 0 h hc ?_ (fun S1 eS => ?_)
        · rw [m1, okc, bX_some, inside_1, bT_inl, isf, bX_some, if_pos (by decide)]
          exact WP_some.2 ⟨rfl, sc2⟩
        · have s0 : Sc S1 (sI S1 2000 0 0) := Sc.refl.sI rfl
          have isf' := m_isFalse (p1 := (n : Int)) (p2 := (e : Int)) hk (s0.Y w wx (eS.Y w wx mX)).2.2.2.1 wF h2' h3'
          rw [q2] at isf'
          rw [mX23_falsify, mch S1 eS.1, bX_some, if_pos (by decide), okm S1 eS.1, bX_some, wf_eq, gI_set, if_pos (by decide), isf', bX_some, if_pos (by decide), bX_some, if_pos rfl]
          exact WP_some.2 ⟨rfl, gI_set, s0⟩
      · have q2 := Bool.eq_false_iff.2 q2
        rw [q2] at isf
        have e25' : gI S2 (344 + 22 * k) 22 = (kFs C : Int) := by have := X2.2.2.2.1.1; rw [hf.2] at this; exact this
        by_cases q3 : kFs C = 40
        · refine L_bscrF (m1 := fun S1 => mX23_falsify S1 _ _ _) 2 4 h hc ?_ rfl (by omega) (fun S1 eS => ?_)
          · rw [m1, okc, bX_some, inside_1, bT_inl, isf, bX_some, if_neg (by decide), e25', w32_id (by omega), if_neg (by omega), roomX_0 rx2]
            exact WP_some.2 ⟨rfl, S2, rfl, sc2⟩
          · have s0 : Sc S1 (sI S1 2000 0 0) := Sc.refl.sI rfl
            obtain ⟨bF1, bF2⟩ := mX.2.2.2.1
            have kept0 : ∀ a i, kept a i = true → gI (sI S1 2000 0 0) a i = gI S a i := fun a i q => (s0.1 a i q).trans (eS a i q)
            have mF' : RefF (sI S1 2000 0 0) k C := ⟨(kept0 _ _ (kept_rng (by omega))).trans bF1, fun i hi => by rw [kept0 _ _ (kept_rng (by omega)), kept0 _ _ (kept_rng (by omega))]; exact bF2 i hi⟩
            have isf' := m_isFalse (p1 := (n : Int)) (p2 := (e : Int)) hk mF' wF h2' h3'
            rw [q2] at isf'
            have f' := mF'.1
            rw [hf.2, q3] at f'
            rw [mX23_falsify, mch S1 eS, bX_some, if_pos (by decide), okm S1 eS, bX_some, wf_eq, gI_set, if_pos (by decide), isf', bX_some, if_neg (by decide), bX_some, if_neg (by decide), rdI_e (by omega), Int.toNat_natCast, f', if_pos (by decide), wf_eq]
            exact WP_some.2 ⟨by rw [gI_set]; rfl, s0.sI rfl⟩
        · have hlt : kFs C < 40 := by omega
          refine L_boolS (m1 := fun S1 => mX23_falsify S1 _ _ _) ?_
          rw [m1, okc, bX_some, inside_1, bT_inl, isf, bX_some, if_neg (by decide), e25', w32_id (by omega), if_pos (by omega), roomX_1, bT_inl, wrI_e (by omega), Int.toNat_natCast, wf_eq, hI_sI_a (by omega), e25', wrI_e (by omega), Int.toNat_natCast]
          refine WP_some.2 ?_
          show WP (mX23_falsify (sL _ 2178 0 1) (k : Int) (n : Int) (e : Int)) _
          obtain ⟨S1, hS1⟩ : ∃ S1, sL (sI (sI (sI S2 (344 + 22 * k + 16) (kFs C) (n : Int)) (344 + 22 * k) 22 ((kFs C : Int) + 1)) (344 + 22 * k + 17) (kFs C) (e : Int)) 2178 0 1 = S1 := ⟨_, rfl⟩
          rw [show (1, sI (sI (sI S2 (344 + 22 * k + 16) (kFs C) (n : Int)) (344 + 22 * k) 22 ((kFs C : Int) + 1)) (344 + 22 * k + 17) (kFs C) (e : Int)).2 = sI (sI (sI S2 (344 + 22 * k + 16) (kFs C) (n : Int)) (344 + 22 * k) 22 ((kFs C : Int) + 1)) (344 + 22 * k + 17) (kFs C) (e : Int) from rfl, hS1]
          have eS : ∀ a i, (a < 344 ∨ 431 < a) → gI S1 a i = gI S a i := fun a i q => by
            rw [← hS1]; show gI (sI (sI (sI S2 _ _ _) _ _ _) _ _ _) a i = _
            rw [hI_sI_a (by omega), hI_sI_a (by omega), hI_sI_a (by omega), ← hS2]; rfl
          have mch1 : mX23_isChip S1 (k : Int) = some 1 := m_isChip_w h (fun i => eS _ _ (by omega)) (fun i => eS _ _ (by omega)) h1 hq
          have m1' : RefK S1 k C := m.cg (fun a i l1 l2 => eS a i (by omega))
          have e0 := m1'.1.1
          rw [w.i] at e0
          have e1 := m1'.1.2.1
          rw [w.r] at e1
          have kp0 : ∀ a i, 2105 ≤ a → gI (sI S1 2000 0 0) a i = gI S a i := fun a i q => (hI_sI_a (by omega)).trans (eS a i (by omega))
          obtain ⟨bF1, bF2⟩ := mX.2.2.2.1
          have mF' : RefF (sI S1 2000 0 0) k C := ⟨(kp0 _ _ (by omega)).trans bF1, fun i hi => by rw [kp0 _ _ (by omega), kp0 _ _ (by omega)]; exact bF2 i hi⟩
          have isf' := m_isFalse (p1 := (n : Int)) (p2 := (e : Int)) hk mF' wF h2' h3'
          rw [q2] at isf'
          have f' := mF'.1
          rw [hf.2] at f'
          have zt : (40 * (k : Int) + (kFs C : Int)).toNat = 40 * k + kFs C := by omega
          have f1 : gI (sI (sI S1 2000 0 0) 2156 (40 * k + kFs C) (n : Int)) 2155 k = (kFs C : Int) := by rw [hI_sI_a (by omega)]; exact f'
          have f2 : gI (sI (sI (sI S1 2000 0 0) 2156 (40 * k + kFs C) (n : Int)) 2157 (40 * k + kFs C) (e : Int)) 2155 k = (kFs C : Int) := by rw [hI_sI_a (by omega)]; exact f1
          rw [mX23_falsify, mch1, bX_some, if_pos (by decide), w32_id (show -2147483648 ≤ (n : Int) ∧ _ by omega), if_pos a1, rdI_e (by omega), rdI_e (by omega), Int.toNat_natCast, e0, e1, w32_id (by omega), if_pos (by omega), m_endNet hk m1' w (by omega), bX_some, w32_id (by omega), if_neg (by omega), bX_some, if_neg (by decide), bX_some, wf_eq, gI_set, if_pos (by decide), isf', bX_some, if_neg (by decide), bX_some, if_neg (by decide), rdI_e (by omega), Int.toNat_natCast, f', w32_id (by omega), if_neg (by omega), rdI_e (by omega), Int.toNat_natCast, f', wrI_e (by omega), zt, rdI_e (by omega), Int.toNat_natCast, f1, wrI_e (by omega), zt, rdI_e (by omega), Int.toNat_natCast, f2, wrI_e (by omega), Int.toNat_natCast]
          refine WP_some.2 ⟨rfl, ?_, ?_, ?_⟩
          · dsimp only; rw [hI_sI_a (by omega), hI_sI_a (by omega), hI_sI_a (by omega), gI_set]; rfl
          · show gL S1 2178 0 = _
            rw [← hS1, gL_sL, if_pos ⟨rfl, rfl⟩]; rfl
          · dsimp only
            obtain ⟨y, hy⟩ : ∃ y, sI (sI (sI (sI S1 2000 0 0) 2156 (40 * k + kFs C) (n : Int)) 2157 (40 * k + kFs C) (e : Int)) 2155 k ((kFs C : Int) + 1) = y := ⟨_, rfl⟩
            rw [hy]
            have yM : ∀ a i, ¬ (a = 2155 ∧ i = k) → ¬ ((a = 2156 ∨ a = 2157) ∧ i = 40 * k + kFs C) → ¬ (a = 2000 ∧ i = 0) → gI y a i = gI S1 a i := fun a i g1 g2 g3 => by
              rw [← hy, hI_sI, if_neg g1, hI_sI, if_neg (by omega), hI_sI, if_neg (by omega), hI_sI, if_neg g3]
            have y1K : ∀ a i, a ≠ 344 + 22 * k + 16 → a ≠ 344 + 22 * k + 17 → ¬ (a = 344 + 22 * k ∧ i = 22) → gI S1 a i = gI S a i := fun a i g1 g2 g3 => by
              rw [← hS1]; show gI (sI (sI (sI S2 _ _ _) _ _ _) _ _ _) a i = _
              rw [hI_sI_a (by omega), hI_sI, if_neg g3, hI_sI_a (by omega), ← hS2]; rfl
            have eL : ∀ a i, a ≠ 2178 → gL y a i = gL S a i := fun a i q => by
              rw [← hy]; show gL S1 a i = _
              rw [← hS1, gL_sL, if_neg (fun g => q g.1), ← hS2]; rfl
            have cl : ∀ a i, 344 + 22 * k ≤ a → a ≤ 344 + 22 * k + 21 → a ≠ 344 + 22 * k + 16 → a ≠ 344 + 22 * k + 17 → ¬ (a = 344 + 22 * k ∧ i = 22) → gI y a i = gI S a i := fun a i l1 l2 l3 l4 l5 => (yM a i (by omega) (by omega) (by omega)).trans (y1K a i l3 l4 l5)
            have gg : ∀ a i, 2105 ≤ a → a ≤ 2177 → a ≠ 2155 → a ≠ 2156 → a ≠ 2157 → gI y a i = gI S a i := fun a i l1 l2 l3 l4 l5 => (yM a i (by omega) (by omega) (by omega)).trans (y1K a i (by omega) (by omega) (by omega))
            refine h.chipQ hk (fun a i => (a = 344 + 22 * k + 16 ∨ a = 344 + 22 * k + 17 ∨ (a = 344 + 22 * k ∧ i = 22)) ∨ (a = 2155 ∧ i = k) ∨ ((a = 2156 ∨ a = 2157) ∧ i = 40 * k + kFs C)) (faC C (n : Int) (e : Int)) (fun a i q g => ?_) (fun a i g => ?_) (fun a i q _ _ => eL a i (by omega)) (by rw [← hy, ← hS1, ← hS2]; exact Nat.le_add_right _ _) (by rw [← hy, ← hS1, ← hS2]; exact Nat.le_add_right _ _) ?_
            · rw [yM a i (by omega) (by omega) (kept_ne2 q), y1K a i (by omega) (by omega) (by omega)]
            · rcases g with g | ⟨rfl, rfl⟩ | ⟨g, rfl⟩
              · exact .inl (by omega)
              · exact .inr (ownC_1 (by omega))
              · rcases g with rfl | rfl
                · exact .inr ⟨by omega, show 40 * k ≤ _ by omega, show _ < 40 * k + 40 by omega⟩
                · exact .inr ⟨by omega, show 40 * k ≤ _ by omega, show _ < 40 * k + 40 by omega⟩
            · have l14 : ∀ f i, f ≤ 14 → faC C (n : Int) (e : Int) f i = C f i := fun f i q => faC_o (by omega)
              have l12 : ∀ f i, f ≤ 12 → faC C (n : Int) (e : Int) f i = C f i := fun f i q => faC_o (by omega)
              have lt' : ∀ f i, 28 ≤ f → f ≤ 30 → faC C (n : Int) (e : Int) f i = C f i := fun f i q _ => faC_o (by omega)
              have n25 : faC C (n : Int) (e : Int) 25 0 = C 25 0 + 1 := rfl
              have nk : kFs (faC C (n : Int) (e : Int)) = kFs C + 1 := by unfold kFs; rw [n25]; omega
              have n26 : ∀ i, faC C (n : Int) (e : Int) 26 i = if i = kFs C then (n : Int) else C 26 i := fun i => rfl
              have n27 : ∀ i, faC C (n : Int) (e : Int) 27 i = if i = kFs C then (e : Int) else C 27 i := fun i => rfl
              obtain ⟨xP, xW, xB, xF, xT⟩ := wx
              obtain ⟨rP, rW, rB, rF, rT⟩ := rX
              obtain ⟨mP, mW, mB, mF, mT⟩ := mX
              have r' : RepK y (344 + 22 * k) C := by
                obtain ⟨t1, t2, t3, t4, t5, t6⟩ := r
                refine ⟨?_, fun g hg => ?_, fun g hg => ?_, fun g hg => ?_, fun g hg => ?_, fun g hg => ?_⟩
                · simp (disch := omega) only [cl]; exact t1
                · rw [cl _ _ (by omega) (by omega) (by omega) (by omega) (by omega)]; exact t2 g hg
                · rw [cl _ _ (by omega) (by omega) (by omega) (by omega) (by omega)]; exact t3 g hg
                · rw [cl _ _ (by omega) (by omega) (by omega) (by omega) (by omega)]; exact t4 g hg
                · rw [cl _ _ (by omega) (by omega) (by omega) (by omega) (by omega)]; exact t5 g hg
                · simp (disch := omega) only [cl]; exact t6 g hg
              have m' : RefK y k C := m.cg (fun a i l1 l2 => gg a i (by omega) (by omega) (by omega) (by omega) (by omega))
              have y16 : ∀ i, gI y (344 + 22 * k + 16) i = if i = kFs C then (n : Int) else gI S (344 + 22 * k + 16) i := fun i => by
                rw [yM _ _ (by omega) (by omega) (by omega), ← hS1]
                show gI (sI (sI (sI S2 _ _ _) _ _ _) _ _ _) _ i = _
                rw [hI_sI_a (by omega), hI_sI_a (by omega), hI_sI, ← hS2]
                by_cases q : i = kFs C
                · rw [if_pos ⟨rfl, q⟩, if_pos q, w32_id (by omega)]
                · rw [if_neg (fun g => q g.2), if_neg q]; rfl
              have y17 : ∀ i, gI y (344 + 22 * k + 17) i = if i = kFs C then (e : Int) else gI S (344 + 22 * k + 17) i := fun i => by
                rw [yM _ _ (by omega) (by omega) (by omega), ← hS1]
                show gI (sI (sI (sI S2 _ _ _) _ _ _) _ _ _) _ i = _
                rw [hI_sI, ← hS2]
                by_cases q : i = kFs C
                · rw [if_pos ⟨rfl, q⟩, if_pos q, w32_id (by omega)]
                · rw [if_neg (fun g => q g.2), if_neg q, hI_sI_a (by omega), hI_sI_a (by omega)]; rfl
              have y56 : ∀ j, gI y 2156 j = if j = 40 * k + kFs C then (n : Int) else gI S 2156 j := fun j => by
                rw [← hy, hI_sI_a (by omega), hI_sI_a (by omega), hI_sI]
                by_cases q : j = 40 * k + kFs C
                · rw [if_pos ⟨rfl, q⟩, if_pos q, w32_id (by omega)]
                · rw [if_neg (fun g => q g.2), if_neg q]; exact kp0 _ _ (by omega)
              have y57 : ∀ j, gI y 2157 j = if j = 40 * k + kFs C then (e : Int) else gI S 2157 j := fun j => by
                rw [← hy, hI_sI_a (by omega), hI_sI]
                by_cases q : j = 40 * k + kFs C
                · rw [if_pos ⟨rfl, q⟩, if_pos q, w32_id (by omega)]
                · rw [if_neg (fun g => q g.2), if_neg q, hI_sI_a (by omega)]; exact kp0 _ _ (by omega)
              have yS1 : ∀ a i, 2105 ≤ a → gI S1 a i = gI S a i := fun a i q => eS a i (by omega)
              refine ⟨⟨w.fc l14, r'.fc l14, m'.fc l14⟩, ⟨xP, xW, xB, ?_, xT.fc l12 lt'⟩, ⟨?_, ?_, ?_, ?_, ?_⟩, ⟨?_, ?_, ?_, ?_, ?_⟩⟩
              · refine ⟨by rw [n25]; omega, fun i hi => ?_⟩
                rw [nk] at hi
                rw [n26, n27]
                show 0 ≤ _ ∧ _ < (kB C : Int) ∧ 0 ≤ _ ∧ _ < ((kO C : Int) + (kR C : Int))
                by_cases q : i = kFs C
                · rw [if_pos q, if_pos q]; omega
                · rw [if_neg q, if_neg q]; exact xF.2 i (by omega)
              · have : RepP y (344 + 22 * k) C := by unfold RepP at rP ⊢; simp (disch := omega) only [cl]; exact rP
                exact this
              · have : RepW y (344 + 22 * k) C := by unfold RepW at rW ⊢; simp (disch := omega) only [cl]; exact rW
                exact this
              · have : RepB y (344 + 22 * k) C := by unfold RepB at rB ⊢; simp (disch := omega) only [cl]; exact rB
                exact this
              · refine ⟨?_, fun i hi => ?_⟩
                · rw [n25, yM _ _ (by omega) (by omega) (by omega), ← hS1]
                  show gI (sI (sI (sI S2 _ _ _) _ _ _) _ _ _) _ _ = _
                  rw [hI_sI_a (by omega), gI_set, w32_id (by omega), hf.2]
                · rw [nk] at hi
                  rw [y16, y17, n26, n27]
                  by_cases q : i = kFs C
                  · rw [if_pos q, if_pos q, if_pos q, if_pos q]; exact ⟨rfl, rfl⟩
                  · rw [if_neg q, if_neg q, if_neg q, if_neg q]; exact rF.2 i (by omega)
              · have gl21 : ∀ i, gL y (344 + 22 * k + 21) i = gL S (344 + 22 * k + 21) i := fun i => eL _ _ (by omega)
                have : RepT y (344 + 22 * k) C := by unfold RepT at rT ⊢; simp (disch := omega) only [cl, gl21]; exact rT
                exact this.fc l12 lt'
              · have : RefP y k C := by unfold RefP at mP ⊢; simp (disch := omega) only [gg]; exact mP
                exact this
              · have : RefW y k C := by unfold RefW at mW ⊢; simp (disch := omega) only [gg]; exact mW
                exact this
              · have : RefB y k C := by unfold RefB at mB ⊢; simp (disch := omega) only [gg]; exact mB
                exact this
              · refine ⟨?_, fun i hi => ?_⟩
                · rw [n25, ← hy, gI_set, w32_id (by omega), hf.2]
                · rw [nk] at hi
                  rw [y56, y57, n26, n27]
                  by_cases q : i = kFs C
                  · rw [if_pos q, if_pos q, if_pos (by omega), if_pos (by omega)]; exact ⟨rfl, rfl⟩
                  · rw [if_neg q, if_neg q, if_neg (by omega), if_neg (by omega)]; exact mF.2 i (by omega)
              · have gl75 : ∀ i, gL y 2175 i = gL S 2175 i := fun i => eL _ _ (by omega)
                have : RefT y k C := by unfold RefT at mT ⊢; simp (disch := omega) only [gg, gl75]; exact mT
                exact this.fc l12 lt'
    · refine L_bscrF (m1 := fun S1 => mX23_falsify S1 _ _ _) 1 1 h hc ?_ rfl (by omega) (fun S1 eS => ?_)
      · have bad : (bX (if 0 ≤ w32 p2 then bX (mX22_bits S2 (344 + 22 * k)) fun x3 => if w32 p2 < w32 x3 then if 0 ≤ w32 p3 then bX (mX17_ends S2) fun x4 => if w32 p3 < w32 x4 then bX (mX17_netOfEnd S2 p3) fun x5 => if 0 ≤ w32 x5 then some true else some false else some false else some false else some false else some false) fun b => if b = true then some (1 : Int) else some 0) = some 0 := by
          rw [w32_id h2, w32_id h3, kb, ke, bX_some, bX_some, w32_id (by omega), w32_id (by omega)]
          by_cases a1 : 0 ≤ p2
          · rw [if_pos a1]
            by_cases a2 : p2 < (kB C : Int)
            · rw [if_pos a2]
              by_cases a3 : 0 ≤ p3
              · rw [if_pos a3]
                by_cases a4 : p3 < ((kO C + kR C : Nat) : Int)
                · obtain ⟨e, rfl⟩ : ∃ e : Nat, p3 = (e : Int) := ⟨p3.toNat, by omega⟩
                  have er' := kEnd_rng w (e := e) (by omega)
                  rw [Int.toNat_natCast] at q1
                  rw [if_pos a4, k_netOfEnd hk rfl gT r2 w (by omega), bX_some, w32_id (by omega), if_neg (by omega), bX_some, if_neg (by decide)]
                · rw [if_neg a4, bX_some, if_neg (by decide)]
              · rw [if_neg a3, bX_some, if_neg (by decide)]
            · rw [if_neg a2, bX_some, if_neg (by decide)]
          · rw [if_neg a1, bX_some, if_neg (by decide)]
        rw [m1, bad, bX_some, inside_0 rx2]
        exact WP_some.2 ⟨rfl, S2, rfl, sc2⟩
      · have r' := mK S1 eS
        have e0 := r'.1.1
        rw [w.i] at e0
        have e1 := r'.1.2.1
        rw [w.r] at e1
        have bad : (bX (if 0 ≤ w32 p2 then rdI 4 S1 2106 (k : Int) fun v2 => rdI 4 S1 2107 (k : Int) fun v3 => if w32 p2 < w32 (v2 + v3) then bX (mX23_endNet S1 (k : Int) p3) fun x4 => if w32 x4 < 0 then some true else some false else some true else some true) fun b => if b = true then some (1 : Int) else some 0) = some 1 := by
          rw [w32_id h2, rdI_e (by omega), rdI_e (by omega), Int.toNat_natCast, e0, e1, w32_id (by omega)]
          by_cases a1 : 0 ≤ p2
          · rw [if_pos a1]
            by_cases a2 : p2 < (kB C : Int)
            · rw [if_pos (by omega)]
              by_cases a3 : 0 ≤ p3 ∧ p3 < ((kO C + kR C : Nat) : Int)
              · obtain ⟨e, rfl⟩ : ∃ e : Nat, p3 = (e : Int) := ⟨p3.toNat, by omega⟩
                have er' := kEnd_rng w (e := e) (by omega)
                rw [Int.toNat_natCast] at q1
                rw [m_endNet hk r' w (by omega), bX_some, w32_id (by omega), if_pos (by omega), bX_some, if_pos rfl]
              · rw [m_endNet_no hk r' w h3' a3, bX_some, if_pos (by decide), bX_some, if_pos rfl]
            · rw [if_neg (by omega), bX_some, if_pos rfl]
          · rw [if_neg a1, bX_some, if_pos rfl]
        rw [mX23_falsify, mch S1 eS, bX_some, if_pos (by decide), bad, bX_some, wf_eq, gI_set, if_neg (by decide), bX_some, if_pos rfl]
        exact WP_some.2 ⟨by rw [gI_set]; rfl, Sc.refl.sI rfl⟩
  · refine L_bscrF (m1 := fun S1 => mX23_falsify S1 _ _ _) 1 1 h hc ?_ rfl (by omega) (fun S1 eS => ?_)
    · unfold mX1_falsify; rw [chipIn_f hq rx h1, bT_inr]
      exact WP_some.2 ⟨rfl, S, rfl, Sc.refl⟩
    · have mc : mX23_isChip S1 p1 = some 0 := by
        rw [m_isChip_v h (fun i => eS _ _ (kept_rng (by omega))) (fun i => eS _ _ (kept_rng (by omega))) h1, if_neg hq]
      rw [mX23_falsify, mc, bX_some, if_neg (by decide), bX_some, if_pos rfl, bX_some, wf_eq, gI_set, if_neg (by decide), bX_some, if_pos rfl]
      exact WP_some.2 ⟨by rw [gI_set]; rfl, Sc.refl.sI rfl⟩
end FALSIFY
