/-! alter -/
def alC (C : Chp) (g : Nat) (v : Int) : Chp := fun f i => if f = 4 then (if i = g then v else C 4 i) else if f = 28 then -1 else C f i
theorem alC_o {C : Chp} {g : Nat} {v : Int} {f i : Nat} (h : f ≠ 4) (h' : f ≠ 28) : alC C g v f i = C f i := by unfold alC; rw [if_neg h, if_neg h']
theorem alC_4 {C : Chp} {g : Nat} {v : Int} {i : Nat} : alC C g v 4 i = if i = g then v else C 4 i := rfl
theorem m_forgetLeast {S : Sto} {k : Nat} (hk : k < 4) : WP (mX23_forgetLeast S (k : Int)) (fun z => (∀ f, f < 1280 → gI z 2177 (1280 * k + f) = 0) ∧ (∀ a i, ¬ (a = 2177 ∧ 1280 * k ≤ i ∧ i < 1280 * k + 1280) → gI z a i = gI S a i) ∧ (∀ a i, gL z a i = gL S a i) ∧ nC z = nC S ∧ nS z = nS S) := by
  unfold mX23_forgetLeast
  refine WP_call (R := fun z => (∀ f, f < 1280 → gI z 2177 (1280 * k + f) = 0) ∧ (∀ a i, ¬ (a = 2177 ∧ 1280 * k ≤ i ∧ i < 1280 * k + 1280) → gI z a i = gI S a i) ∧ (∀ a i, gL z a i = gL S a i) ∧ nC z = nC S ∧ nS z = nS S) ?_ (fun x hx => WP_some.2 hx)
  refine WP_cnt 1280 (fun n z => z.1 = (n : Int) ∧ (∀ f, f < n → gI z.2 2177 (1280 * k + f) = 0) ∧ (∀ a i, ¬ (a = 2177 ∧ 1280 * k ≤ i ∧ i < 1280 * k + 1280) → gI z.2 a i = gI S a i) ∧ (∀ a i, gL z.2 a i = gL S a i) ∧ nC z.2 = nC S ∧ nS z.2 = nS S) (by unfold cFU; omega) ⟨rfl, fun f h => absurd h (Nat.not_lt_zero _), fun _ _ _ => rfl, fun _ _ => rfl, rfl, rfl⟩ (fun n z hn hI => ?_) (fun z hI => ?_)
  · obtain ⟨b1, b2, b3, b4, b5, b6⟩ := hI
    have zt : (1280 * (k : Int) + (n : Int)).toNat = 1280 * k + n := by omega
    unfold mX23_forgetLeast_L2
    rw [b1, w32_id (by omega), if_pos (by omega), wrI_e (by omega), zt]
    refine WP_some.2 ⟨by show (n : Int) + 1 = _; omega, fun f hf => ?_, fun a i q => ?_, b4, b5, b6⟩
    · show gI (sI z.2 2177 (1280 * k + n) 0) 2177 (1280 * k + f) = 0
      by_cases e : f = n
      · rw [e, gI_set]; rfl
      · rw [hI_sI_i (by omega)]; exact b2 f (by omega)
    · show gI (sI z.2 2177 (1280 * k + n) 0) a i = _
      rw [hI_sI, if_neg (by omega)]; exact b3 a i q
  · obtain ⟨b1, b2, b3, b4, b5, b6⟩ := hI
    unfold mX23_forgetLeast_L2
    rw [b1, if_neg (by decide)]
    exact WP_some.2 ⟨b2, b3, b4, b5, b6⟩
section ALC
variable {C : Chp} {g : Nat} {v : Nat}
theorem alC_ar (w : WFC C) (hg : g < kG C) (hv : v < kL C) (he : kLi C v = kAr C g) (g' : Nat) : kAr (alC C g v) g' = kAr C g' := by
  unfold kAr kLi kC
  rw [alC_o (f := 9) (by omega) (by omega), alC_4]
  by_cases q : g' = g
  · rw [if_pos q, Int.toNat_natCast, q]; exact he
  · rw [if_neg q]
theorem WFC.al (w : WFC C) (hg : g < kG C) (hv : v < kL C) (he : kLi C v = kAr C g) : WFC (alC C g v) := by
  have ea := alC_ar w hg hv he
  have hl := w.l
  obtain ⟨w1, w2, w3, w4, w5, w6⟩ := w
  refine ⟨w1, w2, fun g' hg' => ?_, w4, w5, w6⟩
  have w3 := w3 g' hg'
  refine ⟨?_, ?_, fun k hk => ?_⟩
  · rw [alC_4]; split <;> omega
  · rw [alC_4]; show _ < C 8 0; split <;> omega
  · rw [ea] at hk; exact w3.2.2 k hk
theorem alC_sz (w : WFC C) (hg : g < kG C) (hv : v < kL C) (he : kLi C v = kAr C g) (e : Nat) : kSz (alC C g v) e = kSz C e := by
  unfold kSz; rw [alC_ar w hg hv he]; rfl
end ALC
section ALTER
variable {c : Nat} {S : Sto}
theorem L22 {p1 p2 p3 : Int} (h : Inv c S) (hc : c < 64) (h1 : i32 p1) (h2 : i32 p2) (h3 : i32 p3) : WP (mL_22 S p1 p2 p3) (Inv (c + 1)) := by
  have rx := h.1.x hc
  unfold mL_22 mX0_alter
  by_cases hq : isCh S p1
  · have hx := chipIn_t hq; obtain ⟨k, C, hk, rfl, w, r, m, wx, rX, mX⟩ := InvC.get h hq; rw [Int.toNat_natCast] at hx; have hn := w.nums; have eg := r.1.2.2.2.1; have em := m.1.2.2.2.1; rw [w.g] at eg em; have ei := r.1.1; have mi := m.1.1; rw [w.i] at ei mi; have er := r.1.2.1; have mr := m.1.2.1; rw [w.r] at er mr; have eo := r.1.2.2.1; have mo := m.1.2.2.1; rw [w.o] at eo mo; have el := r.1.2.2.2.2.1; have ml := m.1.2.2.2.2.1; rw [w.l] at el ml
    unfold i32 at h2 h3
    by_cases q1 : (0 ≤ p2 ∧ p2 < (kG C : Int)) ∧ 0 ≤ p3 ∧ p3 < (kL C : Int)
    · obtain ⟨⟨a1, a2⟩, a3, a4⟩ := q1
      obtain ⟨g, rfl⟩ : ∃ g : Nat, p2 = (g : Int) := ⟨p2.toNat, by omega⟩
      obtain ⟨v, rfl⟩ : ∃ v : Nat, p3 = (v : Int) := ⟨p3.toNat, by omega⟩
      have hg : g < kG C := by omega
      have hv : v < kL C := by omega
      have lv := w.li hv
      have e9 := (r.2.2.2.2.2 v hv).1
      rw [lv.1] at e9
      have io := k_inputsOf r w (p := (g : Int)) (by omega)
      rw [Int.toNat_natCast] at io
      have cg' := w.c hg
      have lg := w.li cg'.2
      have ar : kAr C g = kLi C (kC C g) := rfl
      have zt1 : (12 * (k : Int) + (v : Int)).toNat = 12 * k + v := by omega
      have zt2 : (150 * (k : Int) + (g : Int)).toNat = 150 * k + g := by omega
      have pre : ∀ S1, (∀ a i, (a < 344 ∨ 431 < a) → gI S1 a i = gI S a i) → mX23_isChip S1 (k : Int) = some 1 ∧ RefK S1 k C := fun S1 eS => ⟨m_isChip_w h (fun i => eS _ _ (by omega)) (fun i => eS _ _ (by omega)) h1 hq, m.cg (fun a i l1 l2 => eS a i (by omega))⟩
      have mc : ∀ S1, RefK S1 k C → (bX (bX (if 0 ≤ w32 (g : Int) then rdI 4 S1 2111 (k : Int) fun v2 => if w32 (g : Int) < w32 v2 then if 0 ≤ w32 (v : Int) then rdI 4 S1 2116 (k : Int) fun v3 => if w32 v3 ≤ w32 (v : Int) then some true else some false else some true else some true else some true) fun b => if b = true then some (1 : Int) else rdI 48 S1 2117 ((12 * (k : Int)) + (v : Int)) fun v4 => bX (mX23_cellOf S1 (k : Int) (g : Int)) fun x5 => rdI 48 S1 2117 x5 fun v6 => if ¬ w32 v4 = w32 v6 then some 2 else some 0) fun y => some y) = some (if kLi C v = kAr C g then 0 else 2) := fun S1 m1 => by
        have e3 := m1.1.2.2.2.1
        rw [w.g] at e3
        have e8 := m1.1.2.2.2.2.1
        rw [w.l] at e8
        have i9 := (m1.2.2.2.2.2 v hv).1
        rw [lv.1] at i9
        have j9 := (m1.2.2.2.2.2 (kC C g) cg'.2).1
        rw [lg.1] at j9
        rw [w32_id (by omega), if_pos a1, rdI_e (by omega), Int.toNat_natCast, e3, w32_id (by omega), if_pos a2, w32_id (by omega), if_pos a3, rdI_e (by omega), Int.toNat_natCast, e8, w32_id (by omega), if_neg (by omega), bX_some, if_neg (by decide), rdI_e (by omega), zt1, i9, m_cellOf m1 w hk (by omega), bX_some, Int.toNat_natCast, rdI_e (by omega), Int.toNat_natCast, j9, w32_id (by omega), w32_id (by omega), ar]
        by_cases q : kLi C v = kLi C (kC C g)
        · rw [if_neg (by omega), bX_some, if_pos q]
        · rw [if_pos (by omega), bX_some, if_neg q]
      have mcx : ∀ (S1 : Sto) (K : Int → Option (Int × Sto)), RefK S1 k C → (bX (bX (if 0 ≤ w32 (g : Int) then rdI 4 S1 2111 (k : Int) fun v2 => if w32 (g : Int) < w32 v2 then if 0 ≤ w32 (v : Int) then rdI 4 S1 2116 (k : Int) fun v3 => if w32 v3 ≤ w32 (v : Int) then some true else some false else some true else some true else some true) fun b => if b = true then some (1 : Int) else rdI 48 S1 2117 ((12 * (k : Int)) + (v : Int)) fun v4 => bX (mX23_cellOf S1 (k : Int) (g : Int)) fun x5 => rdI 48 S1 2117 x5 fun v6 => if ¬ w32 v4 = w32 v6 then some 2 else some 0) K) = K (if kLi C v = kAr C g then 0 else 2) := fun S1 K m1 => by
        have e := mc S1 m1
        generalize (bX (if 0 ≤ w32 (g : Int) then rdI 4 S1 2111 (k : Int) fun v2 => if w32 (g : Int) < w32 v2 then if 0 ≤ w32 (v : Int) then rdI 4 S1 2116 (k : Int) fun v3 => if w32 v3 ≤ w32 (v : Int) then some true else some false else some true else some true else some true) fun b => if b = true then some (1 : Int) else rdI 48 S1 2117 ((12 * (k : Int)) + (v : Int)) fun v4 => bX (mX23_cellOf S1 (k : Int) (g : Int)) fun x5 => rdI 48 S1 2117 x5 fun v6 => if ¬ w32 v4 = w32 v6 then some 2 else some 0) = M at e ⊢
        cases M with
        | none => exact (nomatch e)
        | some x => rw [bX_some] at e ⊢; rw [Option.some.inj e]
      have kc : ∀ K : Int → Option ((Int × Sto) ⊕ (Nat × Sto)), bX (bX (if 0 ≤ w32 (g : Int) then if w32 (g : Int) < w32 (gI S (344 + 22 * k) 6) then if 0 ≤ w32 (v : Int) then if w32 (v : Int) < w32 (gI S (344 + 22 * k + 1) 0) then some true else some false else some false else some false else some false) fun b => if b = true then some (1 : Int) else some 0) K = K 1 := fun K => by
        rw [w32_id (by omega), w32_id (by omega), if_pos a1, eg, w32_id (by omega), if_pos a2, if_pos a3, el, w32_id (by omega), if_pos a4, bX_some, if_pos rfl, bX_some]
      by_cases q2 : kLi C v = kAr C g
      · refine L_modS (m1 := fun S1 => mX23_alter S1 _ _ _) ?_
        rw [mX1_alter, hx, bT_inl, gkc_chip hk, kc, inside_1, bT_inl, rdI_e (by omega), Int.toNat_natCast, e9, io, bX_some, w32_id (by omega), w32_id (by omega), if_pos (by omega), need_1, bT_inl, rdI_e (by omega), Int.toNat_natCast, r.2.1 g hg, wrI_e (by omega), Int.toNat_natCast]
        unfold mX22_forgetTests
        rw [wf_eq, wf_eq, bX_some]
        refine WP_some.2 ?_
        obtain ⟨S1, hS1⟩ : ∃ S1, sL (sI (sI (sI S (344 + 22 * k + 6) g (v : Int)) (344 + 22 * k) 25 (-1)) (344 + 22 * k) 30 0) 2178 0 (i2l (C 4 g)) = S1 := ⟨_, rfl⟩
        show WP (mX23_alter (sL (sI (sI (sI S (344 + 22 * k + 6) g (v : Int)) (344 + 22 * k) 25 (-1)) (344 + 22 * k) 30 0) 2178 0 (i2l (C 4 g))) (k : Int) (g : Int) (v : Int)) _
        rw [hS1]
        have y1K : ∀ a i, ¬ (a = 344 + 22 * k + 6 ∧ i = g) → ¬ (a = 344 + 22 * k ∧ (i = 25 ∨ i = 30)) → gI S1 a i = gI S a i := fun a i g1 g2 => by
          rw [← hS1]; show gI (sI (sI (sI S _ _ _) _ _ _) _ _ _) a i = _
          rw [hI_sI, if_neg (by omega), hI_sI, if_neg (by omega), hI_sI, if_neg g1]
        obtain ⟨mch, m1⟩ := pre S1 (fun a i q => y1K a i (by omega) (by omega))
        have m1' : RefK (sI S1 2000 0 0) k C := m1.sI (by omega)
        rw [mX23_alter, mch, bX_some, if_pos (by decide), mcx S1 _ m1, if_pos q2, wf_eq, gI_set, if_neg (by decide), rdI_e (by omega), zt2, m1'.2.1 g hg, wrI_e (by omega), zt2, wrI_e (by omega), Int.toNat_natCast]
        refine WP_call (m_forgetLeast hk) (fun y hy => ?_)
        obtain ⟨y1, y2, y3, y4, y5⟩ := hy
        have yM : ∀ a i, ¬ (a = 2177 ∧ 1280 * k ≤ i ∧ i < 1280 * k + 1280) → ¬ (a = 2172 ∧ i = k) → ¬ (a = 2112 ∧ i = 150 * k + g) → ¬ (a = 2000 ∧ i = 0) → gI y a i = gI S1 a i := fun a i g1 g2 g3 g4 => by
          rw [y2 a i g1, hI_sI, if_neg g2, hI_sI, if_neg g3, hI_sI, if_neg g4]
        have eL : ∀ a i, a ≠ 2178 → gL y a i = gL S a i := fun a i q => by
          rw [y3]; show gL S1 a i = _
          rw [← hS1, gL_sL, if_neg (fun g => q g.1)]; rfl
        refine WP_some.2 ⟨rfl, ?_, ?_, ?_⟩
        · show gI y 2000 0 = 0
          rw [y2 _ _ (by omega), hI_sI_a (by omega), hI_sI_a (by omega), gI_set]; rfl
        · show gL y 2178 0 = i2l (C 4 g)
          rw [y3]; show gL S1 2178 0 = _
          rw [← hS1, gL_sL, if_pos ⟨rfl, rfl⟩]
        · show Inv (c + 1) y
          have cl : ∀ a i, 344 + 22 * k ≤ a → a ≤ 344 + 22 * k + 21 → ¬ (a = 344 + 22 * k + 6 ∧ i = g) → ¬ (a = 344 + 22 * k ∧ (i = 25 ∨ i = 30)) → gI y a i = gI S a i := fun a i l1 l2 l3 l4 => (yM a i (by omega) (by omega) (by omega) (by omega)).trans (y1K a i l3 l4)
          have gg : ∀ a i, 2105 ≤ a → a ≤ 2176 → a ≠ 2172 → a ≠ 2112 → gI y a i = gI S a i := fun a i l1 l2 l3 l4 => (yM a i (by omega) (by omega) (by omega) (by omega)).trans (y1K a i (by omega) (by omega))
          refine h.chipQ hk (fun a i => ((a = 344 + 22 * k + 6 ∧ i = g) ∨ (a = 344 + 22 * k ∧ (i = 25 ∨ i = 30))) ∨ (a = 2177 ∧ 1280 * k ≤ i ∧ i < 1280 * k + 1280) ∨ (a = 2172 ∧ i = k) ∨ (a = 2112 ∧ i = 150 * k + g)) (alC C g (v : Int)) (fun a i q g1 => ?_) (fun a i g1 => ?_) (fun a i q _ _ => eL a i (by omega)) ?_ ?_ ?_
          · rw [yM a i (by omega) (by omega) (by omega) (kept_ne2 q), y1K a i (by omega) (by omega)]
          · rcases g1 with g1 | ⟨rfl, g2, g3⟩ | ⟨rfl, rfl⟩ | ⟨rfl, rfl⟩
            · exact .inl (by omega)
            · exact .inr ⟨by omega, show 1280 * k ≤ _ from g2, show _ < 1280 * k + 1280 from g3⟩
            · exact .inr (ownC_1 (by omega))
            · exact .inr ⟨by omega, show 150 * k ≤ _ by omega, show _ < 150 * k + 150 by omega⟩
          · rw [y4]; show nC S1 ≤ _; rw [← hS1]; exact Nat.le_add_right _ _
          · rw [y5]; show nS S1 ≤ _; rw [← hS1]; exact Nat.le_add_right _ _
          · have wa := w.al hg hv q2
            have szz := alC_sz w hg hv q2
            have fa := kFa_le wa
            obtain ⟨xP, xW, xB, xF, xT⟩ := wx
            obtain ⟨rP, rW, rB, rF, rT⟩ := rX
            obtain ⟨mP, mW, mB, mF, mT⟩ := mX
            have n28 : alC C g (v : Int) 28 0 = -1 := rfl
            have nk : kSn (alC C g (v : Int)) = 0 := by unfold kSn; rw [n28]; rfl
            have z6 : ∀ i, gI y (344 + 22 * k + 6) i = if i = g then (v : Int) else gI S (344 + 22 * k + 6) i := fun i => by
              rw [yM _ _ (by omega) (by omega) (by omega) (by omega), ← hS1]
              show gI (sI (sI (sI S _ _ _) _ _ _) _ _ _) _ i = _
              rw [hI_sI_a (by omega), hI_sI_a (by omega), hI_sI]
              by_cases q : i = g
              · rw [if_pos ⟨rfl, q⟩, if_pos q, w32_id (by omega)]
              · rw [if_neg (fun g => q g.2), if_neg q]
            have z12 : ∀ i, gI y 2112 i = if i = 150 * k + g then (v : Int) else gI S 2112 i := fun i => by
              rw [y2 _ _ (by omega), hI_sI_a (by omega), hI_sI]
              by_cases q : i = 150 * k + g
              · rw [if_pos ⟨rfl, q⟩, if_pos q, w32_id (by omega)]
              · rw [if_neg (fun g => q g.2), if_neg q, hI_sI_a (by omega)]; exact y1K _ _ (by omega) (by omega)
            refine ⟨⟨wa, ?_, ?_⟩, ⟨?_, xW, xB, xF, ?_⟩, ⟨?_, ?_, ?_, ?_, ?_⟩, ⟨?_, ?_, ?_, ?_, ?_⟩⟩
            · obtain ⟨t1, t2, t3, t4, t5, t6⟩ := r
              refine ⟨?_, fun g' hg' => ?_, fun g' hg' => ?_, fun g' hg' => ?_, fun g' hg' => ?_, fun g' hg' => ?_⟩
              · simp (disch := omega) only [cl]; exact t1
              · rw [z6, alC_4]
                by_cases q : g' = g
                · rw [if_pos q, if_pos q]
                · rw [if_neg q, if_neg q]; exact t2 g' hg'
              · rw [cl _ _ (by omega) (by omega) (by omega) (by omega)]; exact t3 g' hg'
              · rw [cl _ _ (by omega) (by omega) (by omega) (by omega)]; exact t4 g' hg'
              · rw [cl _ _ (by omega) (by omega) (by omega) (by omega)]; exact t5 g' hg'
              · simp (disch := omega) only [cl]; exact t6 g' hg'
            · obtain ⟨t1, t2, t3, t4, t5, t6⟩ := m
              refine ⟨?_, fun g' hg' => ?_, fun g' hg' => ?_, fun g' hg' => ?_, fun g' hg' => ?_, fun g' hg' => ?_⟩
              · simp (disch := omega) only [gg]; exact t1
              · rw [z12, alC_4]
                by_cases q : g' = g
                · rw [if_pos q, if_pos (by omega)]
                · rw [if_neg q, if_neg (by omega)]; exact t2 g' hg'
              · rw [gg _ _ (by omega) (by omega) (by omega) (by omega)]; exact t3 g' hg'
              · rw [gg _ _ (by omega) (by omega) (by omega) (by omega)]; exact t4 g' hg'
              · rw [gg _ _ (by omega) (by omega) (by omega) (by omega)]; exact t5 g' hg'
              · simp (disch := omega) only [gg]; exact t6 g' hg'
            · unfold WFP at xP ⊢
              simp only [szz]
              exact xP
            · exact ⟨by rw [n28]; omega, fun i hi => absurd hi (by rw [nk]; omega)⟩
            · have : RepP y (344 + 22 * k) C := by unfold RepP at rP ⊢; simp (disch := omega) only [cl]; exact rP
              exact this
            · have : RepW y (344 + 22 * k) C := by unfold RepW at rW ⊢; simp (disch := omega) only [cl]; exact rW
              exact this
            · have : RepB y (344 + 22 * k) C := by unfold RepB at rB ⊢; simp (disch := omega) only [cl]; exact rB
              exact this
            · have : RepF y (344 + 22 * k) C := by unfold RepF at rF ⊢; simp (disch := omega) only [cl]; exact rF
              exact this
            · have z30 : gI y (344 + 22 * k) 30 = 0 := by
                rw [yM _ _ (by omega) (by omega) (by omega) (by omega), ← hS1]
                show gI (sI (sI (sI S _ _ _) _ _ _) _ _ _) _ _ = _
                rw [gI_set]; rfl
              have z25 : gI y (344 + 22 * k) 25 = -1 := by
                rw [yM _ _ (by omega) (by omega) (by omega) (by omega), ← hS1]
                show gI (sI (sI (sI S _ _ _) _ _ _) _ _ _) _ _ = _
                rw [hI_sI_i (by omega), gI_set]; rfl
              exact ⟨by rw [n28]; exact z25, fun i hi => absurd hi (by rw [nk]; omega), .inl z30, fun q => absurd q (by rw [z30]; omega)⟩
            · have : RefP y k C := by unfold RefP at mP ⊢; simp (disch := omega) only [gg]; exact mP
              exact this
            · have : RefW y k C := by unfold RefW at mW ⊢; simp (disch := omega) only [gg]; exact mW
              exact this
            · have : RefB y k C := by unfold RefB at mB ⊢; simp (disch := omega) only [gg]; exact mB
              exact this
            · have : RefF y k C := by unfold RefF at mF ⊢; simp (disch := omega) only [gg]; exact mF
              exact this
            · have z72 : gI y 2172 k = -1 := by rw [y2 _ _ (by omega), gI_set]; rfl
              exact ⟨by rw [n28]; exact z72, fun i hi => absurd hi (by rw [nk]; omega), fun i f hi => absurd hi (by rw [nk]; omega), fun f hf => .inl (y1 f (by omega))⟩
      · refine L_modF (m1 := fun S1 => mX23_alter S1 _ _ _) 2 2 h hc ?_ rfl (by omega) (fun S1 eS => ?_)
        · rw [mX1_alter, hx, bT_inl, gkc_chip hk, kc, inside_1, bT_inl, rdI_e (by omega), Int.toNat_natCast, e9, io, bX_some, w32_id (by omega), w32_id (by omega), if_neg (by omega), need_0 rx]; rfl
        · obtain ⟨mch, m1⟩ := pre S1 (fun a i _ => eS a i)
          rw [mX23_alter, mch, bX_some, if_pos (by decide), mcx S1 _ m1, if_neg q2, wf_eq, gI_set, if_pos (by decide)]
    · refine L_modF (m1 := fun S1 => mX23_alter S1 _ _ _) 1 1 h hc ?_ rfl (by omega) (fun S1 eS => ?_)
      · have bad : (bX (if 0 ≤ w32 p2 then if w32 p2 < w32 (gI S (344 + 22 * k) 6) then if 0 ≤ w32 p3 then if w32 p3 < w32 (gI S (344 + 22 * k + 1) 0) then some true else some false else some false else some false else some false) fun b => if b = true then some (1 : Int) else some 0) = some 0 := by
          rw [w32_id h2, w32_id h3, eg, el, w32_id (by omega), w32_id (by omega)]
          by_cases a1 : 0 ≤ p2
          · rw [if_pos a1]
            by_cases a2 : p2 < (kG C : Int)
            · rw [if_pos a2]
              by_cases a3 : 0 ≤ p3
              · rw [if_pos a3, if_neg (by omega), bX_some, if_neg (by decide)]
              · rw [if_neg a3, bX_some, if_neg (by decide)]
            · rw [if_neg a2, bX_some, if_neg (by decide)]
          · rw [if_neg a1, bX_some, if_neg (by decide)]
        rw [mX1_alter, hx, bT_inl, gkc_chip hk, bad, bX_some, inside_0 rx]; rfl
      · have m1 : RefK S1 k C := m.cg (fun a i _ _ => eS a i)
        have e3 := m1.1.2.2.2.1
        rw [w.g] at e3
        have e8 := m1.1.2.2.2.2.1
        rw [w.l] at e8
        have bad : (if 0 ≤ w32 p2 then rdI 4 S1 2111 (k : Int) fun v2 => if w32 p2 < w32 v2 then if 0 ≤ w32 p3 then rdI 4 S1 2116 (k : Int) fun v3 => if w32 v3 ≤ w32 p3 then some true else some false else some true else some true else some true) = some true := by
          rw [w32_id h2, w32_id h3, rdI_e (by omega), rdI_e (by omega), Int.toNat_natCast, e3, e8, w32_id (by omega), w32_id (by omega)]
          by_cases a1 : 0 ≤ p2
          · rw [if_pos a1]
            by_cases a2 : p2 < (kG C : Int)
            · rw [if_pos a2]
              by_cases a3 : 0 ≤ p3
              · rw [if_pos a3, if_pos (by omega)]
              · rw [if_neg a3]
            · rw [if_neg a2]
          · rw [if_neg a1]
        rw [mX23_alter, m_isChip_t h eS h1 hq, bX_some, if_pos (by decide), bad, bX_some, if_pos rfl, bX_some, wf_eq, gI_set, if_pos (by decide)]
  · refine L_modF (m1 := fun S1 => mX23_alter S1 _ _ _) 1 1 h hc ?_ rfl (by omega) (fun S1 eS => ?_)
    · rw [mX1_alter, chipIn_f hq rx h1]; rfl
    · unfold mX23_alter; rw [m_isChip_f h eS h1 hq]; rfl
end ALTER
