/-! improve: the call -/
theorem stP_f {C : Chp} {a b : Nat} {s : Pls} (h : (stP C a b s).2.2 = false) : stP C a b s = s := by
  unfold stP at h ⊢
  by_cases q : kSz C a = kSz C b
  · rw [if_pos q] at h ⊢
    by_cases q2 : kTot (plX C (sw s.1 a b) (sw s.2.1 a b)) (kN C) < kTot (plX C s.1 s.2.1) (kN C)
    · rw [if_pos q2] at h; exact Bool.noConfusion (show true = false from h)
    · rw [if_neg q2]
  · rw [if_neg q]
theorem rwP_f {C : Chp} {a : Nat} {s : Pls} : ∀ n, (rwP C a s n).2.2 = false → rwP C a s n = s := by
  intro n
  induction n with
  | zero => exact fun _ => rfl
  | succ n ih =>
    intro h
    have h : (stP C a (a + 1 + n) (rwP C a s n)).2.2 = false := h
    show stP C a (a + 1 + n) (rwP C a s n) = s
    have e := stP_f h
    rw [e] at h
    rw [e, ih h]
theorem paP_f {C : Chp} {s : Pls} : ∀ n, (paP C s n).2.2 = false → paP C s n = s := by
  intro n
  induction n with
  | zero => exact fun _ => rfl
  | succ n ih =>
    intro h
    have h : (rwP C n (paP C s n) (kE C - (n + 1))).2.2 = false := h
    show rwP C n (paP C s n) (kE C - (n + 1)) = s
    have e := rwP_f _ h
    rw [e] at h
    rw [e, ih h]
theorem psP_f {C : Chp} : ∀ n, (psP C n).1.2.2 = false → (psP C n).1.1 = C 17 ∧ (psP C n).1.2.1 = C 18 := by
  intro n
  induction n with
  | zero => exact fun _ => ⟨rfl, rfl⟩
  | succ n ih =>
    intro h
    cases e : (psP C n).2 with
    | false => rw [psP_stop e (Nat.le_succ n)] at h ⊢; exact ih h
    | true =>
      have eP : psP C (n + 1) = (((paP C ((psP C n).1.1, (psP C n).1.2.1, false) (kE C)).1, (paP C ((psP C n).1.1, (psP C n).1.2.1, false) (kE C)).2.1, (psP C n).1.2.2 || (paP C ((psP C n).1.1, (psP C n).1.2.1, false) (kE C)).2.2), (paP C ((psP C n).1.1, (psP C n).1.2.1, false) (kE C)).2.2) := if_pos e
      rw [eP] at h ⊢
      have h : ((psP C n).1.2.2 || (paP C ((psP C n).1.1, (psP C n).1.2.1, false) (kE C)).2.2) = false := h
      rw [Bool.or_eq_false_iff] at h
      have i := ih h.1
      have p := paP_f _ h.2
      rw [p]; exact i
/-- a chip whose places are others: its wires are lost -/
def lcC (C : Chp) (xs ys : Nat → Int) : Chp := fun f i => if f = 19 then 0 else if f = 23 then -1 else plX C xs ys f i
theorem lcC_o {C : Chp} {xs ys : Nat → Int} {f i : Nat} (h : f ≠ 17 ∧ f ≠ 18 ∧ f ≠ 19 ∧ f ≠ 23) : lcC C xs ys f i = C f i := by unfold lcC; rw [if_neg h.2.2.1, if_neg h.2.2.2, plX_o ⟨h.1, h.2.1⟩]
section IMPROVE
variable {c : Nat} {S : Sto} {k : Nat} {C : Chp}
theorem m_improve (hk : k < 4) (w : WFC C) (h0 : C 16 0 ≠ 0) (ch : mX23_isChip S (k : Int) = some 1) (r : RefK S k C) (mP : RefP S k C) (wp : WFP C) {n : Nat} (hn4 : 1 ≤ n ∧ n ≤ 4) :
    WP (mX23_improve S (k : Int) (n : Int)) (fun y => y.1 = kTot (plX C (psP C n).1.1 (psP C n).1.2.1) (kN C) ∧ gI y.2 2000 0 = 0 ∧ RefP y.2 k (plX C (psP C n).1.1 (psP C n).1.2.1) ∧ OutI k C S y.2 ∧ MLos (psP C n).1.2.2 k S y.2) := by
  have p1 := wp.1
  unfold mX23_improve
  rw [ch, bX_some, if_neg (by decide), m_within_t (by omega) (by omega) (by omega) (by omega), bX_some, if_neg (by decide), rdI_e (by omega), Int.toNat_natCast, mP.1.1, w32_id (by omega), if_neg h0, bX_some, wf_eq, gI_set, if_neg (by decide)]
  obtain ⟨S5, hS5⟩ : ∃ S5, sI S 2000 0 0 = S5 := ⟨_, rfl⟩
  rw [hS5]
  have e5 : ∀ a i, a ≠ 2000 → gI S5 a i = gI S a i := fun a i q => by rw [← hS5]; exact hI_sI_a q
  have z5 : gI S5 2000 0 = 0 := by rw [← hS5, gI_set]; rfl
  have m5 : MTry k C S5 (C 17) (C 18) := ⟨r.cg (fun a i _ _ => e5 a i (by omega)), by rw [plX_id]; exact mP.cg (fun a i _ _ => e5 a i (by omega)), by rw [plX_id]; exact wp⟩
  refine WP_callF (m_whole hk w m5 h0) fr_mX23_wholeWire (fun x6 h6 g6 => ?_)
  obtain ⟨a1, a2, a3, a4, a5⟩ := h6
  rw [a1]
  have o6 : OutI k C S x6.2 := OutI.tr (z := S5) ⟨fun i _ => ⟨e5 _ _ (by omega), e5 _ _ (by omega)⟩, fun i _ => ⟨e5 _ _ (by omega), e5 _ _ (by omega)⟩⟩ a3
  have l6 : MLos false k S x6.2 := by
    unfold MLos; rw [if_neg (by decide)]
    exact ⟨a4.trans (e5 _ _ (by omega)), a5.trans (e5 _ _ (by omega))⟩
  refine WP_callF (m_improve64 hk w h0 a2 o6 l6 hn4.2) fr_mX23_improve_L64 (fun y hy gy => WP_some.2 ?_)
  obtain ⟨b1, b2, b3, b4⟩ := hy
  exact ⟨b1, (gy.ei rfl).trans ((g6.ei rfl).trans z5), b2.2.1, b3, b4⟩
theorem L29 {p1 p2 : Int} (h : Inv c S) (hc : c < 64) (h1 : i32 p1) (h2 : i32 p2) : WP (mL_29 S p1 p2) (Inv (c + 1)) := by
  have rx := h.1.x hc
  unfold mL_29 mX0_improve
  by_cases hq : isCh S p1
  · have hx := chipIn_t hq; obtain ⟨k, C, hk, rfl, w, r, m, wx, rX, mX⟩ := InvC.get h hq; rw [Int.toNat_natCast] at hx; have hn := w.nums; have eg := r.1.2.2.2.1; have em := m.1.2.2.2.1; rw [w.g] at eg em; have ei := r.1.1; have mi := m.1.1; rw [w.i] at ei mi; have er := r.1.2.1; have mr := m.1.2.1; rw [w.r] at er mr; have eo := r.1.2.2.1; have mo := m.1.2.2.1; rw [w.o] at eo mo; have el := r.1.2.2.2.2.1; have ml := m.1.2.2.2.2.1; rw [w.l] at el ml
    unfold i32 at h2
    have hp := k_hasPlaces rX.1 wx.1
    have wp1 := wx.1.1
    have e16 := mX.1.1.1
    have hE : kE C ≤ 156 := by unfold kE; omega
    by_cases q1 : 1 ≤ p2 ∧ p2 ≤ 4
    · by_cases q2 : C 16 0 = 0
      · rw [if_pos q2] at hp
        rw [q2] at e16
        refine L_modF (m1 := fun S1 => mX23_improve S1 _ _) 3 3 h hc ?_ rfl (by omega) (fun S1 eS => ?_)
        · unfold mX1_improve
          rw [hx, bT_inl, gkc_chip hk, w32_id h2, if_pos q1.1, if_pos q1.2, bX_some, if_pos rfl, bX_some, need_1, bT_inl, hp, bX_some, now_0 rx]; rfl
        · unfold mX23_improve
          rw [m_isChip_t h eS h1 hq, bX_some, if_neg (by decide), m_within_t h2 (by omega) (by omega) q1, bX_some, if_neg (by decide), rdI_e (by omega), Int.toNat_natCast, eS, e16, if_pos (by decide), bX_some, wf_eq, gI_set, if_pos (by decide)]
      · rw [if_neg q2] at hp
        obtain ⟨n, rfl⟩ : ∃ n : Nat, p2 = (n : Int) := ⟨p2.toNat, by omega⟩
        have cls : WP (mX1_improve S (k : Int) (n : Int)) (WE (fun x => x.1 = kTot (plX C (psP C n).1.1 (psP C n).1.2.1) (kN C) ∧ ChI k C S x.2 ∧ WFP (plX C (psP C n).1.1 (psP C n).1.2.1) ∧ RepP x.2 (344 + 22 * k) (plX C (psP C n).1.1 (psP C n).1.2.1) ∧
            (if (psP C n).1.2.2 = true then gI x.2 (344 + 22 * k) 16 = 0 ∧ gI x.2 (344 + 22 * k) 20 = -1 else ∀ i, gI x.2 (344 + 22 * k) i = gI S (344 + 22 * k) i)) (fun _ => False)) := by
          unfold mX1_improve
          rw [hx, bT_inl, gkc_chip hk, w32_id h2, if_pos q1.1, if_pos q1.2, bX_some, if_pos rfl, bX_some, need_1, bT_inl, hp, bX_some, now_1, bT_inl]
          refine WP_call (k_improve hk w q2 wx.1 r rX.1 (n := n) (by omega)) (fun x hx' => WP_some.2 hx')
        cases e : (psP C n).1.2.2 with
        | false =>
          obtain ⟨f1, f2⟩ := psP_f n e
          refine L_scr (m1 := fun S1 => mX23_improve S1 _ _) (kTot (plX C (psP C n).1.1 (psP C n).1.2.1) (kN C)) h hc ?_ (fun S1 eS => ?_)
          · refine cls.mono (fun z hz => ?_)
            cases z with
            | inr t => exact hz
            | inl x =>
              obtain ⟨x1, x2, x3, x4, x5⟩ := hz
              rw [e, if_neg (by decide)] at x5
              rw [f1, f2, plX_id] at x4
              refine ⟨x1, fun a i q => ?_, fun a i q => x2.2.2.1 a i (by omega), x2.2.2.2⟩
              have kh := kept_hi q
              by_cases l0 : a = 344 + 22 * k
              · subst l0; exact x5 i
              by_cases l1 : a = 344 + 22 * k + 10
              · subst l1
                by_cases l3 : i < kE C
                · rw [(x4.2 q2 i l3).1, (rX.1.2 q2 i l3).1]
                · exact (x2.2.1 i (by omega)).1
              by_cases l2 : a = 344 + 22 * k + 11
              · subst l2
                by_cases l3 : i < kE C
                · rw [(x4.2 q2 i l3).2, (rX.1.2 q2 i l3).2]
                · exact (x2.2.1 i (by omega)).2
              exact x2.1 a i (by omega) l1 l2 (by omega)
          · have mXs := (eS.Y w wx mX).1
            refine WP.mono (WP.pc (m_improve hk w q2 (eS.chip h h1 hq) (eS.M m) mXs wx.1 (n := n) (by omega)) fr_mX23_improve) (fun y hy => ?_)
            obtain ⟨⟨y1, y2, y3, y4, y5⟩, y6⟩ := hy
            rw [f1, f2, plX_id] at y3
            unfold MLos at y5
            rw [e, if_neg (by decide)] at y5
            have ok : ∀ a i, kept a i = true ∨ a = 365 ∨ a = 387 ∨ a = 409 ∨ a = 431 ∨ a = 2178 → a ≠ 2124 → a ≠ 2125 → a ≠ 2134 → a ≠ 2146 → okP W_mX23_improve a i := fun a i q n1 n2 n3 n4 => by
              have nb : ¬ (2126 ≤ a ∧ a ≤ 2133) ∧ ¬ (a = 2000 ∧ (i = 0 ∨ i = 159)) := by
                rcases q with q | q
                · refine ⟨fun g => ?_, fun g => ?_⟩
                  · unfold kept keptO keptN rowL at q
                    simp only [Bool.or_eq_true, Bool.and_eq_true, Nat.beq_eq, Nat.ble_eq] at q
                    omega
                  · obtain ⟨rfl, rfl | rfl⟩ := g
                    · exact absurd q (by decide)
                    · exact absurd q (by decide)
                · omega
              exact okP_cons (fun e => ⟨fun g => (nomatch g), fun g => nb.2 ⟨e.symm, .inl (Option.some.inj g).symm⟩⟩) <| okP_cons (fun e => ⟨fun g => (nomatch g), fun g => nb.2 ⟨e.symm, .inr (Option.some.inj g).symm⟩⟩) <| okP_cons (fun e => absurd e.symm (by omega)) <| okP_cons (fun e => absurd e.symm (by omega)) <| okP_cons (fun e => absurd e.symm (by omega)) <| okP_cons (fun e => absurd e.symm (by omega)) <| okP_cons (fun e => absurd e.symm (by omega)) <| okP_cons (fun e => absurd e.symm (by omega)) <| okP_cons (fun e => absurd e.symm (by omega)) <| okP_cons (fun e => absurd e.symm (by omega)) <| okP_cons (fun e => absurd e.symm n1) <| okP_cons (fun e => absurd e.symm n2) <| okP_cons (fun e => absurd e.symm n3) <| okP_cons (fun e => absurd e.symm n4) okP_nil
            refine ⟨y1, y2, fun a i q => ?_, fun a i q => ?_, y6.heap.1, y6.heap.2⟩
            · by_cases l1 : a = 2124
              · subst l1
                by_cases l3 : i < 156 * k ∨ 156 * k + kE C ≤ i
                · exact (y4.1 i l3).1
                · obtain ⟨j, rfl⟩ : ∃ j, i = 156 * k + j := ⟨i - 156 * k, by omega⟩
                  rw [(y3.2 q2 j (by omega)).1, (mXs.2 q2 j (by omega)).1]
              by_cases l2 : a = 2125
              · subst l2
                by_cases l3 : i < 156 * k ∨ 156 * k + kE C ≤ i
                · exact (y4.1 i l3).2
                · obtain ⟨j, rfl⟩ : ∃ j, i = 156 * k + j := ⟨i - 156 * k, by omega⟩
                  rw [(y3.2 q2 j (by omega)).2, (mXs.2 q2 j (by omega)).2]
              by_cases l3 : a = 2134
              · subst l3
                by_cases l5 : i = k
                · subst l5; exact y5.1
                · exact (y4.2 i l5).1
              by_cases l4 : a = 2146
              · subst l4
                by_cases l5 : i = k
                · subst l5; exact y5.2
                · exact (y4.2 i l5).2
              exact y6.gi (ok a i (.inl q) l1 l2 l3 l4)
            · by_cases l1 : a = 2175
              · subst l1; exact y6.gl (ok _ _ (.inl (kept_rng (by omega))) (by omega) (by omega) (by omega) (by omega))
              · exact y6.gl (ok _ _ (.inr (by omega)) (by omega) (by omega) (by omega) (by omega))
        | true =>
          refine L_modS (m1 := fun S1 => mX23_improve S1 _ _) (cls.mono (fun z hz => ?_))
          cases z with
          | inr t => exact hz
          | inl x =>
            obtain ⟨x1, x2, x3, x4, x5⟩ := hz
            rw [e, if_pos rfl] at x5
            show WP (mX23_improve (sL x.2 2178 0 (i2l x.1)) (k : Int) (n : Int)) _
            obtain ⟨S1, hS1⟩ : ∃ S1, sL x.2 2178 0 (i2l x.1) = S1 := ⟨_, rfl⟩
            rw [hS1]
            have eC : ∀ a i, (a < 219 ∨ 228 < a) → ¬ (344 + 22 * k ≤ a ∧ a ≤ 344 + 22 * k + 21) → gI S1 a i = gI S a i := fun a i q1 q2 => by rw [← hS1]; exact x2.1 a i q1 (by omega) (by omega) (by omega)
            have eCL : ∀ a i, (a < 219 ∨ 228 < a) → a ≠ 2178 → gL S1 a i = gL S a i := fun a i q1 q2 => by rw [← hS1, gL_sLn (.inl q2)]; exact x2.2.2.1 a i q1
            have mXs : RefP S1 k C := mX.1.cg (fun a i l1 l2 => eC a i (by omega) (by omega))
            have ms : RefK S1 k C := m.cg (fun a i l1 l2 => eC a i (by omega) (by omega))
            refine WP.mono (WP.pc (m_improve hk w q2 (m_isChip_w h (fun i => eC _ _ (by omega) (by omega)) (fun i => eC _ _ (by omega) (by omega)) h1 hq) ms mXs wx.1 (n := n) (by omega)) fr_mX23_improve) (fun y hy => ?_)
            obtain ⟨⟨y1, y2, y3, y4, y5⟩, y6⟩ := hy
            unfold MLos at y5
            rw [e, if_pos rfl] at y5
            have ok : ∀ a i, kept a i = true ∨ a = 365 ∨ a = 387 ∨ a = 409 ∨ a = 431 ∨ a = 2178 → a ≠ 2124 → a ≠ 2125 → a ≠ 2134 → a ≠ 2146 → okP W_mX23_improve a i := fun a i q n1 n2 n3 n4 => by
              have nb : ¬ (2126 ≤ a ∧ a ≤ 2133) ∧ ¬ (a = 2000 ∧ (i = 0 ∨ i = 159)) := by
                rcases q with q | q
                · refine ⟨fun g => ?_, fun g => ?_⟩
                  · unfold kept keptO keptN rowL at q
                    simp only [Bool.or_eq_true, Bool.and_eq_true, Nat.beq_eq, Nat.ble_eq] at q
                    omega
                  · obtain ⟨rfl, rfl | rfl⟩ := g
                    · exact absurd q (by decide)
                    · exact absurd q (by decide)
                · omega
              exact okP_cons (fun e => ⟨fun g => (nomatch g), fun g => nb.2 ⟨e.symm, .inl (Option.some.inj g).symm⟩⟩) <| okP_cons (fun e => ⟨fun g => (nomatch g), fun g => nb.2 ⟨e.symm, .inr (Option.some.inj g).symm⟩⟩) <| okP_cons (fun e => absurd e.symm (by omega)) <| okP_cons (fun e => absurd e.symm (by omega)) <| okP_cons (fun e => absurd e.symm (by omega)) <| okP_cons (fun e => absurd e.symm (by omega)) <| okP_cons (fun e => absurd e.symm (by omega)) <| okP_cons (fun e => absurd e.symm (by omega)) <| okP_cons (fun e => absurd e.symm (by omega)) <| okP_cons (fun e => absurd e.symm (by omega)) <| okP_cons (fun e => absurd e.symm n1) <| okP_cons (fun e => absurd e.symm n2) <| okP_cons (fun e => absurd e.symm n3) <| okP_cons (fun e => absurd e.symm n4) okP_nil
            have gv : gL y.2 2178 0 = i2l x.1 := by
              rw [y6.gl (ok _ _ (.inr (by omega)) (by omega) (by omega) (by omega) (by omega)), ← hS1, gL_sLe ⟨rfl, rfl⟩]
            have yS : ∀ a i, kept a i = true → a ≠ 2124 → a ≠ 2125 → a ≠ 2134 → a ≠ 2146 → gI y.2 a i = gI S1 a i := fun a i q n1 n2 n3 n4 => y6.gi (ok a i (.inl q) n1 n2 n3 n4)
            have yL : ∀ a i, (a = 365 ∨ a = 387 ∨ a = 409 ∨ a = 431) ∨ a = 2175 → gL y.2 a i = gL S a i := fun a i q => by
              by_cases l1 : a = 2175
              · subst l1; exact (y6.gl (ok _ _ (.inl (kept_rng (by omega))) (by omega) (by omega) (by omega) (by omega))).trans (eCL _ _ (by omega) (by omega))
              · exact (y6.gl (ok _ _ (.inr (by omega)) (by omega) (by omega) (by omega) (by omega))).trans (eCL _ _ (by omega) (by omega))
            have yx : ∀ a i, 344 + 22 * k ≤ a → a ≤ 344 + 22 * k + 21 → gI y.2 a i = gI x.2 a i := fun a i l1 l2 => by rw [yS a i (kept_rng (by omega)) (by omega) (by omega) (by omega) (by omega), ← hS1]; rfl
            refine ⟨by rw [y1, x1], y2, gv, h.putC hk (fun a i q z1 z2 z3 => ?_) (fun a i q _ _ => yL a i q) ?_ ?_ ?_⟩
            · have kh := kept_hi q
              have base : gI S1 a i = gI S a i := eC a i (by omega) z1
              by_cases l1 : a = 2124
              · subst l1
                refine ((y4.1 i ?_).1).trans base
                by_cases l3 : i < 156 * k ∨ 156 * k + kE C ≤ i
                · exact l3
                · exact absurd ⟨by omega, show 156 * k ≤ i by omega, show i < 156 * k + 156 by omega⟩ z2
              by_cases l2 : a = 2125
              · subst l2
                refine ((y4.1 i ?_).2).trans base
                by_cases l3 : i < 156 * k ∨ 156 * k + kE C ≤ i
                · exact l3
                · exact absurd ⟨by omega, show 156 * k ≤ i by omega, show i < 156 * k + 156 by omega⟩ z2
              by_cases l3 : a = 2134
              · subst l3
                exact ((y4.2 i (fun e => by subst e; exact z2 (ownC_1 (by omega)))).1).trans base
              by_cases l4 : a = 2146
              · subst l4
                exact ((y4.2 i (fun e => by subst e; exact z2 (ownC_1 (by omega)))).2).trans base
              exact (yS a i q l1 l2 l3 l4).trans base
            · rw [y6.heap.1, ← hS1]; show nC x.2 ≤ _; rw [x2.2.2.2.1]; omega
            · rw [y6.heap.2, ← hS1]; show nS x.2 ≤ _; rw [x2.2.2.2.2]; omega
            · have hg := h.2.2.2.2.2.2 k hk
              have e434 : gI y.2 434 k = gI S 434 k := (yS _ _ (kept_rng (by omega)) (by omega) (by omega) (by omega) (by omega)).trans (eC _ _ (by omega) (by omega))
              have e2105 : gI y.2 2105 k = gI S 2105 k := (yS _ _ (kept_rng (by omega)) (by omega) (by omega) (by omega) (by omega)).trans (eC _ _ (by omega) (by omega))
              unfold InvC at hg ⊢
              refine ⟨by rw [e434]; exact hg.1, by rw [e434, e2105]; exact hg.2.1, fun _ => ⟨lcC C (psP C n).1.1 (psP C n).1.2.1, ?_⟩⟩
              refine lost (L := 344 + 22 * k) w wx r m rX mX (fun f i q => lcC_o (by omega)) (fun f i q q' => lcC_o (by omega)) rfl rfl x3 ?_ y3 (fun a i l1 l2 l3 l4 l5 => ?_) (fun i => yL _ i (by omega)) ?_ ?_ (fun a i l g => ?_) (fun i l => yL _ i (by omega)) y5.1 y5.2
              · obtain ⟨⟨t1, t2, t3⟩, t4⟩ := x4
                exact ⟨⟨(yx _ _ (by omega) (by omega)).trans t1, (yx _ _ (by omega) (by omega)).trans t2, (yx _ _ (by omega) (by omega)).trans t3⟩, fun q f hf => ⟨(yx _ _ (by omega) (by omega)).trans (t4 q f hf).1, (yx _ _ (by omega) (by omega)).trans (t4 q f hf).2⟩⟩
              · rw [yx a i l1 l2]; exact x2.1 a i (by omega) l4 l5 (by omega)
              · rw [yx _ _ (by omega) (by omega)]; exact x5.1
              · rw [yx _ _ (by omega) (by omega)]; exact x5.2
              · have l0 := l.1
                exact (yS a i (ownC_kept l) (by omega) (by omega) (by omega) (by omega)).trans (eC a i (by omega) (by omega))
    · refine L_modF (m1 := fun S1 => mX23_improve S1 _ _) 2 2 h hc ?_ rfl (by omega) (fun S1 eS => ?_)
      · unfold mX1_improve
        rw [hx, bT_inl, gkc_chip hk, w32_id h2]
        by_cases q2 : 1 ≤ p2
        · rw [if_pos q2, if_neg (by omega), bX_some, if_neg (by decide), bX_some, need_0 rx]; rfl
        · rw [if_neg q2, bX_some, if_neg (by decide), bX_some, need_0 rx]; rfl
      · unfold mX23_improve
        rw [m_isChip_t h eS h1 hq, bX_some, if_neg (by decide), m_within_f h2 (by omega) (by omega) q1, bX_some, if_pos (by decide), bX_some, wf_eq, gI_set, if_pos (by decide)]
  · refine L_modF (m1 := fun S1 => mX23_improve S1 _ _) 1 1 h hc ?_ rfl (by omega) (fun S1 eS => ?_)
    · unfold mX1_improve; rw [chipIn_f hq rx h1]; rfl
    · unfold mX23_improve; rw [m_isChip_f h eS h1 hq]; rfl
end IMPROVE
