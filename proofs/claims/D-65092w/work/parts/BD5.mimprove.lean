/-! passes over all pairs of elements: the reference -/
section MIMPROVE
variable {S : Sto} {k : Nat} {C : Chp}
def MTry (k : Nat) (C : Chp) (S : Sto) (xs ys : Nat → Int) : Prop := RefK S k C ∧ RefP S k (plX C xs ys) ∧ WFP (plX C xs ys)
/-- other chips' places and wires are left -/
def OutI (k : Nat) (C : Chp) (S z : Sto) : Prop := (∀ i, (i < 156 * k ∨ 156 * k + kE C ≤ i) → gI z 2124 i = gI S 2124 i ∧ gI z 2125 i = gI S 2125 i) ∧ ∀ i, i ≠ k → gI z 2134 i = gI S 2134 i ∧ gI z 2146 i = gI S 2146 i
theorem OutI.refl : OutI k C S S := ⟨fun _ _ => ⟨rfl, rfl⟩, fun _ _ => ⟨rfl, rfl⟩⟩
theorem OutI.tr {z y : Sto} (h : OutI k C S z) (g : OutI k C z y) : OutI k C S y := ⟨fun i q => ⟨(g.1 i q).1.trans (h.1 i q).1, (g.1 i q).2.trans (h.1 i q).2⟩, fun i q => ⟨(g.2 i q).1.trans (h.2 i q).1, (g.2 i q).2.trans (h.2 i q).2⟩⟩
/-- whether the wires are lost -/
def MLos (b : Bool) (k : Nat) (S z : Sto) : Prop := if b = true then gI z 2134 k = 0 ∧ gI z 2146 k = 0 else gI z 2134 k = gI S 2134 k ∧ gI z 2146 k = gI S 2146 k
theorem MLos.mv {b : Bool} {z y : Sto} (h : MLos b k S z) (e1 : gI y 2134 k = gI z 2134 k) (e2 : gI y 2146 k = gI z 2146 k) : MLos b k S y := by
  unfold MLos at h ⊢; rw [e1, e2]; exact h
theorem m_exch (hk : k < 4) (w : WFC C) {xs ys : Nat → Int} (m : MTry k C S xs ys) (h0 : C 16 0 ≠ 0) {a b : Nat} (ha : a < kE C) (hb : b < kE C) (hs : kSz C a = kSz C b) :
    WP (mX23_exchange S (k : Int) (a : Int) (b : Int)) (fun z => MTry k C z (sw xs a b) (sw ys a b) ∧ OutI k C S z ∧ gI z 2134 k = gI S 2134 k ∧ gI z 2146 k = gI S 2146 k ∧ ∀ c i, c ≠ 2124 → c ≠ 2125 → gI z c i = gI S c i) := by
  have hn := w.nums
  have hE : kE C ≤ 156 := by unfold kE; omega
  obtain ⟨m1, ⟨⟨p1, p2⟩, p4⟩, wp⟩ := m
  have q4 : ∀ e, e < kE C → gI S 2124 (156 * k + e) = xs e ∧ gI S 2125 (156 * k + e) = ys e := fun e he => p4 h0 e he
  have i32x : ∀ e, e < kE C → w32 (xs e) = xs e ∧ w32 (ys e) = ys e := fun e he => by rw [← (q4 e he).1, ← (q4 e he).2, w32_gI, w32_gI]; exact ⟨rfl, rfl⟩
  have za : (156 * (k : Int) + (a : Int)).toNat = 156 * k + a := by omega
  have zb : (156 * (k : Int) + (b : Int)).toNat = 156 * k + b := by omega
  unfold mX23_exchange
  rw [rdI_e (by omega), za, rdI_e (by omega), za, rdI_e (by omega), zb, wrI_e (by omega), za, rdI_e (by omega), zb, hI_sI_a (by omega), wrI_e (by omega), za, wrI_e (by omega), zb, wrI_e (by omega), zb, (q4 a ha).1, (q4 a ha).2, (q4 b hb).1, (q4 b hb).2]
  obtain ⟨z, hz⟩ : ∃ z, sI (sI (sI (sI S 2124 (156 * k + a) (xs b)) 2125 (156 * k + a) (ys b)) 2124 (156 * k + b) (xs a)) 2125 (156 * k + b) (ys a) = z := ⟨_, rfl⟩
  rw [hz]
  have zo : ∀ c i, c ≠ 2124 → c ≠ 2125 → gI z c i = gI S c i := fun c i h1 h2 => by rw [← hz, hI_sI_a h2, hI_sI_a h1, hI_sI_a h2, hI_sI_a h1]
  have zx : ∀ i, gI z 2124 i = if i = 156 * k + b then xs a else if i = 156 * k + a then xs b else gI S 2124 i := fun i => by
    rw [← hz, hI_sI_a (by omega), hI_sI]
    by_cases q : i = 156 * k + b
    · rw [if_pos ⟨rfl, q⟩, if_pos q, (i32x a ha).1]
    · rw [if_neg (fun g => q g.2), if_neg q, hI_sI_a (by omega), hI_sI]
      by_cases q2 : i = 156 * k + a
      · rw [if_pos ⟨rfl, q2⟩, if_pos q2, (i32x b hb).1]
      · rw [if_neg (fun g => q2 g.2), if_neg q2]
  have zy : ∀ i, gI z 2125 i = if i = 156 * k + b then ys a else if i = 156 * k + a then ys b else gI S 2125 i := fun i => by
    rw [← hz, hI_sI]
    by_cases q : i = 156 * k + b
    · rw [if_pos ⟨rfl, q⟩, if_pos q, (i32x a ha).2]
    · rw [if_neg (fun g => q g.2), if_neg q, hI_sI_a (by omega), hI_sI]
      by_cases q2 : i = 156 * k + a
      · rw [if_pos ⟨rfl, q2⟩, if_pos q2, (i32x b hb).2]
      · rw [if_neg (fun g => q2 g.2), if_neg q2, hI_sI_a (by omega)]
  refine WP_some.2 ⟨⟨m1.cg (fun c i l1 l2 => zo c i (by omega) (by omega)), ⟨⟨(zo _ _ (by omega) (by omega)).trans p1, fun q => (zo _ _ (by omega) (by omega)).trans (p2 q)⟩, fun _ e he => ?_⟩, wp.sw ha hb hs⟩, ⟨fun i hi => ?_, fun i _ => ⟨zo _ _ (by omega) (by omega), zo _ _ (by omega) (by omega)⟩⟩, zo _ _ (by omega) (by omega), zo _ _ (by omega) (by omega), zo⟩
  · have he : e < kE C := he
    show gI z 2124 (156 * k + e) = xs (pm a b e) ∧ gI z 2125 (156 * k + e) = ys (pm a b e)
    rw [zx, zy]
    unfold pm
    by_cases q : e = b
    · simp only [if_pos (show 156 * k + e = 156 * k + b by omega), if_pos q]
      by_cases q2 : e = a
      · simp only [if_pos q2]
        have e2 : a = b := by omega
        rw [e2]; exact ⟨rfl, rfl⟩
      · simp only [if_neg q2, and_self]
    · simp only [if_neg (show ¬ 156 * k + e = 156 * k + b by omega), if_neg q]
      by_cases q2 : e = a
      · simp only [if_pos (show 156 * k + e = 156 * k + a by omega), if_pos q2, and_self]
      · simp only [if_neg (show ¬ 156 * k + e = 156 * k + a by omega), if_neg q2]; exact q4 e he
  · rw [zx, zy, if_neg (by omega), if_neg (by omega), if_neg (by omega), if_neg (by omega)]; exact ⟨rfl, rfl⟩
theorem m_whole (hk : k < 4) (w : WFC C) {xs ys : Nat → Int} (m : MTry k C S xs ys) (h0 : C 16 0 ≠ 0) :
    WP (mX23_wholeWire S (k : Int)) (fun x => x.1 = kTot (plX C xs ys) (kN C) ∧ MTry k C x.2 xs ys ∧ OutI k C S x.2 ∧ gI x.2 2134 k = gI S 2134 k ∧ gI x.2 2146 k = gI S 2146 k) := by
  have wx : WFC (plX C xs ys) := w.fc (fun f i q => plX_o (by omega))
  have mx : RefK S k (plX C xs ys) := m.1.fc (fun f i q => plX_o (by omega))
  refine WP.mono (WP.pc (m_wholeWire mx m.2.1 wx m.2.2 h0 hk) fr_mX23_wholeWire) (fun x hx => ?_)
  obtain ⟨⟨x1, x2, x3⟩, x4⟩ := hx
  exact ⟨x1, ⟨x3.K m.1, x3.P m.2.1, m.2.2⟩, ⟨fun i _ => ⟨x3 _ _ (by omega), x3 _ _ (by omega)⟩, fun i _ => ⟨x4.ei rfl, x4.ei rfl⟩⟩, x4.ei rfl, x4.ei rfl⟩
theorem m_improve97 (hk : k < 4) (w : WFC C) (h0 : C 16 0 ≠ 0) {s : Pls} {any : Bool} {T : Sto} (h : MTry k C S s.1 s.2.1) (ho : OutI k C T S) (hl : MLos (any || s.2.2) k T S) {a : Nat} (ha : a < kE C) {x1 x2 : Int} {x3 : Sto} :
    WP (lpF (mX23_improve_L97 (k : Int) (x1, x2, (a : Int), x3)) (kTot (plX C s.1 s.2.1) (kN C), b2i s.2.2, (a : Int) + 1, S)) (fun y => y.1 = kTot (plX C (rwP C a s (kE C - (a + 1))).1 (rwP C a s (kE C - (a + 1))).2.1) (kN C) ∧ y.2.1 = b2i (rwP C a s (kE C - (a + 1))).2.2 ∧
      MTry k C y.2.2 (rwP C a s (kE C - (a + 1))).1 (rwP C a s (kE C - (a + 1))).2.1 ∧ OutI k C T y.2.2 ∧ MLos (any || (rwP C a s (kE C - (a + 1))).2.2) k T y.2.2) := by
  have hn := w.nums
  have hE : kE C ≤ 156 := by unfold kE; omega
  refine WP_cnt (kE C - (a + 1)) (fun n z => z.2.2.1 = ((a + 1 + n : Nat) : Int) ∧ z.1 = kTot (plX C (rwP C a s n).1 (rwP C a s n).2.1) (kN C) ∧ z.2.1 = b2i (rwP C a s n).2.2 ∧ MTry k C z.2.2.2 (rwP C a s n).1 (rwP C a s n).2.1 ∧ OutI k C T z.2.2.2 ∧ MLos (any || (rwP C a s n).2.2) k T z.2.2.2) (by unfold cFU; omega) ⟨by show (a : Int) + 1 = _; omega, rfl, rfl, h, ho, hl⟩ (fun n z hn' hI => ?_) (fun z hI => ?_)
  · obtain ⟨z1, z2, z3, z4⟩ := z
    obtain ⟨b1, b2, b3, b4, b5, b6⟩ := hI
    dsimp only at b1 b2 b3 b4 b5 b6
    subst b1
    have el : mX23_elements z4 (k : Int) = some ((kE C : Nat) : Int) := m_elements b4.1 w hk
    have sa := kSz_rng w ha
    have sb := kSz_rng w (show a + 1 + n < kE C by omega)
    unfold mX23_improve_L97
    dsimp only
    rw [el, bX_some, w32_id (by omega), w32_id (by omega), if_pos (by omega), m_sizeOf b4.1 w hk ha, bX_some, m_sizeOf b4.1 w hk (show a + 1 + n < kE C by omega), bX_some, w32_id (by omega), w32_id (by omega)]
    have eR : rwP C a s (n + 1) = stP C a (a + 1 + n) (rwP C a s n) := rfl
    rw [eR]
    generalize rwP C a s n = t at *
    refine WP_call (R := fun y => y.1 = kTot (plX C (stP C a (a + 1 + n) t).1 (stP C a (a + 1 + n) t).2.1) (kN C) ∧ y.2.1 = b2i (stP C a (a + 1 + n) t).2.2 ∧ MTry k C y.2.2 (stP C a (a + 1 + n) t).1 (stP C a (a + 1 + n) t).2.1 ∧ OutI k C T y.2.2 ∧ MLos (any || (stP C a (a + 1 + n) t).2.2) k T y.2.2) ?_ (fun y hy => WP_some.2 ⟨by show ((a + 1 + n : Nat) : Int) + 1 = _; omega, hy⟩)
    unfold stP
    by_cases q : kSz C a = kSz C (a + 1 + n)
    · rw [if_pos (by omega), if_pos q]
      refine WP_call (m_exch hk w b4 h0 ha (show a + 1 + n < kE C by omega) q) (fun x14 h14 => ?_)
      obtain ⟨c1, c2, c3, c4, _⟩ := h14
      refine WP_call (m_whole hk w c1 h0) (fun x15 h15 => ?_)
      obtain ⟨d1, d2, d3, d4, d5⟩ := h15
      have wt : ∀ xs ys, WFC (plX C xs ys) := fun xs ys => w.fc (fun f i q => plX_o (by omega))
      have r1 := kTot_rng (wt _ _) d2.2.2 h0 (Nat.le_refl _)
      have r2 := kTot_rng (wt _ _) b4.2.2 h0 (Nat.le_refl _)
      have r1 : 0 ≤ kTot (plX C (sw t.1 a (a + 1 + n)) (sw t.2.1 a (a + 1 + n))) (kN C) ∧ kTot (plX C (sw t.1 a (a + 1 + n)) (sw t.2.1 a (a + 1 + n))) (kN C) ≤ 100 * (kN C : Int) := r1
      have r2 : 0 ≤ kTot (plX C t.1 t.2.1) (kN C) ∧ kTot (plX C t.1 t.2.1) (kN C) ≤ 100 * (kN C : Int) := r2
      rw [d1, b2, w32_id (by omega), w32_id (by omega)]
      by_cases q2 : kTot (plX C (sw t.1 a (a + 1 + n)) (sw t.2.1 a (a + 1 + n))) (kN C) < kTot (plX C t.1 t.2.1) (kN C)
      · rw [if_pos q2, if_pos q2]
        unfold mX23_loseWires
        rw [wrI_e (by omega), Int.toNat_natCast, wrI_e (by omega), Int.toNat_natCast, bX_some]
        have oo : ∀ c i, c ≠ 2134 → c ≠ 2146 → gI (sI (sI x15.2 2134 k 0) 2146 k 0) c i = gI x15.2 c i := fun c i h1 h2 => by rw [hI_sI_a h2, hI_sI_a h1]
        refine WP_some.2 ⟨rfl, rfl, ⟨d2.1.cg (fun c i _ _ => oo c i (by omega) (by omega)), d2.2.1.cg (fun c i _ _ => oo c i (by omega) (by omega)), d2.2.2⟩, (b5.tr (c2.tr d3)).tr ⟨fun i _ => ⟨oo _ _ (by omega) (by omega), oo _ _ (by omega) (by omega)⟩, fun i hi => ⟨by rw [hI_sI_a (by omega), hI_sI_i hi], by rw [hI_sI_i hi, hI_sI_a (by omega)]⟩⟩, ?_⟩
        show MLos (any || true) k T (sI (sI x15.2 2134 k 0) 2146 k 0)
        rw [Bool.or_true]
        unfold MLos
        rw [if_pos rfl]
        exact ⟨by rw [hI_sI_a (by omega), gI_set]; rfl, by rw [gI_set]; rfl⟩
      · rw [if_neg q2, if_neg q2]
        refine WP_call (m_exch hk w d2 h0 ha (show a + 1 + n < kE C by omega) q) (fun x17 h17 => WP_some.2 ?_)
        obtain ⟨e1, e2, e3, e4, _⟩ := h17
        rw [sw_sw, sw_sw] at e1
        exact ⟨rfl, b3, e1, (b5.tr (c2.tr d3)).tr e2, b6.mv (e3.trans (d4.trans c3)) (e4.trans (d5.trans c4))⟩
    · rw [if_neg (by omega), if_neg q]
      exact WP_some.2 ⟨b2, b3, b4, b5, b6⟩
  · obtain ⟨z1, z2, z3, z4⟩ := z
    obtain ⟨b1, b2, b3, b4, b5, b6⟩ := hI
    dsimp only at b1 b2 b3 b4 b5 b6
    subst b1
    have el : mX23_elements z4 (k : Int) = some ((kE C : Nat) : Int) := m_elements b4.1 w hk
    unfold mX23_improve_L97
    dsimp only
    rw [el, bX_some, w32_id (by omega), w32_id (by omega), if_neg (by omega)]
    exact WP_some.2 ⟨b2, b3, b4, b5, b6⟩
theorem m_improve81 (hk : k < 4) (w : WFC C) (h0 : C 16 0 ≠ 0) {s : Pls} {any : Bool} {T : Sto} (h : MTry k C S s.1 s.2.1) (hs : s.2.2 = false) (ho : OutI k C T S) (hl : MLos any k T S) :
    WP (lpF (mX23_improve_L81 (k : Int)) (kTot (plX C s.1 s.2.1) (kN C), 0, 0, S)) (fun y => y.1 = kTot (plX C (paP C s (kE C)).1 (paP C s (kE C)).2.1) (kN C) ∧ y.2.1 = b2i (paP C s (kE C)).2.2 ∧ MTry k C y.2.2 (paP C s (kE C)).1 (paP C s (kE C)).2.1 ∧ OutI k C T y.2.2 ∧ MLos (any || (paP C s (kE C)).2.2) k T y.2.2) := by
  have hn := w.nums
  have hE : kE C ≤ 156 := by unfold kE; omega
  refine WP_cnt (kE C) (fun a z => z.2.2.1 = (a : Int) ∧ z.1 = kTot (plX C (paP C s a).1 (paP C s a).2.1) (kN C) ∧ z.2.1 = b2i (paP C s a).2.2 ∧ MTry k C z.2.2.2 (paP C s a).1 (paP C s a).2.1 ∧ OutI k C T z.2.2.2 ∧ MLos (any || (paP C s a).2.2) k T z.2.2.2) (by unfold cFU; omega) ⟨rfl, rfl, by show (0 : Int) = b2i s.2.2; rw [hs]; rfl, h, ho, by show MLos (any || s.2.2) k T S; rw [hs, Bool.or_false]; exact hl⟩ (fun a z ha hI => ?_) (fun z hI => ?_)
  · obtain ⟨z1, z2, z3, z4⟩ := z
    obtain ⟨b1, b2, b3, b4, b5, b6⟩ := hI
    dsimp only at b1 b2 b3 b4 b5 b6
    subst b1; subst b2; subst b3
    have el : mX23_elements z4 (k : Int) = some ((kE C : Nat) : Int) := m_elements b4.1 w hk
    unfold mX23_improve_L81
    dsimp only
    rw [el, bX_some, w32_id (by omega), w32_id (by omega), if_pos (by omega)]
    refine WP_call (m_improve97 hk w h0 (any := any) b4 b5 b6 ha) (fun y hy => ?_)
    exact WP_some.2 ⟨by show (a : Int) + 1 = _; omega, hy⟩
  · obtain ⟨z1, z2, z3, z4⟩ := z
    obtain ⟨b1, b2, b3, b4, b5, b6⟩ := hI
    dsimp only at b1 b2 b3 b4 b5 b6
    subst b1; subst b2; subst b3
    have el : mX23_elements z4 (k : Int) = some ((kE C : Nat) : Int) := m_elements b4.1 w hk
    unfold mX23_improve_L81
    dsimp only
    rw [el, bX_some, w32_id (by omega), if_neg (by omega)]
    exact WP_some.2 ⟨rfl, rfl, b4, b5, b6⟩
theorem m_improve64 (hk : k < 4) (w : WFC C) (h0 : C 16 0 ≠ 0) (h : MTry k C S (C 17) (C 18)) {T : Sto} (ho : OutI k C T S) (hl : MLos false k T S) {n : Nat} (hn4 : n ≤ 4) :
    WP (lpF (mX23_improve_L64 (n : Int) (k : Int)) (kTot (plX C (C 17) (C 18)) (kN C), 1, 0, S)) (fun y => y.1 = kTot (plX C (psP C n).1.1 (psP C n).1.2.1) (kN C) ∧ MTry k C y.2 (psP C n).1.1 (psP C n).1.2.1 ∧ OutI k C T y.2 ∧ MLos (psP C n).1.2.2 k T y.2) := by
  refine WP_cnt n (fun i z => z.2.2.1 = (i : Int) ∧ z.1 = kTot (plX C (psP C i).1.1 (psP C i).1.2.1) (kN C) ∧ z.2.1 = b2i (psP C i).2 ∧ MTry k C z.2.2.2 (psP C i).1.1 (psP C i).1.2.1 ∧ OutI k C T z.2.2.2 ∧ MLos (psP C i).1.2.2 k T z.2.2.2) (by unfold cFU; omega) ⟨rfl, rfl, rfl, h, ho, hl⟩ (fun i z hi hI => ?_) (fun z hI => ?_)
  · obtain ⟨z1, z2, z3, z4⟩ := z
    obtain ⟨b1, b2, b3, b4, b5, b6⟩ := hI
    dsimp only at b1 b2 b3 b4 b5 b6
    subst b1; subst b2; subst b3
    unfold mX23_improve_L64
    dsimp only
    rw [w32_id (by omega), w32_id (by omega), if_pos (by omega), w32_b2i]
    cases e : (psP C i).2 with
    | true =>
      have eP : psP C (i + 1) = (((paP C ((psP C i).1.1, (psP C i).1.2.1, false) (kE C)).1, (paP C ((psP C i).1.1, (psP C i).1.2.1, false) (kE C)).2.1, (psP C i).1.2.2 || (paP C ((psP C i).1.1, (psP C i).1.2.1, false) (kE C)).2.2), (paP C ((psP C i).1.1, (psP C i).1.2.1, false) (kE C)).2.2) := if_pos e
      rw [if_pos (by decide), bX_some, if_pos rfl]
      refine WP_call (m_improve81 hk w h0 (s := ((psP C i).1.1, (psP C i).1.2.1, false)) b4 rfl b5 b6) (fun y hy => ?_)
      obtain ⟨y1, y2, y3, y4, y5⟩ := hy
      rw [eP]
      exact WP_some.2 ⟨by show (i : Int) + 1 = _; omega, y1, y2, y3, y4, y5⟩
    | false =>
      rw [if_neg (by decide), bX_some, if_neg (by decide)]
      refine WP_some.2 ?_
      rw [psP_stop e (show i ≤ n by omega)]
      exact ⟨rfl, b4, b5, b6⟩
  · obtain ⟨z1, z2, z3, z4⟩ := z
    obtain ⟨b1, b2, b3, b4, b5, b6⟩ := hI
    dsimp only at b1 b2 b3 b4 b5 b6
    subst b1; subst b2
    unfold mX23_improve_L64
    dsimp only
    rw [w32_id (by omega), if_neg (by omega), bX_some, if_neg (by decide)]
    exact WP_some.2 ⟨rfl, b4, b5, b6⟩
end MIMPROVE
