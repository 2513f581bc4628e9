/-! violations as the reference has them -/
def Lst (l : List (Int × Int)) (f s : Int) : Prop := 0 < l.length → l[l.length - 1]? = some (f, s)
theorem Lst_app {l : List (Int × Int)} {x y : Int} : Lst (l ++ [(x, y)]) x y := by
  intro _
  have : (l ++ [(x, y)]).length = l.length + 1 := by rw [List.length_append]; rfl
  rw [this, Nat.add_sub_cancel, List.getElem?_append_right (Nat.le_refl _), Nat.sub_self]; rfl
section MCHECK
variable {S : Sto} {k : Nat} {C : Chp} {p2 : Int}
def MBx (S : Sto) (k : Nat) (C : Chp) : Prop := (gI S 2147 k) = C 23 0 ∧ ∀ i, i < 5 * kBx C → (gI S 2148 (10000 * k + i)) = C 24 i
theorem MBx.ch {S' : Sto} {lo hi : Nat} (h : MBx S k C) (g : Ch lo hi S S') (q : 2148 < lo ∨ hi < 2147) : MBx S' k C := ⟨(g.1 _ _ (by omega)).trans h.1, fun i hi => (g.1 _ _ (by omega)).trans (h.2 i hi)⟩
theorem m_side (h : MBx S k C) (wB : WFB C) (hk : k < 4) {b j : Nat} (hb : b < kBx C) (hj : j < 5) : mX23_side S (k : Int) (b : Int) (j : Int) = some (C 24 (5 * b + j)) := by
  have hn : kBx C ≤ 2000 := by have := wB.1; unfold kBx; omega
  have zt : (5 * (2000 * (k : Int) + (b : Int)) + (j : Int)).toNat = 10000 * k + (5 * b + j) := by omega
  unfold mX23_side
  rw [rdI_e (by omega), zt, h.2 _ (by omega)]
theorem m_sides (h : MBx S k C) (wB : WFB C) (hk : k < 4) {b : Nat} (hb : b < kBx C) : mX23_side S (k : Int) (b : Int) 0 = some (C 24 (5 * b)) ∧ mX23_side S (k : Int) (b : Int) 1 = some (C 24 (5 * b + 1)) ∧ mX23_side S (k : Int) (b : Int) 2 = some (C 24 (5 * b + 2)) ∧ mX23_side S (k : Int) (b : Int) 3 = some (C 24 (5 * b + 3)) ∧ mX23_side S (k : Int) (b : Int) 4 = some (C 24 (5 * b + 4)) :=
  ⟨m_side h wB hk (j := 0) hb (by omega), m_side h wB hk (j := 1) hb (by omega), m_side h wB hk (j := 2) hb (by omega), m_side h wB hk (j := 3) hb (by omega), m_side h wB hk (j := 4) hb (by omega)⟩
theorem m_isThin (h : MBx S k C) (wB : WFB C) (hk : k < 4) {b : Nat} (hb : b < kBx C) : mX23_isThin S (k : Int) (b : Int) = some (if bThin C b then 1 else 0) := by
  obtain ⟨e0, e1, e2, e3, e4⟩ := m_sides h wB hk hb
  have rg := wB.2 b hb
  unfold mX23_isThin
  rw [e3, e1, bX_some, bX_some, w32_id (by omega)]
  by_cases q : C 24 (5 * b + 3) - C 24 (5 * b + 1) < 2
  · rw [if_neg (by omega), bX_some, if_pos rfl, bX_some, if_pos (Or.inl q)]; rfl
  · rw [if_pos (by omega), e4, e2, bX_some, bX_some, w32_id (by omega)]
    by_cases q2 : C 24 (5 * b + 4) - C 24 (5 * b + 2) < 2
    · rw [if_pos q2, bX_some, if_pos rfl, bX_some, if_pos (Or.inr q2)]; rfl
    · rw [if_neg q2, bX_some, if_neg (by decide), bX_some, if_neg (by omega)]; rfl
theorem m_gapA {x1 x2 y1 y2 : Int} {a b j : Int} {j2 : Int} (hj : j + 2 = j2) (h1 : mX23_side S (k : Int) a j = some x1) (h2 : mX23_side S (k : Int) b j = some y1) (h3 : mX23_side S (k : Int) a j2 = some x2) (h4 : mX23_side S (k : Int) b j2 = some y2)
    (r : -1000 ≤ x1 ∧ x1 < x2 ∧ x2 ≤ 1000 ∧ -1000 ≤ y1 ∧ y1 < y2 ∧ y2 ≤ 1000) : WP (mX23_gap S (k : Int) a b j) (fun x => -2147483648 ≤ x ∧ x < 2147483648 ∧ (x ≤ 0 ↔ x1 ≤ y2 ∧ y1 ≤ x2) ∧ (x < 2 ↔ y1 - x2 < 2 ∧ x1 - y2 < 2)) := by
  unfold mX23_gap
  rw [hj, h1, h2, h3, h4]
  rw [bX_some, bX_some, bX_some, bX_some, w32_id (by omega), w32_id (by omega)]
  by_cases q : y1 < x1
  · rw [if_pos q, bX_some, bX_some, bX_some, w32_id (by omega), w32_id (by omega)]
    by_cases z : x2 < y2
    · rw [if_pos z, bX_some, bX_some]; exact WP_some.2 (by omega)
    · rw [if_neg z, bX_some, bX_some]; exact WP_some.2 (by omega)
  · rw [if_neg q, bX_some, bX_some, bX_some, w32_id (by omega), w32_id (by omega)]
    by_cases z : x2 < y2
    · rw [if_pos z, bX_some, bX_some]; exact WP_some.2 (by omega)
    · rw [if_neg z, bX_some, bX_some]; exact WP_some.2 (by omega)
theorem m_gaps (h : MBx S k C) (wB : WFB C) (hk : k < 4) {a b : Nat} (ha : a < kBx C) (hb : b < kBx C) : ∃ x y : Int, mX23_gap S (k : Int) (a : Int) (b : Int) 1 = some x ∧ mX23_gap S (k : Int) (a : Int) (b : Int) 2 = some y ∧ w32 x = x ∧ w32 y = y ∧
    (x ≤ 0 ↔ C 24 (5 * a + 1) ≤ C 24 (5 * b + 3) ∧ C 24 (5 * b + 1) ≤ C 24 (5 * a + 3)) ∧ (x < 2 ↔ C 24 (5 * b + 1) - C 24 (5 * a + 3) < 2 ∧ C 24 (5 * a + 1) - C 24 (5 * b + 3) < 2) ∧
    (y ≤ 0 ↔ C 24 (5 * a + 2) ≤ C 24 (5 * b + 4) ∧ C 24 (5 * b + 2) ≤ C 24 (5 * a + 4)) ∧ (y < 2 ↔ C 24 (5 * b + 2) - C 24 (5 * a + 4) < 2 ∧ C 24 (5 * a + 2) - C 24 (5 * b + 4) < 2) := by
  obtain ⟨e0, e1, e2, e3, e4⟩ := m_sides h wB hk hb
  obtain ⟨f0, f1, f2, f3, f4⟩ := m_sides h wB hk ha
  have rg := wB.2 b hb
  have rh := wB.2 a ha
  obtain ⟨x, x0, x1, x2, x3, x4⟩ := m_gapA (j := 1) (j2 := 3) rfl f1 e1 f3 e3 (by omega)
  obtain ⟨y, y0, y1, y2, y3, y4⟩ := m_gapA (j := 2) (j2 := 4) rfl f2 e2 f4 e4 (by omega)
  exact ⟨x, y, x0, y0, w32_id ⟨x1, x2⟩, w32_id ⟨y1, y2⟩, x3, x4, y3, y4⟩
theorem m_areMet (h : MBx S k C) (wB : WFB C) (hk : k < 4) {a b : Nat} (ha : a < kBx C) (hb : b < kBx C) : mX23_areMet S (k : Int) (a : Int) (b : Int) = some (if bMet C a b then 1 else 0) := by
  obtain ⟨x, y, g1, g2, w1, w2, i1, i2, i3, i4⟩ := m_gaps h wB hk ha hb
  unfold mX23_areMet
  rw [g1, g2, bX_some, bX_some, w1, w2]
  by_cases q : x ≤ 0
  · rw [if_pos q]
    by_cases z : y ≤ 0
    · have := i1.1 q
      have := i3.1 z
      rw [if_pos z, bX_some, if_pos rfl, bX_some, if_pos (by omega)]; rfl
    · rw [if_neg z, bX_some, if_neg (by decide), bX_some, if_neg (fun g => z (i3.2 g.2.2))]; rfl
  · rw [if_neg q, bX_some, if_neg (by decide), bX_some, if_neg (fun g => q (i1.2 ⟨g.1, g.2.1⟩))]; rfl
theorem m_isNear (h : MBx S k C) (wB : WFB C) (hk : k < 4) {a b : Nat} (ha : a < kBx C) (hb : b < kBx C) : mX23_isNear S (k : Int) (a : Int) (b : Int) = some (if bNear C a b then 1 else 0) := by
  obtain ⟨e0, e1, e2, e3, e4⟩ := m_sides h wB hk hb
  obtain ⟨f0, f1, f2, f3, f4⟩ := m_sides h wB hk ha
  have rg := wB.2 b hb
  have rh := wB.2 a ha
  obtain ⟨x, y, g1, g2, w1, w2, i1, i2, i3, i4⟩ := m_gaps h wB hk ha hb
  unfold mX23_isNear
  rw [e0, f0, m_areMet h wB hk ha hb, g1, g2, bX_some, bX_some, bX_some, bX_some, bX_some, w1, w2, w32_id (by omega), w32_id (by omega)]
  by_cases q : C 24 (5 * a) = C 24 (5 * b)
  · rw [if_pos q]
    by_cases m : bMet C a b
    · rw [if_pos m, if_neg (by decide), bX_some, if_neg (by decide), bX_some, if_neg (fun g => g.2.1 m)]; rfl
    · rw [if_neg m, if_pos (by decide)]
      by_cases z : x < 2
      · rw [if_pos z]
        by_cases u : y < 2
        · rw [if_pos u, bX_some, if_pos rfl, bX_some, if_pos ⟨q, m, i2.1 z, i4.1 u⟩]; rfl
        · rw [if_neg u, bX_some, if_neg (by decide), bX_some, if_neg (fun g => u (i4.2 g.2.2.2))]; rfl
      · rw [if_neg z, bX_some, if_neg (by decide), bX_some, if_neg (fun g => z (i2.2 g.2.2.1))]; rfl
  · rw [if_neg q, bX_some, if_neg (by decide), bX_some, if_neg (fun g => q g.1)]; rfl
theorem m_vi5 (h : MBx S k C) (hk : k < 4) (wB : WFB C) (hp : 0 ≤ p2 ∧ p2 < 2147483648) :
    WP (lpF (mX23_violations_L5 (k : Int) p2) (0, 0, S)) (fun z => ∃ l r, vTh C (kBx C) = l ++ r ∧ z.1 = (l.length : Int) ∧ Lst l (gI z.2 2000 190) (gI z.2 2000 191) ∧ (r = [] ∨ p2 < (l.length : Int)) ∧ (l.length : Int) ≤ p2 + 1 ∧ Ch 2000 2000 S z.2) := by
  have hw := wB.1
  have hn : kBx C ≤ 2000 := by unfold kBx; omega
  have hi23 : ∀ i : Nat, ((i : Int) < C 23 0 ↔ i < kBx C) := fun i => by unfold kBx; omega
  refine WP_cnt (kBx C) (fun i z => z.2.1 = (i : Int) ∧ z.1 = ((vTh C i).length : Int) ∧ Lst (vTh C i) (gI z.2.2 2000 190) (gI z.2.2 2000 191) ∧ ((vTh C i).length : Int) ≤ p2 + 1 ∧ Ch 2000 2000 S z.2.2) (by unfold cFU; omega) ⟨rfl, rfl, fun g => absurd g (Nat.not_lt_zero _), by show (0 : Int) ≤ _; omega, Ch.refl⟩ (fun i z hi hI => ?_) (fun z hI => ?_)
  · obtain ⟨b1, b2, b3, b5, b4⟩ := hI
    have hz := h.ch b4 (by omega)
    have ln := vTh_len (C := C) i
    unfold mX23_violations_L5
    rw [rdI_e (by omega), Int.toNat_natCast, hz.1, b1, b2, w32_id (show -2147483648 ≤ (i : Int) ∧ _ by omega), w32_id (show -2147483648 ≤ C 23 0 ∧ _ by omega), if_pos ((hi23 i).2 hi), w32_id (show -2147483648 ≤ p2 ∧ _ by omega), w32_id (show -2147483648 ≤ ((vTh C i).length : Int) ∧ _ by omega)]
    by_cases q : ((vTh C i).length : Int) ≤ p2
    · rw [if_pos q, bX_some, if_pos rfl, m_isThin hz wB hk hi, bX_some]
      have ev : vTh C (i + 1) = vTh C i ++ (if bThin C i then [((i : Int), -1)] else []) := rfl
      by_cases t : bThin C i
      · rw [if_pos t] at ev
        rw [if_pos t, if_pos (by decide), wf_eq, wf_eq, bX_some]
        refine WP_some.2 ⟨by show (i : Int) + 1 = _; omega, by show ((vTh C i).length : Int) + 1 = _; rw [ev, len_snoc], ?_, by rw [ev, len_snoc]; omega, (b4.sI (by omega)).sI (by omega)⟩
        rw [ev]
        have e1 : gI (sI (sI z.2.2 2000 190 (i : Int)) 2000 191 (-1)) 2000 190 = (i : Int) := by rw [hI_sI_i (by omega), gI_set, w32_id (by omega)]
        have e2 : gI (sI (sI z.2.2 2000 190 (i : Int)) 2000 191 (-1)) 2000 191 = -1 := by rw [gI_set]; rfl
        show Lst _ (gI (sI (sI z.2.2 2000 190 (i : Int)) 2000 191 (-1)) 2000 190) (gI (sI (sI z.2.2 2000 190 (i : Int)) 2000 191 (-1)) 2000 191)
        rw [e1, e2]
        exact Lst_app
      · rw [if_neg t, List.append_nil] at ev
        rw [if_neg t, if_neg (by decide), bX_some]
        exact WP_some.2 ⟨by show (i : Int) + 1 = _; omega, by rw [ev], by rw [ev]; exact b3, by rw [ev]; exact b5, b4⟩
    · rw [if_neg q, bX_some, if_neg (by decide)]
      obtain ⟨r, hr⟩ := vTh_pre (C := C) (i := i) (n := kBx C) (by omega)
      exact WP_some.2 ⟨_, r, hr, rfl, b3, .inr (by omega), b5, b4⟩
  · obtain ⟨b1, b2, b3, b5, b4⟩ := hI
    have hz := h.ch b4 (by omega)
    unfold mX23_violations_L5
    rw [rdI_e (by omega), Int.toNat_natCast, hz.1, b1, b2, w32_id (show -2147483648 ≤ (kBx C : Int) ∧ _ by omega), w32_id (show -2147483648 ≤ C 23 0 ∧ _ by omega), if_neg (by rw [hi23]; omega), bX_some, if_neg (by decide)]
    exact WP_some.2 ⟨_, [], (List.append_nil _).symm, rfl, b3, .inl rfl, b5, b4⟩
theorem m_vi76 (h : MBx S k C) (hk : k < 4) (wB : WFB C) (hp : 0 ≤ p2 ∧ p2 < 2147483648) {a : Nat} (ha : a < kBx C) {l : List (Int × Int)} (hl : l.length ≤ 4000000 ∧ (l.length : Int) ≤ p2 + 1) {n0 : Int} {T : Sto} (h0 : Lst l (gI S 2000 190) (gI S 2000 191)) :
    WP (lpF (mX23_violations_L76 (k : Int) p2 (n0, (a : Int), T)) ((l.length : Int), (a : Int) + 1, S)) (fun z => ∃ m r, l ++ vRow C a (kBx C - 1 - a) = m ++ r ∧ z.1 = (m.length : Int) ∧ Lst m (gI z.2 2000 190) (gI z.2 2000 191) ∧ (r = [] ∨ p2 < (m.length : Int)) ∧ (m.length : Int) ≤ p2 + 1 ∧ Ch 2000 2000 S z.2) := by
  have hw := wB.1
  have hn : kBx C ≤ 2000 := by unfold kBx; omega
  have hi23 : ∀ i : Nat, ((i : Int) < C 23 0 ↔ i < kBx C) := fun i => by unfold kBx; omega
  refine WP_cnt (kBx C - 1 - a) (fun i z => z.2.1 = ((a + 1 + i : Nat) : Int) ∧ z.1 = ((l ++ vRow C a i).length : Int) ∧ Lst (l ++ vRow C a i) (gI z.2.2 2000 190) (gI z.2.2 2000 191) ∧ ((l ++ vRow C a i).length : Int) ≤ p2 + 1 ∧ Ch 2000 2000 S z.2.2) (by unfold cFU; omega) ⟨by show (a : Int) + 1 = _; omega, by show (l.length : Int) = _; rw [show vRow C a 0 = [] from rfl, List.append_nil], by rw [show vRow C a 0 = [] from rfl, List.append_nil]; exact h0, by rw [show vRow C a 0 = [] from rfl, List.append_nil]; exact hl.2, Ch.refl⟩ (fun i z hi hI => ?_) (fun z hI => ?_)
  · obtain ⟨b1, b2, b3, b5, b4⟩ := hI
    have hz := h.ch b4 (by omega)
    have ln := vRow_len (C := C) a i
    have la : (l ++ vRow C a i).length = l.length + (vRow C a i).length := List.length_append
    have hb : a + 1 + i < kBx C := by omega
    unfold mX23_violations_L76
    dsimp only
    rw [rdI_e (by omega), Int.toNat_natCast, hz.1, b1, b2, w32_id (show -2147483648 ≤ ((a + 1 + i : Nat) : Int) ∧ _ by omega), w32_id (show -2147483648 ≤ C 23 0 ∧ _ by omega), if_pos ((hi23 _).2 hb), w32_id (show -2147483648 ≤ p2 ∧ _ by omega), w32_id (show -2147483648 ≤ ((l ++ vRow C a i).length : Int) ∧ _ by omega)]
    by_cases q : ((l ++ vRow C a i).length : Int) ≤ p2
    · rw [if_pos q, bX_some, if_pos rfl, m_isNear hz wB hk ha hb, bX_some]
      have ev : l ++ vRow C a (i + 1) = (l ++ vRow C a i) ++ (if bNear C a (a + 1 + i) then [((a : Int), ((a + 1 + i : Nat) : Int))] else []) := by rw [List.append_assoc]; rfl
      by_cases t : bNear C a (a + 1 + i)
      · rw [if_pos t] at ev
        rw [if_pos t, if_pos (by decide), wf_eq, wf_eq, bX_some]
        refine WP_some.2 ⟨by show ((a + 1 + i : Nat) : Int) + 1 = _; omega, by show ((l ++ vRow C a i).length : Int) + 1 = _; rw [ev, len_snoc], ?_, by rw [ev, len_snoc]; omega, (b4.sI (by omega)).sI (by omega)⟩
        rw [ev]
        have e1 : gI (sI (sI z.2.2 2000 190 (a : Int)) 2000 191 ((a + 1 + i : Nat) : Int)) 2000 190 = (a : Int) := by rw [hI_sI_i (by omega), gI_set, w32_id (by omega)]
        have e2 : gI (sI (sI z.2.2 2000 190 (a : Int)) 2000 191 ((a + 1 + i : Nat) : Int)) 2000 191 = ((a + 1 + i : Nat) : Int) := by rw [gI_set, w32_id (by omega)]
        show Lst _ (gI (sI (sI z.2.2 2000 190 (a : Int)) 2000 191 ((a + 1 + i : Nat) : Int)) 2000 190) (gI (sI (sI z.2.2 2000 190 (a : Int)) 2000 191 ((a + 1 + i : Nat) : Int)) 2000 191)
        rw [e1, e2]
        exact Lst_app
      · rw [if_neg t, List.append_nil] at ev
        rw [if_neg t, if_neg (by decide), bX_some]
        exact WP_some.2 ⟨by show ((a + 1 + i : Nat) : Int) + 1 = _; omega, by rw [ev], by rw [ev]; exact b3, by rw [ev]; exact b5, b4⟩
    · rw [if_neg q, bX_some, if_neg (by decide)]
      obtain ⟨r, hr⟩ := vRow_pre (C := C) (a := a) (i := i) (n := kBx C - 1 - a) (by omega)
      exact WP_some.2 ⟨_, r, by rw [hr, List.append_assoc], rfl, b3, .inr (by omega), b5, b4⟩
  · obtain ⟨b1, b2, b3, b5, b4⟩ := hI
    have hz := h.ch b4 (by omega)
    unfold mX23_violations_L76
    rw [rdI_e (by omega), Int.toNat_natCast, hz.1, b1, b2, w32_id (show -2147483648 ≤ ((a + 1 + (kBx C - 1 - a) : Nat) : Int) ∧ _ by omega), w32_id (show -2147483648 ≤ C 23 0 ∧ _ by omega), if_neg (by rw [hi23]; omega), bX_some, if_neg (by decide)]
    exact WP_some.2 ⟨_, [], (List.append_nil _).symm, rfl, b3, .inl rfl, b5, b4⟩
theorem m_vi54 (h : MBx S k C) (hk : k < 4) (wB : WFB C) (hp : 0 ≤ p2 ∧ p2 < 2147483648) {l r : List (Int × Int)} (hl : vTh C (kBx C) = l ++ r) (hr : r = [] ∨ p2 < (l.length : Int)) (hp1 : (l.length : Int) ≤ p2 + 1) (h0 : Lst l (gI S 2000 190) (gI S 2000 191)) :
    WP (lpF (mX23_violations_L54 (k : Int) p2) ((l.length : Int), 0, S)) (fun z => ∃ l r, vAll C = l ++ r ∧ z.1 = (l.length : Int) ∧ Lst l (gI z.2 2000 190) (gI z.2 2000 191) ∧ (r = [] ∨ p2 < (l.length : Int)) ∧ (l.length : Int) ≤ p2 + 1) := by
  have hw := wB.1
  have hn : kBx C ≤ 2000 := by unfold kBx; omega
  have hi23 : ∀ i : Nat, ((i : Int) < C 23 0 ↔ i < kBx C) := fun i => by unfold kBx; omega
  have lt := vTh_len (C := C) (kBx C)
  have ll : l.length ≤ 2000 := by rw [hl, List.length_append] at lt; omega
  refine WP_cnt (kBx C) (fun i z => z.2.1 = (i : Int) ∧ (∃ m s, vAll C = m ++ s ∧ z.1 = (m.length : Int) ∧ m.length ≤ 4000000 ∧ Lst m (gI z.2.2 2000 190) (gI z.2.2 2000 191) ∧ (m.length : Int) ≤ p2 + 1 ∧ (p2 < (m.length : Int) ∨ m = vTh C (kBx C) ++ vPr C i)) ∧ Ch 2000 2000 S z.2.2) (by unfold cFU; omega) ⟨rfl, ⟨l, r ++ vPr C (kBx C), by unfold vAll; rw [hl, List.append_assoc], rfl, by omega, h0, hp1, ?_⟩, Ch.refl⟩ (fun i z hi hI => ?_) (fun z hI => ?_)
  · rcases hr with rfl | hr
    · right; rw [hl, List.append_nil]; exact (List.append_nil _).symm
    · exact .inl hr
  · obtain ⟨b1, ⟨m, s, m1, m2, m3, m4, m5, m6⟩, b4⟩ := hI
    have hz := h.ch b4 (by omega)
    obtain ⟨z1, z2, z3⟩ := z
    dsimp only at b1 m2 m4 b4 hz
    subst b1 m2
    unfold mX23_violations_L54
    dsimp only
    rw [rdI_e (by omega), Int.toNat_natCast, hz.1, w32_id (show -2147483648 ≤ (i : Int) ∧ _ by omega), w32_id (show -2147483648 ≤ C 23 0 ∧ _ by omega), if_pos ((hi23 i).2 hi), w32_id (show -2147483648 ≤ p2 ∧ _ by omega), w32_id (show -2147483648 ≤ (m.length : Int) ∧ _ by omega)]
    by_cases q : (m.length : Int) ≤ p2
    · rw [if_pos q, bX_some, if_pos rfl]
      have em : m = vTh C (kBx C) ++ vPr C i := m6.resolve_left (by omega)
      have ln := vPr_len wB i
      have l1 := vPr_len wB (i + 1)
      refine WP_call (m_vi76 (T := z3) (n0 := (m.length : Int)) hz hk wB hp hi ⟨m3, m5⟩ m4) (fun x hx => ?_)
      obtain ⟨m', r', x1, x2, x3, x4, x5, x6⟩ := hx
      have ev : m ++ vRow C i (kBx C - 1 - i) = vTh C (kBx C) ++ vPr C (i + 1) := by rw [em, List.append_assoc]; rfl
      obtain ⟨s', hs'⟩ := vPr_pre (C := C) (i := i + 1) (n := kBx C) (by omega)
      have va : vAll C = m' ++ (r' ++ s') := by unfold vAll; rw [hs', ← List.append_assoc, ← ev, x1, List.append_assoc]
      have lm : m'.length ≤ 4000000 := by
        have : (m' ++ r').length = (vTh C (kBx C) ++ vPr C (i + 1)).length := by rw [← x1, ev]
        rw [List.length_append, List.length_append] at this
        omega
      refine WP_some.2 ⟨by show (i : Int) + 1 = _; omega, ⟨m', r' ++ s', va, x2, lm, x3, x5, ?_⟩, b4.tr x6 (by omega) (by omega)⟩
      rcases x4 with rfl | x4
      · right; rw [← ev, x1, List.append_nil]
      · exact .inl x4
    · rw [if_neg q, bX_some, if_neg (by decide)]
      exact WP_some.2 ⟨m, s, m1, rfl, m4, .inr (by omega), m5⟩
  · obtain ⟨b1, ⟨m, s, m1, m2, m3, m4, m5, m6⟩, b4⟩ := hI
    have hz := h.ch b4 (by omega)
    unfold mX23_violations_L54
    rw [rdI_e (by omega), Int.toNat_natCast, hz.1, b1, w32_id (show -2147483648 ≤ (kBx C : Int) ∧ _ by omega), w32_id (show -2147483648 ≤ C 23 0 ∧ _ by omega), if_neg (by rw [hi23]; omega), bX_some, if_neg (by decide)]
    refine WP_some.2 ⟨m, s, m1, m2, m4, ?_, m5⟩
    rcases m6 with m6 | m6
    · exact .inr m6
    · left
      unfold vAll at m1
      rw [m6] at m1
      exact List.append_cancel_left (by rw [List.append_nil]; exact m1.symm)
theorem m_violations (h : MBx S k C) (hk : k < 4) (wB : WFB C) (hp : 0 ≤ p2 ∧ p2 < 2147483648) : WP (mX23_violations S (k : Int) p2) (fun z => ∃ l r, vAll C = l ++ r ∧ z.1 = (l.length : Int) ∧ Lst l (gI z.2 2000 190) (gI z.2 2000 191) ∧ (r = [] ∨ p2 < (l.length : Int)) ∧ (l.length : Int) ≤ p2 + 1) := by
  unfold mX23_violations
  refine WP_call (m_vi5 h hk wB hp) (fun x hx => ?_)
  obtain ⟨l, r, x1, x2, x3, x4, x6, x5⟩ := hx
  rw [x2]
  exact WP_call (m_vi54 (h.ch x5 (by omega)) hk wB hp x1 x4 x6 x3) (fun y hy => WP_some.2 hy)
end MCHECK
