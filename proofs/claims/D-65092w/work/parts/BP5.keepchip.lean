/-! the reference keeps a chip -/
def P91 (j a i : Nat) : Prop := (a = 2112 ∧ 150 * j ≤ i ∧ i < 150 * j + 150) ∨ (a = 2113 ∧ 450 * j ≤ i ∧ i < 450 * j + 450)
def P179 (j a i : Nat) : Prop := 2117 ≤ a ∧ a ≤ 2120 ∧ 12 * j ≤ i ∧ i < 12 * j + 12
def PKc (j a i : Nat) : Prop := (a = 2105 ∧ i = j) ∨ (ownC j a i ∧ a ≠ 2114 ∧ a ≠ 2115)
def MCh (z : Sto) (G : Dsg) (B : Lib) (j : Nat) (L : List (Int × Int × Int × Int)) : Prop :=
  (gI z 2105 j = 1 ∧ gI z 2106 j = (gIn G : Int) ∧ gI z 2107 j = (gSt G : Int) ∧ gI z 2108 j = (gOu G : Int) ∧ gI z 2109 j = G 11 0 ∧ gI z 2110 j = G 11 0 ∧ gI z 2111 j = (L.length : Int) ∧ gI z 2116 j = (liN B : Int)) ∧
  (∀ g, g < L.length → gI z 2112 (150 * j + g) = (L.getD g (0, 0, 0, 0)).1 ∧ gI z 2113 (450 * j + 3 * g) = (L.getD g (0, 0, 0, 0)).2.1 ∧ gI z 2113 (450 * j + (3 * g + 1)) = (L.getD g (0, 0, 0, 0)).2.2.1 ∧ gI z 2113 (450 * j + (3 * g + 2)) = (L.getD g (0, 0, 0, 0)).2.2.2) ∧
  (∀ c, c < liN B → gI z 2117 (12 * j + c) = B 1 c ∧ gI z 2118 (12 * j + c) = B 2 c ∧ gI z 2119 (12 * j + c) = B 3 c ∧ gI z 2120 (12 * j + c) = B 4 c) ∧
  (gI z 2123 j = 0 ∧ gI z 2134 j = 0 ∧ gI z 2146 j = 0 ∧ gI z 2155 j = 0 ∧ gI z 2172 j = -1) ∧ ∀ f, f < 1280 → gI z 2177 (1280 * j + f) = 0
section KEEPCHIP
variable {S z : Sto} {G : Dsg} {B : Lib} {d n i k l p j len : Nat} {s : MkS}
theorem m_kc91 (hj : j < 4) (hl : len ≤ 150) (h129 : gI S 2000 129 = (len : Int)) (h1 : ∀ g, g < len → -2147483648 ≤ gI S 2099 g ∧ gI S 2099 g < 2147483648) (h2 : ∀ x, x < 3 * len → -2147483648 ≤ gI S 2100 x ∧ gI S 2100 x < 2147483648) :
    WP (lpF (mX23_keepChip_L91 (j : Int)) (0, S)) (fun z => ChW (P91 j) S z ∧ (∀ g, g < len → gI z 2112 (150 * j + g) = gI S 2099 g) ∧ ∀ x, x < 3 * len → gI z 2113 (450 * j + x) = gI S 2100 x) := by
  refine WP_cnt len (fun q st => st.1 = (q : Int) ∧ ChW (P91 j) S st.2 ∧ (∀ g, g < q → gI st.2 2112 (150 * j + g) = gI S 2099 g) ∧ ∀ x, x < 3 * q → gI st.2 2113 (450 * j + x) = gI S 2100 x) (by unfold cFU; omega) ⟨rfl, ChW.refl, fun g h => absurd h (Nat.not_lt_zero _), fun g h => absurd h (Nat.not_lt_zero _)⟩ (fun q st hq hI => ?_) (fun st hI => ?_)
  · obtain ⟨s1, s2⟩ := st
    obtain ⟨b1, b2, b3, b4⟩ := hI
    dsimp only at b1 b2 b3 b4
    subst b1
    have e129 : gI s2 2000 129 = (len : Int) := by rw [b2.1 _ _ (fun g => by unfold P91 at g; omega)]; exact h129
    have e99 : gI s2 2099 q = gI S 2099 q := b2.1 _ _ (fun g => by unfold P91 at g; omega)
    have z0 : (150 * (j : Int) + (q : Int)).toNat = 150 * j + q := by omega
    have r1 := h1 q hq
    unfold mX23_keepChip_L91
    dsimp only
    rw [e129, w32_id (by omega), w32_id (by omega), if_pos (by omega), rdI_e (by omega), Int.toNat_natCast, e99, wrI_e (by omega), z0]
    obtain ⟨T, hT⟩ : ∃ T, T = sI s2 2112 (150 * j + q) (gI S 2099 q) := ⟨_, rfl⟩
    rw [← hT]
    have cT : ChW (P91 j) S T := by rw [hT]; exact b2.sI (.inl ⟨rfl, by omega, by omega⟩)
    refine WP_call (R := fun z => ChW (fun a i => a = 2113 ∧ 450 * j ≤ i ∧ i < 450 * j + 450) T z ∧ ∀ x, x < 3 * (q + 1) → gI z 2113 (450 * j + x) = gI S 2100 x) ?_ (fun z hz => ?_)
    · refine WP_cnt 3 (fun u st => st.1 = (u : Int) ∧ ChW (fun a i => a = 2113 ∧ 450 * j ≤ i ∧ i < 450 * j + 450) T st.2 ∧ ∀ x, x < 3 * q + u → gI st.2 2113 (450 * j + x) = gI S 2100 x) (by decide) ⟨rfl, ChW.refl, fun x hx => ?_⟩ (fun u st hu hI => ?_) (fun st hI => ?_)
      · dsimp only; rw [hT, hI_sI_a (by omega)]; exact b4 x (by omega)
      · obtain ⟨u1, u2⟩ := st
        obtain ⟨d1, d2, d3⟩ := hI
        dsimp only at d1 d2 d3
        subst d1
        have r2 := h2 (3 * q + u) (by omega)
        have z1 : (3 * (q : Int) + (u : Int)).toNat = 3 * q + u := by omega
        have z2 : (3 * (150 * (j : Int) + (q : Int)) + (u : Int)).toNat = 450 * j + (3 * q + u) := by omega
        have e100 : gI u2 2100 (3 * q + u) = gI S 2100 (3 * q + u) := (d2.1 _ _ (by omega)).trans (cT.1 _ _ (fun g => by unfold P91 at g; omega))
        unfold mX23_keepChip_L119
        dsimp only
        rw [w32_id (by omega), if_pos (by omega), rdI_e (by omega), z1, e100, wrI_e (by omega), z2]
        refine WP_some.2 ⟨by show (u : Int) + 1 = _; omega, d2.sI ⟨rfl, by omega, by omega⟩, fun x hx => ?_⟩
        dsimp only
        by_cases g : x = 3 * q + u
        · subst g; rw [gI_set, w32_id r2]
        · rw [hI_sI_i (by omega)]; exact d3 x (by omega)
      · obtain ⟨u1, u2⟩ := st
        obtain ⟨d1, d2, d3⟩ := hI
        dsimp only at d1 d2 d3
        subst d1
        unfold mX23_keepChip_L119
        dsimp only
        rw [if_neg (by decide)]
        exact WP_some.2 ⟨d2, fun x hx => d3 x (by omega)⟩
    · obtain ⟨d2, d3⟩ := hz
      refine WP_some.2 ⟨by show (q : Int) + 1 = _; omega, cT.tr d2 (fun a i g => .inr g), fun g hg => ?_, d3⟩
      dsimp only
      rw [d2.1 _ _ (by omega), hT]
      by_cases e : g = q
      · subst e; rw [gI_set, w32_id r1]
      · rw [hI_sI_i (by omega)]; exact b3 g (by omega)
  · obtain ⟨s1, s2⟩ := st
    obtain ⟨b1, b2, b3, b4⟩ := hI
    dsimp only at b1 b2 b3 b4
    subst b1
    have e129 : gI s2 2000 129 = (len : Int) := by rw [b2.1 _ _ (fun g => by unfold P91 at g; omega)]; exact h129
    unfold mX23_keepChip_L91
    dsimp only
    rw [e129, if_neg (by omega)]
    exact WP_some.2 ⟨b2, b3, b4⟩
theorem m_kc179 (hj : j < 4) (hl : l < 3) (h106 : gI S 2000 106 = (l : Int)) : WP (lpF (mX23_keepChip_L179 (j : Int)) (0, S)) (fun z => ChW (P179 j) S z ∧ ∀ c, c < 12 → gI z 2117 (12 * j + c) = w32 (gI S 2068 (12 * l + c)) ∧ gI z 2118 (12 * j + c) = w32 (gI S 2069 (12 * l + c)) ∧ gI z 2119 (12 * j + c) = w32 (gI S 2070 (12 * l + c)) ∧ gI z 2120 (12 * j + c) = w32 (gI S 2071 (12 * l + c))) := by
  refine WP_cnt 12 (fun q st => st.1 = (q : Int) ∧ ChW (P179 j) S st.2 ∧ ∀ c, c < q → gI st.2 2117 (12 * j + c) = w32 (gI S 2068 (12 * l + c)) ∧ gI st.2 2118 (12 * j + c) = w32 (gI S 2069 (12 * l + c)) ∧ gI st.2 2119 (12 * j + c) = w32 (gI S 2070 (12 * l + c)) ∧ gI st.2 2120 (12 * j + c) = w32 (gI S 2071 (12 * l + c))) (by decide) ⟨rfl, ChW.refl, fun g h => absurd h (Nat.not_lt_zero _)⟩ (fun q st hq hI => ?_) (fun st hI => ?_)
  · obtain ⟨s1, s2⟩ := st
    obtain ⟨b1, b2, b3⟩ := hI
    dsimp only at b1 b2 b3
    subst b1
    have o : ∀ a i, ¬ (2117 ≤ a ∧ a ≤ 2120) → gI s2 a i = gI S a i := fun a i q => b2.1 _ _ (fun g => by unfold P179 at g; omega)
    have z0 : (12 * (l : Int) + (q : Int)).toNat = 12 * l + q := by omega
    have z1 : (12 * (j : Int) + (q : Int)).toNat = 12 * j + q := by omega
    unfold mX23_keepChip_L179
    dsimp only
    rw [w32_id (by omega), if_pos (by omega), o 2000 106 (by omega), h106, rdI_e (by omega), z0, o _ _ (by omega), wrI_e (by omega), z1, hI_sI_a (by omega), o 2000 106 (by omega), h106, rdI_e (by omega), z0, hI_sI_a (by omega), o _ _ (by omega), wrI_e (by omega), z1, hI_sI_a (by omega), hI_sI_a (by omega), o 2000 106 (by omega), h106, rdI_e (by omega), z0, hI_sI_a (by omega), hI_sI_a (by omega), o _ _ (by omega), wrI_e (by omega), z1, hI_sI_a (by omega), hI_sI_a (by omega), hI_sI_a (by omega), o 2000 106 (by omega), h106, rdI_e (by omega), z0, hI_sI_a (by omega), hI_sI_a (by omega), hI_sI_a (by omega), o _ _ (by omega), wrI_e (by omega), z1]
    refine WP_some.2 ⟨by show (q : Int) + 1 = _; omega, (((b2.sI (by unfold P179; omega)).sI (by unfold P179; omega)).sI (by unfold P179; omega)).sI (by unfold P179; omega), fun c hc => ?_⟩
    dsimp only
    by_cases g : c = q
    · subst g
      refine ⟨?_, ?_, ?_, ?_⟩
      · rw [hI_sI_a (by omega), hI_sI_a (by omega), hI_sI_a (by omega), gI_set]
      · rw [hI_sI_a (by omega), hI_sI_a (by omega), gI_set]
      · rw [hI_sI_a (by omega), gI_set]
      · rw [gI_set]
    · obtain ⟨v1, v2, v3, v4⟩ := b3 c (by omega)
      refine ⟨?_, ?_, ?_, ?_⟩
      · rw [hI_sI_a (by omega), hI_sI_a (by omega), hI_sI_a (by omega), hI_sI_i (by omega)]; exact v1
      · rw [hI_sI_a (by omega), hI_sI_a (by omega), hI_sI_i (by omega), hI_sI_a (by omega)]; exact v2
      · rw [hI_sI_a (by omega), hI_sI_i (by omega), hI_sI_a (by omega), hI_sI_a (by omega)]; exact v3
      · rw [hI_sI_i (by omega), hI_sI_a (by omega), hI_sI_a (by omega), hI_sI_a (by omega)]; exact v4
  · obtain ⟨s1, s2⟩ := st
    obtain ⟨b1, b2, b3⟩ := hI
    dsimp only at b1 b2 b3
    subst b1
    unfold mX23_keepChip_L179
    dsimp only
    rw [if_neg (by decide)]
    exact WP_some.2 ⟨b2, b3⟩
theorem m_forgetLeast5 (hj : j < 4) : WP (mX23_forgetLeast S (j : Int)) (fun z => ChW (fun a i => a = 2177 ∧ 1280 * j ≤ i ∧ i < 1280 * j + 1280) S z ∧ ∀ f, f < 1280 → gI z 2177 (1280 * j + f) = 0) := by
  unfold mX23_forgetLeast
  refine WP_call (R := fun z => ChW (fun a i => a = 2177 ∧ 1280 * j ≤ i ∧ i < 1280 * j + 1280) S z ∧ ∀ f, f < 1280 → gI z 2177 (1280 * j + f) = 0) ?_ (fun z h => WP_some.2 h)
  refine WP_cnt 1280 (fun q st => st.1 = (q : Int) ∧ ChW (fun a i => a = 2177 ∧ 1280 * j ≤ i ∧ i < 1280 * j + 1280) S st.2 ∧ ∀ f, f < q → gI st.2 2177 (1280 * j + f) = 0) (by unfold cFU; omega) ⟨rfl, ChW.refl, fun g h => absurd h (Nat.not_lt_zero _)⟩ (fun q st hq hI => ?_) (fun st hI => ?_)
  · obtain ⟨s1, s2⟩ := st
    obtain ⟨b1, b2, b3⟩ := hI
    dsimp only at b1 b2 b3
    subst b1
    have z1 : (1280 * (j : Int) + (q : Int)).toNat = 1280 * j + q := by omega
    unfold mX23_forgetLeast_L2
    dsimp only
    rw [w32_id (by omega), if_pos (by omega), wrI_e (by omega), z1]
    refine WP_some.2 ⟨by show (q : Int) + 1 = _; omega, b2.sI ⟨rfl, by omega, by omega⟩, fun f hf => ?_⟩
    dsimp only
    by_cases g : f = q
    · subst g; rw [gI_set]; rfl
    · rw [hI_sI_i (by omega)]; exact b3 f (by omega)
  · obtain ⟨s1, s2⟩ := st
    obtain ⟨b1, b2, b3⟩ := hI
    dsimp only at b1 b2 b3
    subst b1
    unfold mX23_forgetLeast_L2
    dsimp only
    rw [if_neg (by decide)]
    exact WP_some.2 ⟨b2, b3⟩
theorem m_keepChip (w : WFG G) (wl : WFL B) (hd : d < 6) (hl : l < 3) (hj : j < 4) (hG : MGx S d G) (hL : MLx S l B) (hs : MSg S G B s) (hn : s.1.length ≤ 150) (ht : GtW G B s.1) :
    WP (mX23_keepChip S (j : Int)) (fun z => ChW (PKc j) S z ∧ MCh z G B j s.1) := by
  have hno := no_le w
  have ng := w.nums
  have wi := w.i
  have wr := w.s
  have w64 := w.st64.1; have w65 := w.st64.2.1
  have wo := w.o
  have hlib := wl.nums
  have wn := wl.n
  have e13 : gFi G = 1 + gIn G + gSt G := rfl
  have gst := w.2.2.2.2.2.2
  have p6 : 2 ^ gSt G ≤ 64 := Nat.le_trans (Nat.pow_le_pow_right (by omega) (show gSt G ≤ 6 by omega)) (by decide)
  have f37 := hG.2.1.1
  have f38 := hG.2.1.2.1
  have f39 := hG.2.1.2.2.1
  have f40 := hG.2.1.2.2.2.2.2.1
  rw [wi] at f37
  rw [wr] at f38
  rw [wo] at f39
  have f105 := hG.1
  have f106 := hL.1
  have f67 := hL.2.1.1
  rw [wn] at f67
  have f129 := hs.1
  unfold mX23_keepChip
  simp (disch := omega) only [wrI_e, rdI_e, Int.toNat_natCast, hI_sI_a, f105, f37, f38, f39, f40, f129, gI_set, w32_w32]
  obtain ⟨T, hT⟩ : ∃ T, T = sI (sI (sI (sI (sI (sI (sI S 2105 j 1) 2106 j (gIn G : Int)) 2107 j (gSt G : Int)) 2108 j (gOu G : Int)) 2109 j (G 11 0)) 2110 j (w32 (G 11 0))) 2111 j (s.1.length : Int) := ⟨_, rfl⟩
  rw [← hT]
  have o1 : ∀ {a}, (2106 ≤ a ∧ a ≤ 2111) ∨ a = 2116 ∨ a = 2123 ∨ a = 2134 ∨ a = 2146 ∨ a = 2155 ∨ a = 2172 → PKc j a j := fun {a} g => .inr ⟨ownC_1 (by omega), by omega, by omega⟩
  have cT : ChW (PKc j) S T := by
    rw [hT]
    exact ((((((ChW.refl.sI (.inl ⟨rfl, rfl⟩)).sI (o1 (by omega))).sI (o1 (by omega))).sI (o1 (by omega))).sI (o1 (by omega))).sI (o1 (by omega))).sI (o1 (by omega))
  have oT : ∀ a i, ¬ (2105 ≤ a ∧ a ≤ 2111) → gI T a i = gI S a i := fun a i q => by
    rw [hT, hI_sI_a (by omega), hI_sI_a (by omega), hI_sI_a (by omega), hI_sI_a (by omega), hI_sI_a (by omega), hI_sI_a (by omega), hI_sI_a (by omega)]
  have t129 : gI T 2000 129 = (s.1.length : Int) := (oT _ _ (by omega)).trans f129
  have gr : ∀ g, g < s.1.length → gtO G B (s.1.getD g (0, 0, 0, 0)) g := ht
  have h1 : ∀ g, g < s.1.length → -2147483648 ≤ gI T 2099 g ∧ gI T 2099 g < 2147483648 := fun g hg => by
    rw [oT _ _ (by omega), (hs.2.1 g hg).1]
    have := (gr g hg).1
    omega
  have h2 : ∀ x, x < 3 * s.1.length → -2147483648 ≤ gI T 2100 x ∧ gI T 2100 x < 2147483648 := fun x hx => by
    rw [oT _ _ (by omega)]
    have hg : x / 3 < s.1.length := by omega
    obtain ⟨_, g1, g2, g3, _⟩ := gr _ hg
    obtain ⟨_, m1, m2, m3⟩ := hs.2.1 _ hg
    have e : x = 3 * (x / 3) ∨ x = 3 * (x / 3) + 1 ∨ x = 3 * (x / 3) + 2 := by omega
    rcases e with e | e | e
    · rw [e, m1]; omega
    · rw [e, m2]; omega
    · rw [e, m3]; omega
  refine WP_call (m_kc91 hj hn t129 h1 h2) (fun y20 hy => ?_)
  obtain ⟨y1, y2, y3⟩ := hy
  have oy : ∀ a i, ¬ (2112 ≤ a ∧ a ≤ 2113) → gI y20 a i = gI T a i := fun a i q => y1.1 _ _ (fun g => by unfold P91 at g; omega)
  have y106 : gI y20 2000 106 = (l : Int) := by rw [oy _ _ (by omega), oT _ _ (by omega)]; exact f106
  have y67 : gI y20 2067 l = (liN B : Int) := by rw [oy _ _ (by omega), oT _ _ (by omega)]; exact f67
  have cy : ChW (PKc j) S y20 := cT.tr y1 (fun a i g => by
    rcases g with ⟨rfl, g1, g2⟩ | ⟨rfl, g1, g2⟩
    · exact .inr ⟨⟨by omega, show 150 * j ≤ _ by omega, show _ < 150 * j + 150 by omega⟩, by omega, by omega⟩
    · exact .inr ⟨⟨by omega, show 450 * j ≤ _ by omega, show _ < 450 * j + 450 by omega⟩, by omega, by omega⟩)
  rw [y106, rdI_e (by omega), Int.toNat_natCast, y67]
  obtain ⟨U, hU⟩ : ∃ U, U = sI y20 2116 j (liN B : Int) := ⟨_, rfl⟩
  rw [← hU]
  have cU : ChW (PKc j) S U := by rw [hU]; exact cy.sI (o1 (by omega))
  have oU : ∀ a i, a ≠ 2116 → gI U a i = gI y20 a i := fun a i q => by rw [hU, hI_sI_a q]
  refine WP_call (m_kc179 (l := l) hj hl ((oU _ _ (by omega)).trans y106)) (fun y32 hv => ?_)
  obtain ⟨v1, v2⟩ := hv
  have ov : ∀ a i, ¬ (2117 ≤ a ∧ a ≤ 2120) → gI y32 a i = gI U a i := fun a i q => v1.1 _ _ (fun g => by unfold P179 at g; omega)
  have strd : ∀ {a i}, 2117 ≤ a → a ≤ 2120 → 12 * j ≤ i → i < 12 * j + 12 → ownC j a i := fun {a i} q1 q2 q3 q4 => by
    have e : strC a = 12 := by
      have : a = 2117 ∨ a = 2118 ∨ a = 2119 ∨ a = 2120 := by omega
      rcases this with rfl | rfl | rfl | rfl <;> rfl
    exact ⟨by omega, by rw [e]; exact q3, by rw [e]; exact q4⟩
  have cv : ChW (PKc j) S y32 := cU.tr v1 (fun a i g => .inr ⟨strd g.1 g.2.1 g.2.2.1 g.2.2.2, by have := g.1; omega, by have := g.1; omega⟩)
  obtain ⟨V, hV⟩ : ∃ V, V = sI (sI (sI (sI (sI y32 2123 j 0) 2134 j 0) 2146 j 0) 2155 j 0) 2172 j (-1) := ⟨_, rfl⟩
  rw [← hV]
  have cV : ChW (PKc j) S V := by
    rw [hV]
    exact ((((cv.sI (o1 (by omega))).sI (o1 (by omega))).sI (o1 (by omega))).sI (o1 (by omega))).sI (o1 (by omega))
  have oV : ∀ a i, a ≤ 2122 → gI V a i = gI y32 a i := fun a i q => by rw [hV, hI_sI_a (by omega), hI_sI_a (by omega), hI_sI_a (by omega), hI_sI_a (by omega), hI_sI_a (by omega)]
  refine WP_call (m_forgetLeast5 (S := V) hj) (fun x38 hx => ?_)
  obtain ⟨x1, x2⟩ := hx
  have ox : ∀ a i, a ≠ 2177 → gI x38 a i = gI V a i := fun a i q => x1.1 _ _ (fun g => q g.1)
  have cx : ChW (PKc j) S x38 := cV.tr x1 (fun a i g => by
    obtain ⟨rfl, g1, g2⟩ := g
    exact .inr ⟨⟨by omega, show 1280 * j ≤ _ by omega, show _ < 1280 * j + 1280 by omega⟩, by omega, by omega⟩)
  have lo : ∀ a i, a ≤ 2111 → gI x38 a i = gI T a i := fun a i q => by rw [ox _ _ (by omega), oV _ _ (by omega), ov _ _ (by omega), oU _ _ (by omega), oy _ _ (by omega)]
  refine WP_some.2 ⟨cx, ⟨?_, ?_, ?_, ?_, ?_, ?_, ?_, ?_⟩, fun g hg => ?_, fun c hc => ?_, ⟨?_, ?_, ?_, ?_, ?_⟩, x2⟩
  · rw [lo _ _ (by omega), hT]; simp (disch := omega) only [hI_sI_a, gI_set]; rfl
  · rw [lo _ _ (by omega), hT]; simp (disch := omega) only [hI_sI_a, gI_set]; exact w32_id (by omega)
  · rw [lo _ _ (by omega), hT]; simp (disch := omega) only [hI_sI_a, gI_set]; exact w32_id (by omega)
  · rw [lo _ _ (by omega), hT]; simp (disch := omega) only [hI_sI_a, gI_set]; exact w32_id (by omega)
  · rw [lo _ _ (by omega), hT]; simp (disch := omega) only [hI_sI_a, gI_set]; exact w32_id (by omega)
  · rw [lo _ _ (by omega), hT]; simp (disch := omega) only [hI_sI_a, gI_set]; rw [w32_w32]; exact w32_id (by omega)
  · rw [lo _ _ (by omega), hT, gI_set]; exact w32_id (by omega)
  · rw [ox _ _ (by omega), oV _ _ (by omega), ov _ _ (by omega), hU, gI_set]; exact w32_id (by omega)
  · have g12 : ∀ a i, 2112 ≤ a → a ≤ 2113 → gI x38 a i = gI y20 a i := fun a i q1 q2 => by rw [ox _ _ (by omega), oV _ _ (by omega), ov _ _ (by omega), oU _ _ (by omega)]
    obtain ⟨m0, m1, m2, m3⟩ := hs.2.1 g hg
    rw [g12 _ _ (by omega) (by omega), g12 _ _ (by omega) (by omega), g12 _ _ (by omega) (by omega), g12 _ _ (by omega) (by omega), y2 g hg, y3 _ (by omega), y3 _ (by omega), y3 _ (by omega), oT _ _ (by omega), oT _ _ (by omega), oT _ _ (by omega), oT _ _ (by omega)]
    exact ⟨m0, m1, m2, m3⟩
  · obtain ⟨u1, u2, u3, u4⟩ := v2 c (by omega)
    obtain ⟨b1, b2, _, _, b5, b6, b7, b8⟩ := wl.2 c hc
    obtain ⟨b3, b4⟩ := wl.f2 hc
    obtain ⟨l1, l2, l3, l4⟩ := hL.2.1.2 c hc
    have o20 : ∀ a i, 2117 ≤ a → a ≤ 2120 → gI x38 a i = gI y32 a i := fun a i q1 q2 => by rw [ox _ _ (by omega), oV _ _ (by omega)]
    have o68 : ∀ a i, 2068 ≤ a → a ≤ 2071 → gI U a i = gI S a i := fun a i q1 q2 => by rw [oU _ _ (by omega), oy _ _ (by omega), oT _ _ (by omega)]
    rw [o20 _ _ (by omega) (by omega), o20 _ _ (by omega) (by omega), o20 _ _ (by omega) (by omega), o20 _ _ (by omega) (by omega), u1, u2, u3, u4, o68 _ _ (by omega) (by omega), o68 _ _ (by omega) (by omega), o68 _ _ (by omega) (by omega), o68 _ _ (by omega) (by omega), l1, l2, l3, l4]
    exact ⟨w32_id (by omega), w32_id (by omega), w32_id (by omega), w32_id (by omega)⟩
  · rw [ox _ _ (by omega), hV]; simp (disch := omega) only [hI_sI_a, gI_set]; rfl
  · rw [ox _ _ (by omega), hV]; simp (disch := omega) only [hI_sI_a, gI_set]; rfl
  · rw [ox _ _ (by omega), hV]; simp (disch := omega) only [hI_sI_a, gI_set]; rfl
  · rw [ox _ _ (by omega), hV]; simp (disch := omega) only [hI_sI_a, gI_set]; rfl
  · rw [ox _ _ (by omega), hV, gI_set]; rfl
end KEEPCHIP
