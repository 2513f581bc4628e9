/-! the reference works out all ways -/
def PMb (a i : Nat) : Prop := (∃ n, PMa n a i) ∨ a = 2101
/-- all roots before a node can -/
def rOKn (G : Dsg) (B : Lib) (m : Nat) : Prop := ∀ n, AndG G n → n < m → Rt G n → ndR G B n 0 ≠ none
section MWAYS5
variable {S z : Sto} {G : Dsg} {B : Lib} {d n i k l : Nat}
theorem PMb_r {a i : Nat} (q : PMb a i) : (a = 2000 ∧ (i = 114 ∨ i = 123 ∨ i = 127)) ∨ (2087 ≤ a ∧ a ≤ 2098) ∨ a = 2101 := by
  rcases q with ⟨n, q⟩ | q
  · unfold PMa PMn PMu PRn at q; omega
  · omega
theorem MMx.c1 (w : WFG G) (wl : WFL B) (hl : l < 3) (h : MMx S G B d l n) (g : ChW (fun a _ => a = 2101) S z) : MMx z G B d l n := by
  obtain ⟨h1, h2, h3, h4, h6⟩ := h
  have o : ∀ a i, a ≠ 2101 → gI z a i = gI S a i := fun a i k => g.1 _ _ k
  exact ⟨h1.cw w g (fun a i e => by omega), h2.cw wl hl g (fun a i e => by omega), fun n q1 q2 => (o _ _ (by omega)).trans (h3 n q1 q2), fun n q1 q2 => ⟨(o _ _ (by omega)).trans (h4 n q1 q2).1, (o _ _ (by omega)).trans (h4 n q1 q2).2⟩, h6.cw w wl g (fun a i e => .inr (by omega))⟩
theorem MMx.skip (h : MMx S G B d l n) (hn : ¬ AndG G n) : MMx S G B d l (n + 1) := by
  obtain ⟨h1, h2, h3, h4, h6⟩ := h
  exact ⟨h1, h2, h3, h4, fun x hx l => h6 x hx (by
    by_cases g : x = n
    · exact (hn (g ▸ hx)).elim
    · omega)⟩
theorem ndR_1e9 (w : WFG G) (wl : WFL B) (hn : AndG G n) : (ecN 1000000000 (ndR G B n 0) < 1000000000 ↔ ndR G B n 0 ≠ none) ∧ -2147483648 ≤ ecN 1000000000 (ndR G B n 0) ∧ ecN 1000000000 (ndR G B n 0) < 2147483648 := by
  have hc : ∀ v, wCo (WW G B n 0) = some v → v ≤ 6001000 := fun v e => by have := ww_le w wl hn e; omega
  have hq : ∀ v, oadd (wCo (WW G B n 1)) (invO B) = some v → v ≤ 6001000 := fun v e => nd_bd w wl hn e
  have er : ndR G B n 0 = omin (wCo (WW G B n 0)) (oadd (wCo (WW G B n 1)) (invO B)) := rfl
  have hv : ∀ v, ndR G B n 0 = some v → v ≤ 6001000 := fun v e => by
    rw [er] at e
    generalize wCo (WW G B n 0) = c at *
    generalize oadd (wCo (WW G B n 1)) (invO B) = q at *
    cases c with
    | none => cases q with
      | none => cases e
      | some u => have := hq u rfl; cases e; omega
    | some y => cases q with
      | none => have := hc y rfl; cases e; omega
      | some u => have := hc y rfl; have := hq u rfl; cases e; omega
  cases a : ndR G B n 0 with
  | none => exact ⟨⟨fun g => absurd g (Int.lt_irrefl _), fun g => (g rfl).elim⟩, by decide, by decide⟩
  | some v =>
    have := hv v a
    exact ⟨⟨fun _ => (fun e => by cases e), fun _ => by show (v : Int) < _; omega⟩, by show _ ≤ (v : Int); omega, by show (v : Int) < _; omega⟩
theorem m_mp118 (w : WFG G) (wl : WFL B) (hd : d < 6) (hl3 : l < 3) (hX : MMx S G B d l (gFi G)) (hw : ∀ n, n < gNo G → gI S 2085 n = (bo (Wt G n) : Int)) {m0 : Int} (hm0 : m0 ≤ 800000000) (hst : MSt S m0) :
    WP (lpF (mX23_map_L118 (d : Int)) (1, (gFi G : Int), S)) (fun y => y.1 = (bo (rOK G B) : Int) ∧ MMx y.2 G B d l (gNo G) ∧ MSt y.2 (m0 + 63 * (1000 : Int)) ∧ ChW PMb S y.2 ∧ ∀ n, gFi G ≤ n → n < gNo G → gI y.2 2101 (2 * n) = -1 ∧ gI y.2 2101 (2 * n + 1) = -1) := by
  have hno := no_le w
  have wn := w.n
  have ng := w.nums
  have e13 : gFi G = 1 + gIn G + gSt G := rfl
  have key : bo (rOKn G B (gNo G)) = bo (rOK G B) := bo_cg ⟨fun h n hn hR => h n hn hn.2.1 hR, fun h n hn _ hR => h n hn hR⟩
  have r0 : (1 : Int) = (bo (rOKn G B (gFi G + 0)) : Int) := by
    have h0 : rOKn G B (gFi G + 0) := fun n hn l _ => by have := hn.1; omega
    rw [bo_t h0]; rfl
  refine WP_cnt (gNo G - gFi G) (fun q st => st.2.1 = ((gFi G + q : Nat) : Int) ∧ st.1 = (bo (rOKn G B (gFi G + q)) : Int) ∧ MMx st.2.2 G B d l (gFi G + q) ∧ MSt st.2.2 (m0 + 63 * (q : Int)) ∧ ChW PMb S st.2.2 ∧ ∀ n, gFi G ≤ n → n < gFi G + q → gI st.2.2 2101 (2 * n) = -1 ∧ gI st.2.2 2101 (2 * n + 1) = -1) (by unfold cFU; omega) ⟨rfl, r0, hX, ⟨hst.1, by have := hst.2.1; dsimp only; omega, hst.2.2⟩, ChW.refl, fun n h1 h2 => by omega⟩ (fun q st hq hI => ?_) (fun st hI => ?_)
  · obtain ⟨al, s1, s2⟩ := st
    obtain ⟨b1, b2, b3, b4, b5, b6⟩ := hI
    dsimp only at b1 b2 b3 b4 b5 b6
    obtain ⟨n, hn⟩ : ∃ n, n = gFi G + q := ⟨_, rfl⟩
    rw [← hn] at b1 b2 b3 b6
    subst b1 b2
    have nn : n < gNo G := by omega
    have e3 := b3.1.2.1.2.2.2.1
    rw [wn] at e3
    have e5 : gI s2 2085 n = (bo (Wt G n) : Int) := by rw [b5.1 _ _ (fun q => by have := PMb_r q; omega)]; exact hw n nn
    have z0 : (2 * (n : Int)).toNat = 2 * n := by omega
    have z1 : (2 * (n : Int) + 1).toNat = 2 * n + 1 := by omega
    have b4m := b4.2.1
    unfold mX23_map_L118
    dsimp only
    rw [rdI_e (by omega), Int.toNat_natCast, e3, w32_id (x := (n : Int)) (by omega), w32_id (x := (gNo G : Int)) (by omega), if_pos (by omega), rdZ_e (by omega), Int.toNat_natCast, e5]
    refine WP_call (R := fun y => y.1 = (bo (rOKn G B (n + 1)) : Int) ∧ MMx y.2 G B d l (n + 1) ∧ MSt y.2 (m0 + 63 * ((q + 1 : Nat) : Int)) ∧ ChW (PMa n) s2 y.2) ?_ (fun y hy => ?_)
    · by_cases g : Wt G n
      · have hA : AndG G n := ⟨by omega, nn, g⟩
        rw [bo_t g, if_pos (by decide)]
        refine WP_call (m_findWays w wl hd hl3 hA b3 (by omega) b4) (fun x18 hx => ?_)
        obtain ⟨x1, x2, x3⟩ := hx
        have e6 := x1.2.2.1 n hA.1 nn
        have e93 : gI x18 2093 (2 * n) = ecN 1000000000 (ndR G B n 0) := ((x1.2.2.2.2 n hA (Nat.lt_succ_self n)).2 0 (by omega)).1
        obtain ⟨n1, n2⟩ := ndR_1e9 (B := B) w wl hA
        have xs : MSt x18 (m0 + 63 * ((q + 1 : Nat) : Int)) := ⟨x2.1, by have := x2.2.1; omega, x2.2.2⟩
        have nx : rOKn G B (n + 1) ↔ rOKn G B n ∧ (Rt G n → ndR G B n 0 ≠ none) := ⟨fun h => ⟨fun m hm l hR => h m hm (by omega) hR, fun hR => h n hA (by omega) hR⟩, fun ⟨h1, h2⟩ m hm l hR => by
          by_cases g : m = n
          · rw [g] at hR ⊢; exact h2 hR
          · exact h1 m hm (by omega) hR⟩
        refine WP_call (R := fun y => y = (bo (rOKn G B (n + 1)) : Int)) ?_ (fun y hy => WP_some.2 ⟨hy, x1, xs, x3⟩)
        by_cases a : rOKn G B n
        · rw [bo_t a, if_pos (by decide), rdZ_e (by omega), Int.toNat_natCast, e6]
          by_cases hR : Rt G n
          · rw [bo_t hR, if_pos (by decide), rdI_e (by omega), z0, e93, w32_id n2]
            by_cases b : ndR G B n 0 = none
            · rw [if_neg (fun g => n1.1 g b), bX_some, if_neg (by decide), bo_f (fun h => (nx.1 h).2 hR b)]; exact WP_some.2 rfl
            · rw [if_pos (n1.2 b), bX_some, if_pos rfl, bo_t (nx.2 ⟨a, fun _ => b⟩)]; exact WP_some.2 rfl
          · rw [bo_f hR, if_neg (by decide), bX_some, if_pos rfl, bo_t (nx.2 ⟨a, fun h => (hR h).elim⟩)]; exact WP_some.2 rfl
        · rw [bo_f a, if_neg (by decide), bX_some, if_neg (by decide), bo_f (fun h => a (nx.1 h).1)]; exact WP_some.2 rfl
      · rw [bo_f g, if_neg (by decide)]
        have nA : ¬ AndG G n := fun h => g h.2.2
        refine WP_some.2 ⟨congrArg _ (bo_cg ⟨fun h m hm l hR => h m hm (by
          by_cases e : m = n
          · exact (nA (e ▸ hm)).elim
          · omega) hR, fun h m hm l hR => h m hm (by omega) hR⟩), b3.skip nA, ⟨b4.1, by dsimp only; omega, b4.2.2⟩, ChW.refl⟩
    · obtain ⟨y1, y2, y3, y4⟩ := hy
      rw [wrI_e (by omega), z0, wrI_e (by omega), z1]
      have c1 : ChW (fun a _ => a = 2101) y.2 (sI (sI y.2 2101 (2 * n) (-1)) 2101 (2 * n + 1) (-1)) := by
        have cc : ChW (fun a _ => a = 2101) y.2 y.2 := ChW.refl
        exact (cc.sI (a := 2101) (i := 2 * n) rfl).sI (a := 2101) (i := 2 * n + 1) rfl
      refine WP_some.2 ⟨by show (n : Int) + 1 = _; omega, by rw [show gFi G + (q + 1) = n + 1 by omega]; exact y1, by rw [show gFi G + (q + 1) = n + 1 by omega]; exact y2.c1 w wl hl3 c1, ?_, (b5.tr y4 (fun a i g => .inl ⟨n, g⟩)).tr c1 (fun a i g => .inr g), fun m l1 l2 => ?_⟩
      · have e0 : ∀ a i, a ≠ 2101 → gI (sI (sI y.2 2101 (2 * n) (-1)) 2101 (2 * n + 1) (-1)) a i = gI y.2 a i := fun a i k => c1.1 _ _ k
        exact ⟨by dsimp only; rw [e0 _ _ (by omega)]; exact y3.1, by dsimp only; rw [e0 _ _ (by omega)]; exact y3.2.1, fun x hx => by dsimp only; rw [e0 _ _ (by omega), e0 _ _ (by omega)]; exact y3.2.2 x hx⟩
      · dsimp only
        by_cases g : m = n
        · subst g
          exact ⟨by rw [hI_sI_i (by omega), gI_set]; rfl, by rw [gI_set]; rfl⟩
        · obtain ⟨u1, u2⟩ := b6 m l1 (by omega)
          refine ⟨?_, ?_⟩
          · rw [hI_sI_i (by omega), hI_sI_i (by omega), y4.1 _ _ (fun q => by unfold PMa PMn PMu PRn at q; omega)]; exact u1
          · rw [hI_sI_i (by omega), hI_sI_i (by omega), y4.1 _ _ (fun q => by unfold PMa PMn PMu PRn at q; omega)]; exact u2
  · obtain ⟨al, s1, s2⟩ := st
    obtain ⟨b1, b2, b3, b4, b5, b6⟩ := hI
    dsimp only at b1 b2 b3 b4 b5 b6
    have ee : gFi G + (gNo G - gFi G) = gNo G := by omega
    rw [ee] at b1 b2 b3 b6
    subst b1 b2
    have e3 := b3.1.2.1.2.2.2.1
    rw [wn] at e3
    unfold mX23_map_L118
    dsimp only
    rw [rdI_e (by omega), Int.toNat_natCast, e3, if_neg (by omega)]
    exact WP_some.2 ⟨congrArg _ key, b3, ⟨b4.1, by have := b4.2.1; dsimp only; omega, b4.2.2⟩, b5, b6⟩
end MWAYS5
