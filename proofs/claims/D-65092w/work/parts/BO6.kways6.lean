/-! the class works out all ways -/
def PWb (a i : Nat) : Prop := ∃ n, PWa n a i
section KWAYS6
variable {S z : Sto} {G : Dsg} {B : Lib} {d n i k l x : Nat}
theorem k_needR (w : WFG G) (wl : WFL B) (hk : k < 4) (hL : KLx S k B) (hW : KWz S G B (x + 1)) (hx : AndG G x) : mX12_needOfRoot S (x : Int) = some (ecN 100000000 (ndR G B x 0)) := by
  have xl := Nat.lt_of_lt_of_le hx.2.1 (no_le w)
  unfold mX12_needOfRoot
  have r' : -1 ≤ lInv B ∧ lInv B < (liN B : Int) := lInvN_rng (B := B) (n := liN B)
  have hn := wl.nums
  have e1 := (hW x hx (Nat.lt_succ_self x) 1 (by omega)).1
  have e0 := (hW x hx (Nat.lt_succ_self x) 0 (by omega)).1
  have z1 : (2 * (x : Int) + 1).toNat = 2 * x + 1 := by omega
  have z0 : (2 * (x : Int)).toNat = 2 * x + 0 := by omega
  have l1 := fun v => ww_le w wl hx (t := 1) (v := v)
  have l0 := fun v => ww_le w wl hx (t := 0) (v := v)
  have er : ndR G B x 0 = omin (wCo (WW G B x 0)) (oadd (wCo (WW G B x 1)) (invO B)) := rfl
  rw [er, hL.2.2]
  generalize wCo (WW G B x 1) = a1 at *
  generalize wCo (WW G B x 0) = a0 at *
  by_cases qi : lInv B = -1
  · have ei : invO B = none := if_pos qi
    rw [w32_id (by omega), if_pos qi, bX_some, rdI_e (by omega), z0, e0, ei]
    cases a0 with
    | none =>
      rw [min_e (by show _ ≤ (100000000 : Int) ∧ (100000000 : Int) < _; omega) (by omega), bX_some]
      cases a1 <;> rfl
    | some v =>
      have := l0 v rfl
      rw [min_e (by show _ ≤ (v : Int) ∧ (v : Int) < _; omega) (by omega), bX_some]
      have e : min (v : Int) 100000000 = (v : Int) := by omega
      cases a1 <;> exact congrArg some e
  · obtain ⟨v, v1, v2, v3, v4, v5⟩ := inv_a wl hL qi
    rw [w32_id (by omega), if_neg qi, rdI_e (by omega), z1, e1, hL.1, gk_own hk, rdI_e (by omega), v3, bX_some, rdI_e (by omega), z0, e0, v1]
    cases a0 with
    | none =>
      cases a1 with
      | none =>
        rw [min_e (by show _ ≤ (100000000 : Int) ∧ (100000000 : Int) < _; omega) (by show _ ≤ (100000000 : Int) + _ ∧ (100000000 : Int) + _ < _; omega), bX_some]
        have e : min (100000000 : Int) (100000000 + (v : Int)) = 100000000 := by omega
        exact congrArg some e
      | some u =>
        have := l1 u rfl
        rw [min_e (by show _ ≤ (100000000 : Int) ∧ (100000000 : Int) < _; omega) (by show _ ≤ (u : Int) + _ ∧ (u : Int) + _ < _; omega), bX_some]
        have e : min (100000000 : Int) ((u : Int) + (v : Int)) = ((u + v : Nat) : Int) := by omega
        exact congrArg some e
    | some y =>
      have := l0 y rfl
      cases a1 with
      | none =>
        rw [min_e (by show _ ≤ (y : Int) ∧ (y : Int) < _; omega) (by show _ ≤ (100000000 : Int) + _ ∧ (100000000 : Int) + _ < _; omega), bX_some]
        have e : min (y : Int) (100000000 + (v : Int)) = (y : Int) := by omega
        exact congrArg some e
      | some u =>
        have := l1 u rfl
        rw [min_e (by show _ ≤ (y : Int) ∧ (y : Int) < _; omega) (by show _ ≤ (u : Int) + _ ∧ (u : Int) + _ < _; omega), bX_some]
        have e : min (y : Int) ((u : Int) + (v : Int)) = ((min y (u + v) : Nat) : Int) := by omega
        exact congrArg some e
theorem ndR_1e8 (w : WFG G) (wl : WFL B) (hn : AndG G n) : 100000000 ≤ ecN 100000000 (ndR G B n 0) ↔ ndR G B n 0 = none := by
  have h := ndR_1e9 w wl hn (B := B)
  cases a : ndR G B n 0 with
  | none => exact ⟨fun _ => rfl, fun _ => Int.le_refl _⟩
  | some v =>
    have hc : ∀ v, wCo (WW G B n 0) = some v → v ≤ 6001000 := fun v e => by have := ww_le w wl hn e; omega
    have hq : ∀ v, oadd (wCo (WW G B n 1)) (invO B) = some v → v ≤ 6001000 := fun v e => nd_bd w wl hn e
    have er : ndR G B n 0 = omin (wCo (WW G B n 0)) (oadd (wCo (WW G B n 1)) (invO B)) := rfl
    have hv : v ≤ 6001000 := by
      rw [er] at a
      generalize wCo (WW G B n 0) = c at *
      generalize oadd (wCo (WW G B n 1)) (invO B) = q at *
      cases c with
      | none => cases q with
        | none => cases a
        | some u => have := hq u rfl; cases a; omega
      | some y => cases q with
        | none => have := hc y rfl; cases a; omega
        | some u => have := hc y rfl; have := hq u rfl; cases a; omega
    refine ⟨fun g => ?_, fun e => by cases e⟩
    have g' : (100000000 : Int) ≤ (v : Int) := g
    omega
theorem KMx.skip (h : KMx S G B d k n) (hn : ¬ AndG G n) : KMx S G B d k (n + 1) := by
  obtain ⟨h1, h2, h3, h4, h5, h6⟩ := h
  exact ⟨h1, h2, h3, h4, h5, fun x hx l => h6 x hx (by
    by_cases g : x = n
    · exact (hn (g ▸ hx)).elim
    · omega)⟩
theorem k_mp60 (w : WFG G) (wl : WFL B) (hd : d < 6) (hk : k < 4) (hX : KMx S G B d k (gFi G)) (hw : ∀ n, n < gNo G → gI S 201 n = (bo (Wt G n) : Int)) {m0 : Int} (hm0 : m0 ≤ 800000000) (hst : KSt S m0) :
    WP (lpF mX12_map_L60 ((gFi G : Int), S)) (WE (fun z => rOK G B ∧ KMx z G B d k (gNo G) ∧ KSt z (m0 + 63 * (1000 : Int)) ∧ ChW PWb S z) (fun y => ¬ rOK G B ∧ y.1 = -1 ∧ KSt y.2 (m0 + 63 * (1000 : Int)) ∧ ChW PWb S y.2)) := by
  have hno := no_le w
  have wn := w.n
  have ng := w.nums
  have e13 : gFi G = 1 + gIn G + gSt G := rfl
  refine WP_cnt (gNo G - gFi G) (fun q st => st.1 = ((gFi G + q : Nat) : Int) ∧ rOKn G B (gFi G + q) ∧ KMx st.2 G B d k (gFi G + q) ∧ KSt st.2 (m0 + 63 * (q : Int)) ∧ ChW PWb S st.2) (by unfold cFU; omega) ⟨rfl, fun n hn l _ => by have := hn.1; omega, hX, ⟨hst.1, by have := hst.2.1; dsimp only; omega, hst.2.2⟩, ChW.refl⟩ (fun q st hq hI => ?_) (fun st hI => ?_)
  · obtain ⟨s1, s2⟩ := st
    obtain ⟨b1, b2, b3, b4, b5⟩ := hI
    dsimp only at b1 b2 b3 b4 b5
    obtain ⟨n, hn⟩ : ∃ n, n = gFi G + q := ⟨_, rfl⟩
    rw [← hn] at b1 b2 b3
    subst b1
    have nn : n < gNo G := by omega
    have e3 := b3.1.2.1.2.2.2.1
    rw [wn] at e3
    have e5 : gI s2 201 n = (bo (Wt G n) : Int) := by rw [b5.1 _ _ (fun ⟨m, q⟩ => by unfold PWa PWn PCu PFn at q; omega)]; exact hw n nn
    have b4m := b4.2.1
    have n1 : gFi G + (q + 1) = n + 1 := by omega
    unfold mX12_map_L60
    dsimp only
    rw [b3.1.1, gk_dsg hd, e3, w32_id (x := (n : Int)) (by omega), w32_id (x := (gNo G : Int)) (by omega), if_pos (by omega), rdZ_e (by omega), Int.toNat_natCast, e5]
    by_cases g : Wt G n
    · have hA : AndG G n := ⟨by omega, nn, g⟩
      rw [bo_t g, if_neg (by decide)]
      refine WP_bE.2 (WP_call (k_waysOf w wl hd hk hA b3 (by omega) b4) (fun x17 hx => ?_))
      obtain ⟨x1, x2, x3⟩ := hx
      have e6 := x1.2.2.1 n hA.1 nn
      have xs : KSt x17 (m0 + 63 * ((q + 1 : Nat) : Int)) := ⟨x2.1, by have := x2.2.1; omega, x2.2.2⟩
      have cx : ChW PWb S x17 := b5.tr x3 (fun a i g => ⟨n, g⟩)
      have goR : (Rt G n → ndR G B n 0 ≠ none) → rOKn G B (n + 1) := fun h m hm l hR => by
        by_cases g : m = n
        · rw [g] at hR ⊢; exact h hR
        · exact b2 m hm (by omega) hR
      have go : (Rt G n → ndR G B n 0 ≠ none) → WE (fun st : Int × Sto => st.1 = ((gFi G + (q + 1) : Nat) : Int) ∧ rOKn G B (gFi G + (q + 1)) ∧ KMx st.2 G B d k (gFi G + (q + 1)) ∧ KSt st.2 (m0 + 63 * ((q + 1 : Nat) : Int)) ∧ ChW PWb S st.2) (WE (fun z : Sto => rOK G B ∧ KMx z G B d k (gNo G) ∧ KSt z (m0 + 63 * (1000 : Int)) ∧ ChW PWb S z) (fun y : Int × Sto => ¬ rOK G B ∧ y.1 = -1 ∧ KSt y.2 (m0 + 63 * (1000 : Int)) ∧ ChW PWb S y.2)) (Sum.inl ((n : Int) + 1, x17)) := fun h => ⟨by show (n : Int) + 1 = _; omega, by rw [n1]; exact goR h, by rw [n1]; exact x1, xs, cx⟩
      rw [rdZ_e (by omega), Int.toNat_natCast, e6]
      by_cases hR : Rt G n
      · have e8 := ndR_1e8 (B := B) w wl hA
        obtain ⟨rg, _⟩ := ecn_rng (B := B) (t := 0) w wl hA
        rw [bo_t hR, if_pos (by decide), k_needR w wl hk x1.2.1 x1.2.2.2.2.2 hA, bX_some, w32_id rg]
        by_cases b : ndR G B n 0 = none
        · rw [if_pos (e8.2 b), bX_some, if_pos rfl]
          exact WP_some.2 ⟨fun h => h n hA hR b, rfl, ⟨xs.1, by have := xs.2.1; dsimp only; omega, xs.2.2⟩, cx⟩
        · rw [if_neg (fun g => b (e8.1 g)), bX_some, if_neg (by decide)]
          exact WP_some.2 (WP_some.2 (go (fun _ => b)))
      · rw [bo_f hR, if_neg (by decide), bX_some, if_neg (by decide)]
        exact WP_some.2 (WP_some.2 (go (fun h => (hR h).elim)))
    · have nA : ¬ AndG G n := fun h => g h.2.2
      have goR : rOKn G B (n + 1) := fun m hm l hR => by
        by_cases e : m = n
        · exact (nA (e ▸ hm)).elim
        · exact b2 m hm (by omega) hR
      rw [bo_f g, if_pos (by decide), bE_inl]
      refine WP_some.2 ⟨by show (n : Int) + 1 = _; omega, by rw [n1]; exact goR, by rw [n1]; exact b3.skip nA, ⟨b4.1, by dsimp only; omega, b4.2.2⟩, b5⟩
  · obtain ⟨s1, s2⟩ := st
    obtain ⟨b1, b2, b3, b4, b5⟩ := hI
    dsimp only at b1 b2 b3 b4 b5
    have ee : gFi G + (gNo G - gFi G) = gNo G := by omega
    rw [ee] at b1 b2 b3
    subst b1
    have e3 := b3.1.2.1.2.2.2.1
    rw [wn] at e3
    unfold mX12_map_L60
    dsimp only
    rw [b3.1.1, gk_dsg hd, e3, if_neg (by omega)]
    exact WP_some.2 ⟨fun m hm hR => b2 m hm hm.2.1 hR, b3, ⟨b4.1, by have := b4.2.1; omega, b4.2.2⟩, b5⟩
end KWAYS6
