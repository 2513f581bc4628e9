/-! the class makes gates: the steps -/
def PGk (k a i : Nat) : Prop := (a = 198 ∧ (i = 24 ∨ i = 25)) ∨ a = 215 ∨ a = 216 ∨ (a = 344 + 22 * k ∧ i = 6) ∨ a = 344 + 22 * k + 6 ∨ a = 344 + 22 * k + 7
/-- what making needs -/
def KMg (z : Sto) (G : Dsg) (B : Lib) (d k : Nat) : Prop := KGx z d G ∧ KLx z k B ∧ KRo z G ∧ KWz z G B (gNo G) ∧ gR z 198 2 = 344 + 22 * k ∧ gI z (344 + 22 * k) 1 = (gIn G : Int) ∧ gI z (344 + 22 * k) 2 = (gSt G : Int)
/-- what is made -/
def KSg (z : Sto) (G : Dsg) (k : Nat) (s : MkS) : Prop := gI z (344 + 22 * k) 6 = (s.1.length : Int) ∧ (∀ i, i < s.1.length → gI z (344 + 22 * k + 6) i = (s.1.getD i (0, 0, 0, 0)).1 ∧ gI z (344 + 22 * k + 7) (3 * i) = (s.1.getD i (0, 0, 0, 0)).2.1 ∧ gI z (344 + 22 * k + 7) (3 * i + 1) = (s.1.getD i (0, 0, 0, 0)).2.2.1 ∧ gI z (344 + 22 * k + 7) (3 * i + 2) = (s.1.getD i (0, 0, 0, 0)).2.2.2) ∧ ∀ n, n < gNo G → gI z 215 (2 * n) = s.2 n 0 ∧ gI z 215 (2 * n + 1) = s.2 n 1 ∧ gI z 216 n = s.2 n 2
theorem omin_lt {N : Int} {c q : Option Nat} (hc : ∀ v, c = some v → (v : Int) ≤ N) (hq : ∀ v, q = some v → (v : Int) < N) : ecN N (omin c q) < ecN N c ↔ ∃ v, q = some v ∧ ∀ u, c = some u → v < u := by
  cases c with
  | none =>
    cases q with
    | none => exact ⟨fun g => absurd g (Int.lt_irrefl _), fun ⟨v, e, _⟩ => by cases e⟩
    | some v => exact ⟨fun _ => ⟨v, rfl, (fun u e => by cases e)⟩, fun _ => hq v rfl⟩
  | some x =>
    have := hc x rfl
    cases q with
    | none => exact ⟨fun g => absurd g (Int.lt_irrefl _), fun ⟨v, e, _⟩ => by cases e⟩
    | some v =>
      constructor
      · intro g
        have g' : ((min x v : Nat) : Int) < (x : Int) := g
        exact ⟨v, rfl, (fun u e => by cases e; omega)⟩
      · intro ⟨v', e, g⟩
        cases e
        have := g x rfl
        show ((min x v : Nat) : Int) < (x : Int)
        omega
section KMAKE
variable {S z : Sto} {G : Dsg} {B : Lib} {d n i k c m o tu x t b : Nat} {s : MkS}
theorem KMg.cw (w : WFG G) (wl : WFL B) (hd : d < 6) (hk : k < 4) (h : KMg S G B d k) (g : ChW (PGk k) S z) : KMg z G B d k := by
  obtain ⟨h1, h2, h3, h4, h5, h6, h7⟩ := h
  have o : ∀ a i, ¬ PGk k a i → gI z a i = gI S a i := g.1
  refine ⟨h1.mv (fun a i l1 l2 => o _ _ (fun q => by unfold PGk at q; omega)) (g.2.2.1 _ _), h2.mv (fun a i l1 l2 => o _ _ (fun q => by unfold PGk at q; omega)) (g.2.2.1 _ _) (o _ _ (fun q => by unfold PGk at q; omega)), fun n q1 q2 => (o _ _ (fun q => by unfold PGk at q; omega)).trans (h3 n q1 q2), fun x hx l => (h4 x hx l).mv (fun a i l1 l2 => o _ _ (fun q => by unfold PGk at q; omega)), (g.2.2.1 _ _).trans h5, (o _ _ (fun q => by unfold PGk at q; omega)).trans h6, (o _ _ (fun q => by unfold PGk at q; omega)).trans h7⟩
theorem k_needOfRoot (w : WFG G) (wl : WFL B) (hk : k < 4) (hL : KLx S k B) (hW : KWz S G B (gNo G)) (hx : AndG G x) : mX12_needOfRoot S (x : Int) = some (ecN 100000000 (ndR G B x 0)) := by
  have xl := Nat.lt_of_lt_of_le hx.2.1 (no_le w)
  unfold mX12_needOfRoot
  have r' : -1 ≤ lInv B ∧ lInv B < (liN B : Int) := lInvN_rng (B := B) (n := liN B)
  have hn := wl.nums
  have e1 := (hW x hx hx.2.1 1 (by omega)).1
  have e0 := (hW x hx hx.2.1 0 (by omega)).1
  have z1 : (2 * (x : Int) + 1).toNat = 2 * x + 1 := by omega
  have z0 : (2 * (x : Int)).toNat = 2 * x + 0 := by omega
  have l1 := fun v => ww_le w wl hx (t := 1) (v := v)
  have l0 := fun v => ww_le w wl hx (t := 0) (v := v)
  have er : ndR G B x 0 = omin (wCo (WW G B x 0)) (oadd (wCo (WW G B x 1)) (invO B)) := rfl
  rw [er, hL.2.2]
  generalize wCo (WW G B x 1) = a1 at *
  generalize wCo (WW G B x 0) = a0 at *
  by_cases qi : lInv B = -1
  · have ei : invO B = none := if_pos qi
    rw [w32_id (by omega), if_pos qi, bX_some, rdI_e (by omega), z0, e0, ei]
    cases a0 with
    | none =>
      rw [min_e (by show _ ≤ (100000000 : Int) ∧ (100000000 : Int) < _; omega) (by omega), bX_some]
      cases a1 <;> rfl
    | some v =>
      have := l0 v rfl
      rw [min_e (by show _ ≤ (v : Int) ∧ (v : Int) < _; omega) (by omega), bX_some]
      have e : min (v : Int) 100000000 = (v : Int) := by omega
      cases a1 <;> exact congrArg some e
  · obtain ⟨v, v1, v2, v3, v4, v5⟩ := inv_a wl hL qi
    rw [w32_id (by omega), if_neg qi, rdI_e (by omega), z1, e1, hL.1, gk_own hk, rdI_e (by omega), v3, bX_some, rdI_e (by omega), z0, e0, v1]
    cases a0 with
    | none =>
      cases a1 with
      | none =>
        rw [min_e (by show _ ≤ (100000000 : Int) ∧ (100000000 : Int) < _; omega) (by show _ ≤ (100000000 : Int) + _ ∧ (100000000 : Int) + _ < _; omega), bX_some]
        have e : min (100000000 : Int) (100000000 + (v : Int)) = 100000000 := by omega
        exact congrArg some e
      | some u =>
        have := l1 u rfl
        rw [min_e (by show _ ≤ (100000000 : Int) ∧ (100000000 : Int) < _; omega) (by show _ ≤ (u : Int) + _ ∧ (u : Int) + _ < _; omega), bX_some]
        have e : min (100000000 : Int) ((u : Int) + (v : Int)) = ((u + v : Nat) : Int) := by omega
        exact congrArg some e
    | some y =>
      have := l0 y rfl
      cases a1 with
      | none =>
        rw [min_e (by show _ ≤ (y : Int) ∧ (y : Int) < _; omega) (by show _ ≤ (100000000 : Int) + _ ∧ (100000000 : Int) + _ < _; omega), bX_some]
        have e : min (y : Int) (100000000 + (v : Int)) = (y : Int) := by omega
        exact congrArg some e
      | some u =>
        have := l1 u rfl
        rw [min_e (by show _ ≤ (y : Int) ∧ (y : Int) < _; omega) (by show _ ≤ (u : Int) + _ ∧ (u : Int) + _ < _; omega), bX_some]
        have e : min (y : Int) ((u : Int) + (v : Int)) = ((min y (u + v) : Nat) : Int) := by omega
        exact congrArg some e
theorem nd_bd (w : WFG G) (wl : WFL B) (hn : AndG G n) {v : Nat} (h : oadd (wCo (WW G B n t)) (invO B) = some v) : v ≤ 6001000 := by
  cases a : wCo (WW G B n t) with
  | none => rw [a] at h; cases invO B <;> cases h
  | some x =>
    cases c : invO B with
    | none => rw [a, c] at h; cases h
    | some u =>
      rw [a, c] at h
      cases h
      have := ww_le w wl hn a
      have := invO_le wl c
      omega
theorem trn_lt (w : WFG G) (wl : WFL B) (hn : AndG G n) : ecN 100000000 (ndR G B n t) < ecN 100000000 (wCo (WW G B n t)) ↔ trn G B n t := by
  have a : ∀ v, wCo (WW G B n t) = some v → (v : Int) ≤ 6000000 := fun v e => by have := ww_le w wl hn e; omega
  have b : ∀ v, oadd (wCo (WW G B n (1 - t))) (invO B) = some v → (v : Int) ≤ 6001000 := fun v e => by have := nd_bd w wl hn e; omega
  unfold ndR trn
  exact omin_lt (fun v e => by have := a v e; omega) (fun v e => by have := b v e; omega)
theorem ecn_rng (w : WFG G) (wl : WFL B) (hn : AndG G n) : (-2147483648 ≤ ecN 100000000 (ndR G B n t) ∧ ecN 100000000 (ndR G B n t) < 2147483648) ∧ (-2147483648 ≤ ecN 100000000 (wCo (WW G B n t)) ∧ ecN 100000000 (wCo (WW G B n t)) < 2147483648) := by
  have g : ∀ o : Option Nat, (∀ v, o = some v → v ≤ 6001000) → -2147483648 ≤ ecN 100000000 o ∧ ecN 100000000 o < 2147483648 := fun o h => by
    cases o with
    | none => exact ⟨by decide, by decide⟩
    | some v => have := h v rfl; exact ⟨by show _ ≤ (v : Int); omega, by show (v : Int) < _; omega⟩
  have hc : ∀ v, wCo (WW G B n t) = some v → v ≤ 6001000 := fun v e => by have := ww_le w wl hn e; omega
  have hq : ∀ v, oadd (wCo (WW G B n (1 - t))) (invO B) = some v → v ≤ 6001000 := fun v e => nd_bd w wl hn e
  refine ⟨g _ (fun v e => ?_), g _ hc⟩
  unfold ndR at e
  generalize wCo (WW G B n t) = c at *
  generalize oadd (wCo (WW G B n (1 - t))) (invO B) = q at *
  cases c with
  | none => cases q with
    | none => cases e
    | some u => have := hq u rfl; cases e; omega
  | some y => cases q with
    | none => have := hc y rfl; cases e; omega
    | some u => have := hc y rfl; have := hq u rfl; cases e; omega
theorem k_begins (hk : k < 4) (h2 : gR S 198 2 = 344 + 22 * k) {l : Nat} (h6 : gI S (344 + 22 * k) 6 = (l : Int)) (hb : gI S 198 24 = (b : Int)) (h0 : gI S 198 25 = 0) (hlb : l + b ≤ 150) :
    WP (mX12_begins S) (fun y => ChW (fun a i => a = 198 ∧ (i = 24 ∨ i = 25)) S y.2 ∧ gI y.2 198 24 = ((b + 1 : Nat) : Int) ∧ (l + b + 1 ≤ 150 → y.1 = 1 ∧ gI y.2 198 25 = 0) ∧ (150 < l + b + 1 → y.1 = 0 ∧ gI y.2 198 25 = 1)) := by
  unfold mX12_begins
  rw [wf_eq, hb]
  obtain ⟨Y, hY⟩ : ∃ Y, Y = sI S 198 24 ((b : Int) + 1) := ⟨_, rfl⟩
  rw [← hY]
  have e2 : gR Y 198 2 = 344 + 22 * k := by rw [hY]; exact h2
  have e6 : gI Y (344 + 22 * k) 6 = (l : Int) := by rw [hY, hI_sI_a (by omega)]; exact h6
  have e24 : gI Y 198 24 = (b : Int) + 1 := by rw [hY, gI_set, w32_id (by omega)]
  have e25 : gI Y 198 25 = 0 := by rw [hY, hI_sI_i (by omega)]; exact h0
  have cY : ChW (fun a i => a = 198 ∧ (i = 24 ∨ i = 25)) S Y := by rw [hY]; exact ChW.refl.sI ⟨rfl, .inl rfl⟩
  rw [e2, gk_chip hk, e6, e24, e25]
  by_cases g : l + b + 1 ≤ 150
  · rw [w32_id (x := (l : Int) + ((b : Int) + 1)) (by omega), if_neg (by omega)]
    have e : aOr (bz 0) 0 = 0 := by decide
    rw [e, gz_0, wf_eq]
    refine WP_some.2 ⟨cY.sI ⟨rfl, .inr rfl⟩, ?_, fun _ => ⟨?_, ?_⟩, fun q => by omega⟩
    · dsimp only; rw [hI_sI_i (by omega), e24]; omega
    · dsimp only; rw [gI_set]; rfl
    · dsimp only; rw [gI_set]; rfl
  · rw [w32_id (x := (l : Int) + ((b : Int) + 1)) (by omega), if_pos (by omega)]
    have e : aOr (bz 0) 1 = 1 := by decide
    rw [e, gz_1, wf_eq]
    refine WP_some.2 ⟨cY.sI ⟨rfl, .inr rfl⟩, ?_, fun q => by omega, fun _ => ⟨?_, ?_⟩⟩
    · dsimp only; rw [hI_sI_i (by omega), e24]; omega
    · dsimp only; rw [gI_set]; rfl
    · dsimp only; rw [gI_set]; rfl
theorem k_addGate (hk : k < 4) (hM : KMg S G B d k) (hs : KSg S G k s) (hb : gI S 198 24 = ((b + 1 : Nat) : Int)) (hl : s.1.length + b < 150) {p1 p2 p3 p4 : Int} (r1 : -2147483648 ≤ p1 ∧ p1 < 2147483648) (r2 : -2147483648 ≤ p2 ∧ p2 < 2147483648) (r3 : -2147483648 ≤ p3 ∧ p3 < 2147483648) (r4 : -2147483648 ≤ p4 ∧ p4 < 2147483648) :
    WP (mX12_addGate S p1 p2 p3 p4) (fun y => y.1 = (gFi G : Int) - 1 + (s.1.length : Int) ∧ KSg y.2 G k (s.1 ++ [(p1, p2, p3, p4)], s.2) ∧ gI y.2 198 24 = (b : Int) ∧ gI y.2 198 25 = gI S 198 25 ∧ ChW (PGk k) S y.2) := by
  obtain ⟨h1, h2, h3, h4, h5, h6, h7⟩ := hM
  obtain ⟨g1, g2, g3⟩ := hs
  obtain ⟨l, hle⟩ : ∃ l, l = s.1.length := ⟨_, rfl⟩
  rw [← hle] at g1 g2 hl ⊢
  have z0 : (3 * (l : Int)).toNat = 3 * l := by omega
  have z1 : (3 * (l : Int) + 1).toNat = 3 * l + 1 := by omega
  have z2 : (3 * (l : Int) + 2).toNat = 3 * l + 2 := by omega
  unfold mX12_addGate
  have fR : ∀ {T : Sto} {a i v}, gR (sI T a i v) 198 2 = gR T 198 2 := fun {T a i v} => rfl
  rw [wf_eq, fR, h5, gk_chip hk, hI_sI_a (show 344 + 22 * k ≠ 198 by omega), g1, wf_eq, fR, fR, h5, gk_chip hk, wrI_e (by omega), Int.toNat_natCast, fR, fR, fR, h5, gk_chip hk, wrI_e (by omega), z0, fR, fR, fR, fR, h5, gk_chip hk, wrI_e (by omega), z1, fR, fR, fR, fR, fR, h5, gk_chip hk, wrI_e (by omega), z2, fR, fR, fR, fR, fR, fR, h5, gk_chip hk]
  obtain ⟨Y, hY⟩ : ∃ Y, Y = sI (sI (sI (sI (sI (sI S 198 24 (gI S 198 24 - 1)) (344 + 22 * k) 6 ((l : Int) + 1)) (344 + 22 * k + 6) l p1) (344 + 22 * k + 7) (3 * l) p2) (344 + 22 * k + 7) (3 * l + 1) p3) (344 + 22 * k + 7) (3 * l + 2) p4 := ⟨_, rfl⟩
  rw [← hY]
  have cY : ChW (PGk k) S Y := by
    rw [hY]
    exact (((((ChW.refl.sI (.inl ⟨rfl, .inl rfl⟩)).sI (.inr (.inr (.inr (.inl ⟨rfl, rfl⟩))))).sI (.inr (.inr (.inr (.inr (.inl rfl)))))).sI (.inr (.inr (.inr (.inr (.inr rfl)))))).sI (.inr (.inr (.inr (.inr (.inr rfl)))))).sI (.inr (.inr (.inr (.inr (.inr rfl)))))
  have y6 : gI Y (344 + 22 * k) 6 = (l : Int) + 1 := by
    rw [hY, hI_sI_a (by omega), hI_sI_a (by omega), hI_sI_a (by omega), hI_sI_a (by omega), gI_set, w32_id (by omega)]
  have yb : gI Y 198 24 = (b : Int) := by
    rw [hY, hI_sI_a (by omega), hI_sI_a (by omega), hI_sI_a (by omega), hI_sI_a (by omega), hI_sI_a (by omega), gI_set, hb, w32_id (by omega)]; omega
  have y5 : gI Y 198 25 = gI S 198 25 := by
    rw [hY, hI_sI_a (by omega), hI_sI_a (by omega), hI_sI_a (by omega), hI_sI_a (by omega), hI_sI_a (by omega), hI_sI_i (by omega)]
  have yc : ∀ j, gI Y (344 + 22 * k + 6) j = if j = l then p1 else gI S (344 + 22 * k + 6) j := fun j => by
    rw [hY, hI_sI_a (by omega), hI_sI_a (by omega), hI_sI_a (by omega)]
    by_cases g : j = l
    · rw [g, gI_set, if_pos rfl, w32_id r1]
    · rw [hI_sI_i g, if_neg g, hI_sI_a (by omega), hI_sI_a (by omega)]
  have yn : ∀ j, j < 3 * l → gI Y (344 + 22 * k + 7) j = gI S (344 + 22 * k + 7) j := fun j hj => by
    rw [hY, hI_sI_i (by omega), hI_sI_i (by omega), hI_sI_i (by omega), hI_sI_a (by omega), hI_sI_a (by omega), hI_sI_a (by omega)]
  have yn2 : gI Y (344 + 22 * k + 7) (3 * l + 2) = p4 := by rw [hY, gI_set, w32_id r4]
  have yn1 : gI Y (344 + 22 * k + 7) (3 * l + 1) = p3 := by rw [hY, hI_sI_i (by omega), gI_set, w32_id r3]
  have yn0 : gI Y (344 + 22 * k + 7) (3 * l) = p2 := by rw [hY, hI_sI_i (by omega), hI_sI_i (by omega), gI_set, w32_id r2]
  have y1 : gI Y (344 + 22 * k) 1 = (gIn G : Int) := (cY.1 _ _ (fun q => by unfold PGk at q; omega)).trans h6
  have y2 : gI Y (344 + 22 * k) 2 = (gSt G : Int) := (cY.1 _ _ (fun q => by unfold PGk at q; omega)).trans h7
  unfold mX22_netOfGate mX22_bits
  rw [bX_some, bX_some, y1, y2]
  have ll : (s.1 ++ [(p1, p2, p3, p4)]).length = l + 1 := by rw [List.length_append, ← hle]; rfl
  refine WP_some.2 ⟨by dsimp only; unfold gFi; omega, ⟨?_, fun i hi => ?_, fun n hn => ?_⟩, yb, y5, cY⟩
  · dsimp only; rw [ll, y6]; omega
  · dsimp only at hi ⊢
    rw [ll] at hi
    by_cases g : i = l
    · subst g
      have e : (s.1 ++ [(p1, p2, p3, p4)]).getD i (0, 0, 0, 0) = (p1, p2, p3, p4) := by
        rw [List.getD_eq_getElem?_getD, List.getElem?_append_right (by omega), hle, Nat.sub_self]; rfl
      rw [e, yc, if_pos rfl]
      exact ⟨rfl, yn0, yn1, yn2⟩
    · have e : (s.1 ++ [(p1, p2, p3, p4)]).getD i (0, 0, 0, 0) = s.1.getD i (0, 0, 0, 0) := by
        rw [List.getD_eq_getElem?_getD, List.getD_eq_getElem?_getD, List.getElem?_append_left (by omega)]
      have gi := g2 i (by omega)
      rw [e, yc, if_neg g, yn _ (by omega), yn _ (by omega), yn _ (by omega)]
      exact gi
  · have := g3 n hn
    have o : ∀ a, a = 215 ∨ a = 216 → ∀ j, gI Y a j = gI S a j := fun a ha j => by
      rw [hY, hI_sI_a (by omega), hI_sI_a (by omega), hI_sI_a (by omega), hI_sI_a (by omega), hI_sI_a (by omega), hI_sI_a (by omega)]
    dsimp only
    rw [o _ (.inl rfl), o _ (.inl rfl), o _ (.inr rfl)]
    exact this
end KMAKE
