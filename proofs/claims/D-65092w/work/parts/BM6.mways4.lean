/-! the reference works out ways, node by node -/
def PMa (n a i : Nat) : Prop := PMn n a i ∨ PMu a i ∨ PRn a i ∨ a = 2098
/-- what holds between nodes -/
def MMx (z : Sto) (G : Dsg) (B : Lib) (d l : Nat) (n : Nat) : Prop := MGx z d G ∧ MLx z l B ∧ MRo z G ∧ SdX z G 2082 2083 (gFi G) ∧ MWz z G B n
def MSt (z : Sto) (m : Int) : Prop := 0 ≤ gI z 2000 127 ∧ gI z 2000 127 ≤ m ∧ ∀ x, x < 2048 → - gI z 2000 127 ≤ gI z 2096 x ∧ gI z 2096 x ≤ gI z 2000 127
theorem pick_lt {N A B C : Int} {a b c : Option Nat} (ha : ∀ v, a = some v → (v : Int) ≤ A) (hb : ∀ v, b = some v → (v : Int) ≤ B) (hc : ∀ v, c = some v → (v : Int) ≤ C) (h1 : C ≤ N) (hA : 0 ≤ A) (hB : 0 ≤ B) (h2 : A + B < N) : (ecN N a + ecN N b < ecN N c ↔ ∃ v, oadd a b = some v ∧ ∀ u, c = some u → v < u) ∧ (ecN N a + ecN N b < ecN N c → ecN N a + ecN N b = ecN N (omin c (oadd a b))) ∧ (¬ ecN N a + ecN N b < ecN N c → ecN N c = ecN N (omin c (oadd a b))) := by
  cases a with
  | none =>
    have e : oadd none b = none := by cases b <;> rfl
    rw [e]
    have p : ¬ ecN N (none : Option Nat) + ecN N b < ecN N c := by
      have nb : 0 ≤ ecN N b := by
        cases b with
        | none => show 0 ≤ N; omega
        | some v => exact Int.natCast_nonneg v
      have nc : ecN N c ≤ N := by
        cases c with
        | none => exact Int.le_refl _
        | some v => have := hc v rfl; show (v : Int) ≤ N; omega
      show ¬ N + ecN N b < ecN N c
      omega
    refine ⟨⟨fun g => absurd g p, fun ⟨v, e, _⟩ => by cases e⟩, fun g => absurd g p, fun _ => by cases c <;> rfl⟩
  | some x =>
    have xa := ha x rfl
    cases b with
    | none =>
      have p : ¬ ecN N (some x) + ecN N (none : Option Nat) < ecN N c := by
        have nc : ecN N c ≤ N := by
          cases c with
          | none => exact Int.le_refl _
          | some v => have := hc v rfl; show (v : Int) ≤ N; omega
        show ¬ (x : Int) + N < ecN N c
        omega
      refine ⟨⟨fun g => absurd g p, fun ⟨v, e, _⟩ => by cases e⟩, fun g => absurd g p, fun _ => by cases c <;> rfl⟩
    | some y =>
      have yb := hb y rfl
      cases c with
      | none =>
        have p : ecN N (some x) + ecN N (some y) < ecN N (none : Option Nat) := by show (x : Int) + (y : Int) < N; omega
        exact ⟨⟨fun _ => ⟨x + y, rfl, (fun u e => by cases e)⟩, fun _ => p⟩, fun _ => (Int.natCast_add x y).symm, fun g => absurd p g⟩
      | some z =>
        refine ⟨⟨fun g => ⟨x + y, rfl, (fun u e => by
          cases e
          have g' : (x : Int) + (y : Int) < (z : Int) := g
          omega)⟩, fun ⟨v, e, k⟩ => ?_⟩, fun g => ?_, fun g => ?_⟩
        · cases e
          have := k z rfl
          show (x : Int) + (y : Int) < (z : Int)
          omega
        · have g' : (x : Int) + (y : Int) < (z : Int) := g
          show (x : Int) + (y : Int) = ((min z (x + y) : Nat) : Int)
          omega
        · have g' : ¬ (x : Int) + (y : Int) < (z : Int) := g
          show (z : Int) = ((min z (x + y) : Nat) : Int)
          omega
section MWAYS4
variable {S z : Sto} {G : Dsg} {B : Lib} {d n i l c m o tu x t u : Nat} {K L : List (List Nat)} {s : WSt}
theorem MMx.cw (w : WFG G) (wl : WFL B) (hl : l < 3) (h : MMx S G B d l n) (g : ChW (PMa n) S z) : MMx z G B d l n := by
  obtain ⟨h1, h2, h3, h4, h6⟩ := h
  have q : ∀ a i, PMa n a i → (a = 2000 ∧ (i = 114 ∨ i = 123 ∨ i = 127)) ∨ (2087 ≤ a ∧ a ≤ 2098) := fun a i q => by
    unfold PMa PMn PMu PRn at q; omega
  have o : ∀ a i, ¬ ((a = 2000 ∧ (i = 114 ∨ i = 123 ∨ i = 127)) ∨ (2087 ≤ a ∧ a ≤ 2098)) → gI z a i = gI S a i := fun a i k => g.1 _ _ (fun e => k (q a i e))
  exact ⟨h1.cw w g (fun a i e => by have := q a i e; omega), h2.cw wl hl g (fun a i e => by have := q a i e; omega), fun n q1 q2 => (o _ _ (by omega)).trans (h3 n q1 q2), fun n q1 q2 => ⟨(o _ _ (by omega)).trans (h4 n q1 q2).1, (o _ _ (by omega)).trans (h4 n q1 q2).2⟩, h6.cw w wl g (fun a i e => by
    rcases e with e | e | e | e
    · exact .inl e
    · exact .inr (by unfold PMu at e; omega)
    · exact .inr (by unfold PRn at e; omega)
    · exact .inr (by omega))⟩
theorem m_fw31 (w : WFG G) (wl : WFL B) (hd : d < 6) (hl : l < 3) (hn : AndG G n) (hX : MMx S G B d l n) (hK : RcF S L.length (fun k => L.getD k [])) (h63 : L.length ≤ 63) (hK3 : ∀ c ∈ L, SS c ∧ c.length ≤ 3 ∧ (∀ x ∈ c, WdG G x ∧ x < n) ∧ Cb G c n) {m : Int} (hm : m ≤ 900000000) (hst : MSt S m) :
    WP (lpF (mX23_findWays_L31 (n : Int)) (0, S)) (fun z => MTo z G L n ∧ ChW (fun a i => PRn a i ∨ a = 2098) S z ∧ MSt z (m + 63)) := by
  refine (WP_cnt L.length (fun j s => s.1 = (j : Int) ∧ (∀ q, q < j → gI s.2 2098 q = (tbT G (L.getD q []) n : Int)) ∧ ChW (fun a i => PRn a i ∨ a = 2098) S s.2 ∧ MSt s.2 (m + (j : Int))) (P := fun z => MTo z G L n ∧ ChW (fun a i => PRn a i ∨ a = 2098) S z ∧ MSt z (m + (L.length : Int))) (by unfold cFU; omega) ⟨rfl, fun q h => absurd h (Nat.not_lt_zero _), ChW.refl, hst.1, by dsimp only; have := hst.2.1; omega, hst.2.2⟩ (fun j s hj hI => ?_) (fun s hI => ?_)).mono (fun z hz => ⟨hz.1, hz.2.1, hz.2.2.1, by have := hz.2.2.2.1; omega, hz.2.2.2.2⟩)
  · obtain ⟨s1, s2⟩ := s
    obtain ⟨b1, b2, b3, b4⟩ := hI
    dsimp only at b1 b2 b3 b4
    subst b1
    have q : ∀ a i, (PRn a i ∨ a = 2098) → (a = 2000 ∧ i = 127) ∨ (2096 ≤ a ∧ a ≤ 2098) := fun a i q => by unfold PRn at q; omega
    have o : ∀ a i, ¬ ((a = 2000 ∧ i = 127) ∨ (2096 ≤ a ∧ a ≤ 2098)) → gI s2 a i = gI S a i := fun a i k => b3.1 _ _ (fun e => k (q a i e))
    have kz : RcF s2 L.length (fun k => L.getD k []) := hK.mv (o _ _ (by omega)) (fun a i l1 l2 => o _ _ (by omega))
    obtain ⟨o2, o4, o5, cb⟩ := hK3 _ (getD_mem (d := []) hj)
    have sz : SdX s2 G 2082 2083 (gFi G) := fun m q1 q2 => by rw [o _ _ (by omega), o _ _ (by omega)]; exact hX.2.2.2.1 m q1 q2
    have mz : MGx s2 d G := hX.1.cw w b3 (fun a i e => by have := q a i e; omega)
    have tl := tbT_lt (G := G) (c := L.getD j []) (x := n)
    have bm := b4.2.1
    unfold mX23_findWays_L31
    dsimp only
    rw [kz.1, w32_id (by omega), w32_id (by omega), if_pos (by omega)]
    refine WP_call (m_functionOver mz w hd hn (kz.2 j hj) (by omega) o2 o4 (fun x hx => (o5 x hx).1) cb (fun x hx => (o5 x hx).2) sz ⟨b4.1, by omega⟩ b4.2.2) (fun y hy => ?_)
    obtain ⟨y1, y2, y3, y4⟩ := hy
    rw [y1, wrI_e (by omega), Int.toNat_natCast]
    refine WP_some.2 ⟨by show (j : Int) + 1 = _; omega, fun q hq => ?_, (b3.tr y2 (fun _ _ g => .inl g)).sI (.inr rfl), ?_⟩
    · dsimp only
      by_cases g : q = j
      · rw [g, gI_set, w32_id (by omega)]
      · rw [hI_sI_i g, y2.1 _ _ (fun e => by unfold PRn at e; omega)]; exact b2 q (by omega)
    · have b40 := b4.1
      refine ⟨?_, ?_, fun x hx => ?_⟩
      · dsimp only; rw [hI_sI_a (by omega), y3]; omega
      · dsimp only; rw [hI_sI_a (by omega), y3]; omega
      · dsimp only; rw [hI_sI_a (by omega), hI_sI_a (by omega), y3]; exact y4 x hx
  · obtain ⟨s1, s2⟩ := s
    obtain ⟨b1, b2, b3, b4⟩ := hI
    dsimp only at b1 b2 b3 b4
    subst b1
    have q : ∀ a i, (PRn a i ∨ a = 2098) → (a = 2000 ∧ i = 127) ∨ (2096 ≤ a ∧ a ≤ 2098) := fun a i q => by unfold PRn at q; omega
    have o : ∀ a i, ¬ ((a = 2000 ∧ i = 127) ∨ (2096 ≤ a ∧ a ≤ 2098)) → gI s2 a i = gI S a i := fun a i k => b3.1 _ _ (fun e => k (q a i e))
    have kz : RcF s2 L.length (fun k => L.getD k []) := hK.mv (o _ _ (by omega)) (fun a i l1 l2 => o _ _ (by omega))
    unfold mX23_findWays_L31
    dsimp only
    rw [kz.1, if_neg (by omega)]
    exact WP_some.2 ⟨b2, b3, b4⟩
theorem m_fw90 (w : WFG G) (wl : WFL B) (hd : d < 6) (hl : l < 3) (h : CMw S G B d l L n) (hn : AndG G n) (h63 : L.length ≤ 63) (hK3 : ∀ c ∈ L, ∀ x ∈ c, WdG G x ∧ x < n) (hc : c < liN B) (hs : MWy S n s) (hb : SWb s) {T : Sto} :
    WP (lpF (mX23_findWays_L90 (bI B c : Int) (n : Int) ((c : Int), T)) (0, S)) (fun z => MWy z n (wyU B (ndO G B (WW G B)) L (fun c => tbT G c n) c s L.length) ∧ SWb (wyU B (ndO G B (WW G B)) L (fun c => tbT G c n) c s L.length) ∧ ChW (PMn n) S z) := by
  obtain ⟨r1, r2, r3, r4, r5, r6, r7, r8⟩ := bI_rng wl hc
  refine WP_cnt L.length (fun q st => st.1 = (q : Int) ∧ MWy st.2 n (wyU B (ndO G B (WW G B)) L (fun c => tbT G c n) c s q) ∧ SWb (wyU B (ndO G B (WW G B)) L (fun c => tbT G c n) c s q) ∧ ChW (PMn n) S st.2) (by unfold cFU; omega) ⟨rfl, hs, hb, ChW.refl⟩ (fun q st hq hI => ?_) (fun st hI => ?_)
  · obtain ⟨s1, s2⟩ := st
    obtain ⟨b1, b2, b3, b4⟩ := hI
    dsimp only at b1 b2 b3 b4
    subst b1
    have hz := h.cw w wl hl b4
    have f8 : gI s2 2087 q = ((L.getD q []).length : Int) := (hz.2.2.2.1.2 q hq).1
    have step : wyU B (ndO G B (WW G B)) L (fun c => tbT G c n) c s (q + 1) = if (L.getD q []).length = bI B c then wyO B (ndO G B (WW G B)) (fun c => tbT G c n) c (L.getD q []) (wyU B (ndO G B (WW G B)) L (fun c => tbT G c n) c s q) (nOrd (bI B c)) else wyU B (ndO G B (WW G B)) L (fun c => tbT G c n) c s q := rfl
    have k32 := hK3 _ (getD_mem (d := []) hq)
    have lr := gI_rng s2 2087 q
    unfold mX23_findWays_L90
    dsimp only
    rw [hz.2.2.2.1.1, w32_id (x := (q : Int)) (by omega), w32_id (x := (L.length : Int)) (by omega), if_pos (by omega), rdI_e (by omega), Int.toNat_natCast, w32_gI, f8, w32_id (x := (bI B c : Int)) (by omega)]
    by_cases g : (L.getD q []).length = bI B c
    · rw [if_pos (by omega)]
      rw [if_pos g] at step
      refine WP_call (R := fun z => MWy z n (wyU B (ndO G B (WW G B)) L (fun c => tbT G c n) c s (q + 1)) ∧ SWb (wyU B (ndO G B (WW G B)) L (fun c => tbT G c n) c s (q + 1)) ∧ ChW (PMn n) s2 z) (WP_call (m_tryCell w wl hd hl hz hn hq h63 hc g k32 b2 b3) (fun y hy => WP_some.2 (by rw [step]; exact hy))) (fun y hy => ?_)
      exact WP_some.2 ⟨by show (q : Int) + 1 = _; omega, hy.1, hy.2.1, b4.tr hy.2.2 (fun _ _ g => g)⟩
    · rw [if_neg (by omega), bX_some]
      rw [if_neg g] at step
      exact WP_some.2 ⟨by show (q : Int) + 1 = _; omega, by rw [step]; exact b2, by rw [step]; exact b3, b4⟩
  · obtain ⟨s1, s2⟩ := st
    obtain ⟨b1, b2, b3, b4⟩ := hI
    dsimp only at b1 b2 b3 b4
    subst b1
    have hz := h.cw w wl hl b4
    unfold mX23_findWays_L90
    dsimp only
    rw [hz.2.2.2.1.1, if_neg (by omega)]
    exact WP_some.2 ⟨b2, b3, b4⟩
theorem m_fw59 (w : WFG G) (wl : WFL B) (hd : d < 6) (hl : l < 3) (h : CMw S G B d l L n) (hn : AndG G n) (h63 : L.length ≤ 63) (hK3 : ∀ c ∈ L, ∀ x ∈ c, WdG G x ∧ x < n) (hs : MWy S n (fun _ => none)) :
    WP (lpF (mX23_findWays_L59 (n : Int)) (0, S)) (fun z => MWy z n (wyC B (ndO G B (WW G B)) L (fun c => tbT G c n) (liN B)) ∧ ChW (PMn n) S z) := by
  have ln := wl.nums
  refine WP_cnt (liN B) (fun q st => st.1 = (q : Int) ∧ MWy st.2 n (wyC B (ndO G B (WW G B)) L (fun c => tbT G c n) q) ∧ SWb (wyC B (ndO G B (WW G B)) L (fun c => tbT G c n) q) ∧ ChW (PMn n) S st.2) (by unfold cFU; omega) ⟨rfl, hs, (fun t y e => by cases e), ChW.refl⟩ (fun q st hq hI => ?_) (fun st hI => ?_)
  · obtain ⟨s1, s2⟩ := st
    obtain ⟨b1, b2, b3, b4⟩ := hI
    dsimp only at b1 b2 b3 b4
    subst b1
    have hz := h.cw w wl hl b4
    have e0 := hz.2.1.2.1.1
    rw [wl.n] at e0
    have e1 := (hz.2.1.2.1.2 q hq).1
    rw [(bI_rng wl hq).2.2.1] at e1
    have zf : (12 * (l : Int) + (q : Int)).toNat = 12 * l + q := by omega
    have step : wyC B (ndO G B (WW G B)) L (fun c => tbT G c n) (q + 1) = wyU B (ndO G B (WW G B)) L (fun c => tbT G c n) q (wyC B (ndO G B (WW G B)) L (fun c => tbT G c n) q) L.length := rfl
    unfold mX23_findWays_L59
    dsimp only
    rw [hz.2.1.1, rdI_e (by omega), Int.toNat_natCast, e0, w32_id (by omega), w32_id (by omega), if_pos (by omega), rdI_e (by omega), zf, e1]
    refine WP_call (m_fw90 w wl hd hl hz hn h63 hK3 hq b2 b3) (fun y hy => ?_)
    exact WP_some.2 ⟨by show (q : Int) + 1 = _; omega, by rw [step]; exact hy.1, by rw [step]; exact hy.2.1, b4.tr hy.2.2 (fun _ _ g => g)⟩
  · obtain ⟨s1, s2⟩ := st
    obtain ⟨b1, b2, b3, b4⟩ := hI
    dsimp only at b1 b2 b3 b4
    subst b1
    have hz := h.cw w wl hl b4
    have e0 := hz.2.1.2.1.1
    rw [wl.n] at e0
    unfold mX23_findWays_L59
    dsimp only
    rw [hz.2.1.1, rdI_e (by omega), Int.toNat_natCast, e0, if_neg (by omega)]
    exact WP_some.2 ⟨b2, b4⟩
/-- the needs -/
theorem m_fw133 (w : WFG G) (wl : WFL B) (hl : l < 3) (hL : MLx S l B) (hn : AndG G n) (hs : MWy S n (WW G B n)) :
    WP (lpF (mX23_findWays_L133 (n : Int)) (0, S)) (fun z => MNd z G B n ∧ ChW (fun a i => (a = 2093 ∨ a = 2094) ∧ (i = 2 * n ∨ i = 2 * n + 1)) S z) := by
  have hno := no_le w
  have nn := hn.2.1
  refine WP_cnt 2 (fun q st => st.1 = (q : Int) ∧ (∀ t, t < q → gI st.2 2093 (2 * n + t) = ecN 1000000000 (ndR G B n t) ∧ gI st.2 2094 (2 * n + t) = (bo (trn G B n t) : Int)) ∧ ChW (fun a i => (a = 2093 ∨ a = 2094) ∧ (i = 2 * n ∨ i = 2 * n + 1)) S st.2) (by unfold cFU; omega) ⟨rfl, fun t h => absurd h (Nat.not_lt_zero _), ChW.refl⟩ (fun q st hq hI => ?_) (fun st hI => ?_)
  · obtain ⟨s1, s2⟩ := st
    obtain ⟨b1, b2, b3⟩ := hI
    dsimp only at b1 b2 b3
    subst b1
    have z1 : (2 * (n : Int) + 1 - (q : Int)).toNat = 2 * n + (1 - q) := by omega
    have z0 : (2 * (n : Int) + (q : Int)).toNat = 2 * n + q := by omega
    have e1 : gI s2 2089 (2 * n + (1 - q)) = ecN 1000000000 (wCo (WW G B n (1 - q))) := (b3.1 _ _ (by omega)).trans (hs (1 - q) (by omega)).1
    have e0 : gI s2 2089 (2 * n + q) = ecN 1000000000 (wCo (WW G B n q)) := (b3.1 _ _ (by omega)).trans (hs q hq).1
    have e8 : gI s2 2000 108 = ecN 1000000000 (invO B) := (b3.1 _ _ (by omega)).trans hL.2.2.2
    obtain ⟨a, ha⟩ : ∃ a, a = wCo (WW G B n (1 - q)) := ⟨_, rfl⟩
    obtain ⟨b, hb⟩ : ∃ b, b = invO B := ⟨_, rfl⟩
    obtain ⟨c, hc⟩ : ∃ c, c = wCo (WW G B n q) := ⟨_, rfl⟩
    have la : ∀ v, a = some v → (v : Int) ≤ 6000000 := fun v e => by have := ww_le w wl hn (ha ▸ e); omega
    have lb : ∀ v, b = some v → (v : Int) ≤ 1000 := fun v e => by have := invO_le wl (hb ▸ e); omega
    have lc : ∀ v, c = some v → (v : Int) ≤ 6000000 := fun v e => by have := ww_le w wl hn (hc ▸ e); omega
    have er : ndR G B n q = omin c (oadd a b) := by rw [ha, hb, hc]; rfl
    have et : trn G B n q ↔ ∃ v, oadd a b = some v ∧ ∀ u, c = some u → v < u := by rw [ha, hb, hc]; rfl
    obtain ⟨p1, p2, p3⟩ := pick_lt (N := 1000000000) la lb lc (by decide) (by decide) (by decide) (by decide)
    rw [← ha] at e1
    rw [← hb] at e8
    rw [← hc] at e0
    rw [← p1] at et
    obtain ⟨N, hN⟩ : ∃ N : Int, N = 1000000000 := ⟨_, rfl⟩
    rw [← hN] at p2 p3 et e1 e8 e0
    have Nb : N = 1000000000 := hN
    have i1 : ∀ {o : Option Nat} {C : Int}, (∀ v, o = some v → (v : Int) ≤ C) → C ≤ 6000000 → (i2l (ecN N o)).toInt = ecN N o ∧ 0 ≤ ecN N o ∧ ecN N o ≤ N := fun {o C} h hC => by
      rw [i2l_int]
      cases o with
      | none => exact ⟨w32_id (by show _ ≤ N ∧ N < _; omega), by show 0 ≤ N; omega, Int.le_refl _⟩
      | some v => have := h v rfl; exact ⟨w32_id (by show _ ≤ (v : Int) ∧ (v : Int) < _; omega), Int.natCast_nonneg v, by show (v : Int) ≤ N; omega⟩
    obtain ⟨ia, ia1, ia2⟩ := i1 la (by decide)
    obtain ⟨ib, ib1, ib2⟩ := i1 lb (by decide)
    obtain ⟨ic, ic1, ic2⟩ := i1 lc (by decide)
    have sm := l64_add ia ib (by omega)
    have cmp := lCmp_lt sm ic
    unfold mX23_findWays_L133
    dsimp only
    rw [w32_id (x := (q : Int)) (by omega), if_pos (by omega), rdI_e (by omega), z1, rdI_e (by omega), z0, e1, e0, e8, wrI_e (by omega), z0, rdI_e (by omega), z0, hI_sI_a (by omega), e0]
    refine WP_call (R := fun y => y = ecN N (ndR G B n q)) ?_ (fun y hy => ?_)
    · by_cases g : ecN N a + ecN N b < ecN N c
      · rw [if_pos (cmp.2 g)]
        refine WP_some.2 ?_
        rw [er, ← p2 g]
        exact l2i_int sm (by omega)
      · rw [if_neg (fun k => g (cmp.1 k)), rdI_e (by omega), z0, hI_sI_a (by omega), e0]
        refine WP_some.2 ?_
        rw [er, ← p3 g]
    · subst hy
      have rr : -2147483648 ≤ ecN N (ndR G B n q) ∧ ecN N (ndR G B n q) < 2147483648 := by
        rw [er]
        by_cases g : ecN N a + ecN N b < ecN N c
        · rw [← p2 g]; omega
        · rw [← p3 g]; omega
      rw [wrI_e (by omega), z0]
      refine WP_some.2 ⟨by show (q : Int) + 1 = _; omega, fun t ht => ?_, (b3.sI ⟨.inr rfl, by omega⟩).sI ⟨.inl rfl, by omega⟩⟩
      dsimp only
      by_cases g : t = q
      · subst g
        refine ⟨by rw [gI_set, w32_id rr, hN], ?_⟩
        rw [hI_sI_a (by omega), gI_set]
        by_cases k : ecN N a + ecN N b < ecN N c
        · rw [if_pos (cmp.2 k), bo_t (et.2 k)]; rfl
        · rw [if_neg (fun k' => k (cmp.1 k')), bo_f (fun k' => k (et.1 k'))]; rfl
      · have b2' := b2 t (by omega)
        exact ⟨by rw [hI_sI_i (by omega), hI_sI_a (by omega)]; exact b2'.1, by rw [hI_sI_a (by omega), hI_sI_i (by omega)]; exact b2'.2⟩
  · obtain ⟨s1, s2⟩ := st
    obtain ⟨b1, b2, b3⟩ := hI
    dsimp only at b1 b2 b3
    subst b1
    unfold mX23_findWays_L133
    dsimp only
    rw [if_neg (by decide)]
    exact WP_some.2 ⟨b2, b3⟩
theorem m_findWays (w : WFG G) (wl : WFL B) (hd : d < 6) (hl : l < 3) (hn : AndG G n) (hX : MMx S G B d l n) {m : Int} (hm : m ≤ 900000000) (hst : MSt S m) :
    WP (mX23_findWays S (n : Int)) (fun z => MMx z G B d l (n + 1) ∧ MSt z (m + 63) ∧ ChW (PMa n) S z) := by
  have hno := no_le w
  have nn := hn.2.1
  have z0 : (2 * (n : Int)).toNat = 2 * n := by omega
  have z1 : (2 * (n : Int) + 1).toNat = 2 * n + 1 := by omega
  unfold mX23_findWays
  refine WP_call (m_findCuts hX.1 w hd hX.2.2.1 hX.2.2.2.1 hn) (fun x3 h3 => ?_)
  rw [wrI_e (by omega), z0, wrI_e (by omega), z1]
  obtain ⟨K, hKe⟩ : ∃ K, K = cutK (InG G) (aN' G) (bN' G) n := ⟨_, rfl⟩
  have hZ : cutZ (InG G) (aN' G) (bN' G) n = stC K K.length := by rw [hKe]; rfl
  rw [← hKe, hZ] at h3
  obtain ⟨M, m1, ok⟩ := cut_ok w hn
  rw [← hKe] at ok
  have h63' := ok.len m1
  have hK3' : ∀ c ∈ K, SS c ∧ c.length ≤ 3 ∧ (∀ x ∈ c, WdG G x ∧ x < n) ∧ Cb G c n := fun c hc => by
    obtain ⟨_, p2, p3, p4, p5⟩ := ok.2 c hc
    rw [hKe] at hc
    obtain ⟨cb, lt⟩ := cut_cov w hn hc
    exact ⟨p2, p4, fun x hx => ⟨p5 x hx, lt x hx⟩, cb⟩
  obtain ⟨L, hLe⟩ : ∃ L, L = stC K K.length := ⟨_, rfl⟩
  have Ll : L.length = K.length := by rw [hLe]; exact stC_len K.length
  have h63 : L.length ≤ 63 := by omega
  have hK3 : ∀ c ∈ L, SS c ∧ c.length ≤ 3 ∧ (∀ x ∈ c, WdG G x ∧ x < n) ∧ Cb G c n := fun c hc => hK3' c (stC_all (Nat.le_refl _) (hLe ▸ hc))
  rw [← hLe, ← Ll] at h3
  obtain ⟨a1, a3⟩ := h3
  obtain ⟨Y, hY⟩ : ∃ Y, Y = sI (sI x3 2089 (2 * n) 1000000000) 2089 (2 * n + 1) 1000000000 := ⟨_, rfl⟩
  rw [← hY]
  have cY : ChW (PMa n) S Y := by
    rw [hY]
    have a3' : ChW (PMa n) S x3 := ChW.refl.tr a3 (fun _ _ g => .inr (.inl g))
    exact (a3'.sI (.inl (.inl ⟨.inl rfl, .inl rfl⟩))).sI (.inl (.inl ⟨.inl rfl, .inr rfl⟩))
  have yo : ∀ a i, a ≠ 2089 → gI Y a i = gI x3 a i := fun a i g => by rw [hY, hI_sI_a g, hI_sI_a g]
  have y0 : ∀ t, t < 2 → gI Y 2089 (2 * n + t) = 1000000000 := fun t ht => by
    rw [hY]
    rcases (show t = 0 ∨ t = 1 by omega) with rfl | rfl
    · rw [hI_sI_i (by omega), Nat.add_zero, gI_set]; rfl
    · rw [gI_set]; rfl
  have XY := hX.cw w wl hl cY
  have aY : RcF Y L.length (fun k => L.getD k []) := a1.mv (yo _ _ (by omega)) (fun a i l1 l2 => yo _ _ (by omega))
  have stY : MSt Y m := by
    have e20 : gI Y 2000 127 = gI S 2000 127 := by rw [yo _ _ (by omega), a3.1 _ _ (fun g => by unfold PMu at g; omega)]
    have e13 : ∀ x, gI Y 2096 x = gI S 2096 x := fun x => by rw [yo _ _ (by omega), a3.1 _ _ (fun g => by unfold PMu at g; omega)]
    exact ⟨by rw [e20]; exact hst.1, by rw [e20]; exact hst.2.1, fun x hx => by rw [e20, e13]; exact hst.2.2 x hx⟩
  refine WP_call (m_fw31 w wl hd hl hn XY aY h63 hK3 hm stY) (fun x4 h4 => ?_)
  obtain ⟨d1, d2, d3⟩ := h4
  have c4 : ChW (PMa n) S x4 := cY.tr d2 (fun a i g => g.elim (fun g => .inr (.inr (.inl g))) (fun g => .inr (.inr (.inr g))))
  have X4 := hX.cw w wl hl c4
  have o4 : ∀ a i, ¬ ((a = 2000 ∧ i = 127) ∨ (2096 ≤ a ∧ a ≤ 2098)) → gI x4 a i = gI Y a i := fun a i k => d2.1 _ _ (fun e => k (by unfold PRn at e; omega))
  have cx : CMw x4 G B d l L n := ⟨X4.1, X4.2.1, X4.2.2.1, aY.mv (o4 _ _ (by omega)) (fun a i l1 l2 => o4 _ _ (by omega)), d1, X4.2.2.2.2⟩
  have ini : MWy x4 n (fun _ => none) := fun t ht => ⟨by rw [o4 _ _ (by omega)]; exact y0 t ht, (fun y e => by cases e)⟩
  refine WP_call (m_fw59 w wl hd hl cx hn h63 (fun c hc => (hK3 c hc).2.2.1) ini) (fun x5 h5 => ?_)
  obtain ⟨f1, f2⟩ := h5
  have c5 : ChW (PMa n) S x5 := c4.tr f2 (fun _ _ g => .inl g)
  have X5 := hX.cw w wl hl c5
  have ew : WW G B n = wyC B (ndO G B (WW G B)) L (fun c => tbT G c n) (liN B) := by
    rw [WW_eq, hZ, ← hLe]
    refine wyC_cg wl (fun cut hc x hx t => ?_) _ (Nat.le_refl _)
    exact nd_st ((hK3 cut hc).2.2.1 x hx).2
  rw [← ew] at f1
  refine WP_call (m_fw133 w wl hl X5.2.1 hn f1) (fun x6 h6 => WP_some.2 ?_)
  obtain ⟨g1, g2⟩ := h6
  have c6 : ChW (PMa n) S x6 := c5.tr g2 (fun a i g => .inl (.inl (by omega)))
  have X6 := hX.cw w wl hl c6
  have f6 : MWy x6 n (WW G B n) := by
    have ok := WW_ok w wl n hn
    refine fun t ht => ⟨(g2.1 _ _ (by omega)).trans (f1 t ht).1, fun y hy => ?_⟩
    obtain ⟨a1, a2, a3⟩ := (f1 t ht).2 y hy
    exact ⟨(g2.1 _ _ (by omega)).trans a1, (g2.1 _ _ (by omega)).trans a2, fun i hi => (g2.1 _ _ (by omega)).trans (a3 i hi)⟩
  refine ⟨⟨X6.1, X6.2.1, X6.2.2.1, X6.2.2.2.1, fun x hx l => ?_⟩, ?_, c6⟩
  · by_cases g : x = n
    · rw [g]; exact ⟨f6, g1⟩
    · exact X6.2.2.2.2 x hx (by omega)
  · have e20 : gI x6 2000 127 = gI x4 2000 127 := (g2.1 _ _ (by omega)).trans (f2.1 _ _ (fun g => by unfold PMn at g; omega))
    have e13 : ∀ x, gI x6 2096 x = gI x4 2096 x := fun x => (g2.1 _ _ (by omega)).trans (f2.1 _ _ (fun g => by unfold PMn at g; omega))
    exact ⟨by rw [e20]; exact d3.1, by rw [e20]; exact d3.2.1, fun x hx => by rw [e20, e13]; exact d3.2.2 x hx⟩
end MWAYS4
