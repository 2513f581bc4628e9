/-! the class makes the gates of all roots -/
noncomputable def rtS (G : Dsg) (B : Lib) : Nat → MkS
  | 0 => ([], fun _ _ => -1)
  | i + 1 => rtR G B (rtL G i) (rtS G B i)
def PGm (k a i : Nat) : Prop := PGk k a i ∨ a = 344 + 22 * k + 8 ∨ a = 344 + 22 * k + 9
section KROOTS
variable {S z : Sto} {G : Dsg} {B : Lib} {d n i k c m o tu x t b f F p : Nat} {s s1 : MkS}
theorem rtR_ok (w : WFG G) (wl : WFL B) (hr : rOK G B) (hp : isRt G (p / 2)) (hv : MkV G s) : MkV G (rtR G B p s) ∧ MkLe s (rtR G B p s) := by
  unfold rtR
  by_cases g : p < 2
  · rw [if_pos g]; exact ⟨hv, MkLe.refl⟩
  · rw [if_neg g]
    unfold lfR
    by_cases q : hasK G (p / 2) (p % 2)
    · rw [cG_t q]
      have := mkR_ok w wl hr 5000 (p / 2) (inK G (p / 2) (p % 2)) s (rt_gd w hr hp (by omega) q) (rk_5 w (Wt_lt w (isRt_Wt hp))) hv
      exact ⟨this.1, this.2.1⟩
    · rw [cG_f q]; exact ⟨hv, MkLe.refl⟩
theorem rtS_ok (w : WFG G) (wl : WFL B) (hr : rOK G B) : ∀ i, i ≤ nRt G → MkV G (rtS G B i) ∧ ∀ j, j ≤ i → MkLe (rtS G B j) (rtS G B i) := by
  intro i
  induction i with
  | zero =>
    refine fun _ => ⟨fun n k => .inl rfl, fun j hj => ?_⟩
    have e : j = 0 := by omega
    subst e
    exact MkLe.refl
  | succ i ih =>
    intro hi
    obtain ⟨a, b⟩ := ih (by omega)
    obtain ⟨c1, c2⟩ := rtR_ok w wl hr (p := rtL G i) ⟨i, by omega, rfl⟩ a
    refine ⟨c1, fun j hj => ?_⟩
    by_cases g : j = i + 1
    · subst g; exact MkLe.refl
    · exact (b j (by omega)).tr c2
theorem KMg.cwm (w : WFG G) (wl : WFL B) (hd : d < 6) (hk : k < 4) (h : KMg S G B d k) (g : ChW (PGm k) S z) : KMg z G B d k := by
  obtain ⟨h1, h2, h3, h4, h5, h6, h7⟩ := h
  have o : ∀ a i, ¬ PGm k a i → gI z a i = gI S a i := g.1
  refine ⟨h1.mv (fun a i l1 l2 => o _ _ (fun q => by unfold PGm PGk at q; omega)) (g.2.2.1 _ _), h2.mv (fun a i l1 l2 => o _ _ (fun q => by unfold PGm PGk at q; omega)) (g.2.2.1 _ _) (o _ _ (fun q => by unfold PGm PGk at q; omega)), fun n q1 q2 => (o _ _ (fun q => by unfold PGm PGk at q; omega)).trans (h3 n q1 q2), fun x hx l => (h4 x hx l).mv (fun a i l1 l2 => o _ _ (fun q => by unfold PGm PGk at q; omega)), (g.2.2.1 _ _).trans h5, (o _ _ (fun q => by unfold PGm PGk at q; omega)).trans h6, (o _ _ (fun q => by unfold PGm PGk at q; omega)).trans h7⟩
theorem KSg.mv2 (hk : k < 4) (h : KSg S G k s) (e : ∀ a i, a ≠ 344 + 22 * k + 8 → a ≠ 344 + 22 * k + 9 → gI z a i = gI S a i) : KSg z G k s := by
  obtain ⟨h1, h2, h3⟩ := h
  refine ⟨(e _ _ (by omega) (by omega)).trans h1, fun i hi => ?_, fun n hn => ?_⟩
  · obtain ⟨a, b, c, d⟩ := h2 i hi
    exact ⟨(e _ _ (by omega) (by omega)).trans a, (e _ _ (by omega) (by omega)).trans b, (e _ _ (by omega) (by omega)).trans c, (e _ _ (by omega) (by omega)).trans d⟩
  · obtain ⟨a, b, c⟩ := h3 n hn
    exact ⟨(e _ _ (by omega) (by omega)).trans a, (e _ _ (by omega) (by omega)).trans b, (e _ _ (by omega) (by omega)).trans c⟩
theorem rtN_rng (w : WFG G) (hp : isRt G (p / 2)) (hv : MkV G s) (hl : s.1.length < 1000) : -1000 ≤ rtN G s p ∧ rtN G s p < 5000 := by
  unfold rtN
  by_cases g : p < 2
  · rw [if_pos g]; omega
  · rw [if_neg g]
    have := inN_rng (t := p % 2) w hv ⟨isRt_Wt hp, show 0 < p / 2 by omega⟩ hl
    omega
/-- made so far: outputs o, next states n -/
def KRs (S : Sto) (G : Dsg) (B : Lib) (k o n : Nat) (z : Sto) : Prop := ChW (PGm k) S z ∧ ((rtS G B (o + n)).1.length ≤ 150 → KSg z G k (rtS G B (o + n)) ∧ gI z 198 24 = 0 ∧ gI z 198 25 = 0 ∧ (∀ i, i < o → gI z (344 + 22 * k + 8) i = rtN G (rtS G B (i + 1)) (rtL G i)) ∧ ∀ i, i < n → gI z (344 + 22 * k + 9) i = rtN G (rtS G B (o + i + 1)) (rtL G (o + i))) ∧ (150 < (rtS G B (o + n)).1.length → gI z 198 25 = 1)
theorem k_mk136 (w : WFG G) (wl : WFL B) (hr : rOK G B) (hd : d < 6) (hk : k < 4) (hM : KMg S G B d k) (h0 : KRs S G B k 0 0 z) : WP (lpF mX12_make_L136 (0, z)) (KRs S G B k (gOu G) 0) := by
  have hno := no_le w
  have ng := w.nums
  have wo := w.o
  have wn := w.n
  have nR : nRt G = gOu G + gSt G := rfl
  refine WP_cnt (gOu G) (fun j st => st.1 = (j : Int) ∧ KRs S G B k j 0 st.2) (by unfold cFU; omega) ⟨rfl, h0⟩ (fun j st hj hI => ?_) (fun st hI => ?_)
  · obtain ⟨s1, s2⟩ := st
    obtain ⟨b1, b2, b3, b4⟩ := hI
    dsimp only at b1 b2 b3 b4
    subst b1
    have Mz := hM.cwm w wl hd hk b2
    have e6 := Mz.1.2.1.2.2.1
    rw [wo] at e6
    obtain ⟨v1, v2⟩ := rtS_ok w wl hr j (by omega)
    obtain ⟨u1, u2⟩ := rtS_ok w wl hr (j + 1) (by omega)
    obtain ⟨o1, o2⟩ := rtS_ok w wl hr (gOu G) (by omega)
    have mono := (o2 j (by omega)).len
    unfold mX12_make_L136
    dsimp only
    rw [Mz.1.1, gk_dsg hd, e6, w32_id (by omega), w32_id (by omega), if_pos (by omega)]
    by_cases full : (rtS G B (j + 0)).1.length ≤ 150
    case neg =>
      have f1 := b4 (by omega)
      rw [f1, show w32 (bz 1) = 1 from rfl, if_neg (by decide), bX_some, if_neg (by decide)]
      exact WP_some.2 ⟨b2, fun q => by rw [Nat.add_zero] at *; omega, fun _ => f1⟩
    case pos =>
      obtain ⟨c1, c2, c3, c4, c5⟩ := b3 full
      have g7 := w.2.2.2.1 j hj
      have r7 := Mz.1.2.2.2.2.1 j hj
      have rt : rtL G j = swN G (G 7 j).toNat := if_pos hj
      have e7 : G 7 j = ((G 7 j).toNat : Int) := by omega
      have hp : isRt G (rtL G j / 2) := ⟨j, by omega, rfl⟩
      have In : KIn s2 G B d k (rtS G B (j + 0)) 0 := ⟨Mz, c1, c2, c3, v1⟩
      rw [c3, show w32 (bz 0) = 0 from rfl, if_pos rfl, bX_some, if_pos rfl, Mz.2.2.2.2.1, gk_chip hk, gk_dsg hd, gk_dsg hd, rdI_e (by omega), Int.toNat_natCast, r7, e7, k_sweep Mz.1.2 w (by omega), bX_some, ← rt]
      refine WP_call (k_netOf w wl hr hd hk hp In full) (fun x33 hx => ?_)
      obtain ⟨⟨y1, y2, y3⟩, y4⟩ := hx
      have es : rtR G B (rtL G j) (rtS G B (j + 0)) = rtS G B (j + 1 + 0) := rfl
      rw [es] at y2 y3 y4
      rw [wrI_e (by omega), Int.toNat_natCast]
      have cz : ChW (PGm k) S x33.2 := b2.tr y1 (fun _ _ g => .inl g)
      refine WP_some.2 ⟨by show (j : Int) + 1 = _; omega, cz.sI (.inr (.inl rfl)), fun q => ?_, fun q => ?_⟩
      · obtain ⟨a1, a2, a3⟩ := y2 q
        have rn := rtN_rng (p := rtL G j) w hp u1 (by rw [Nat.add_zero] at q; omega)
        refine ⟨a1.mv2 hk (fun a i g1 g2 => hI_sI_a g1), ?_, ?_, fun i hi => ?_, fun i hi => absurd hi (Nat.not_lt_zero _)⟩
        · rw [hI_sI_a (by omega)]; exact a2
        · rw [hI_sI_a (by omega)]; exact a3
        · by_cases g : i = j
          · subst g
            rw [gI_set, y4 q]
            exact w32_id (by have rn' := rn; show _ ≤ rtN G (rtS G B (i + 1)) (rtL G i) ∧ rtN G (rtS G B (i + 1)) (rtL G i) < _; omega)
          · rw [hI_sI_i g, y1.1 _ _ (fun q => by unfold PGk at q; omega)]; exact c4 i (by omega)
      · rw [hI_sI_a (by omega)]; exact y3 q
  · obtain ⟨s1, s2⟩ := st
    obtain ⟨b1, b2⟩ := hI
    dsimp only at b1 b2
    subst b1
    have Mz := hM.cwm w wl hd hk b2.1
    have e6 := Mz.1.2.1.2.2.1
    rw [wo] at e6
    unfold mX12_make_L136
    dsimp only
    rw [Mz.1.1, gk_dsg hd, e6, if_neg (by omega), bX_some, if_neg (by decide)]
    exact WP_some.2 b2
theorem k_mk191 (w : WFG G) (wl : WFL B) (hr : rOK G B) (hd : d < 6) (hk : k < 4) (hM : KMg S G B d k) (h0 : KRs S G B k (gOu G) 0 z) : WP (lpF mX12_make_L191 (0, z)) (KRs S G B k (gOu G) (gSt G)) := by
  have hno := no_le w
  have ng := w.nums
  have ws := w.s
  have wn := w.n
  have nR : nRt G = gOu G + gSt G := rfl
  refine WP_cnt (gSt G) (fun j st => st.1 = (j : Int) ∧ KRs S G B k (gOu G) j st.2) (by unfold cFU; omega) ⟨rfl, h0⟩ (fun j st hj hI => ?_) (fun st hI => ?_)
  · obtain ⟨s1, s2⟩ := st
    obtain ⟨b1, b2, b3, b4⟩ := hI
    dsimp only at b1 b2 b3 b4
    subst b1
    have Mz := hM.cwm w wl hd hk b2
    have e6 := Mz.1.2.1.2.1
    rw [ws] at e6
    obtain ⟨v1, v2⟩ := rtS_ok w wl hr (gOu G + j) (by omega)
    obtain ⟨u1, u2⟩ := rtS_ok w wl hr (gOu G + j + 1) (by omega)
    obtain ⟨o1, o2⟩ := rtS_ok w wl hr (gOu G + gSt G) (by omega)
    have mono := (o2 (gOu G + j) (by omega)).len
    unfold mX12_make_L191
    dsimp only
    rw [Mz.1.1, gk_dsg hd, e6, w32_id (by omega), w32_id (by omega), if_pos (by omega)]
    by_cases full : (rtS G B (gOu G + j)).1.length ≤ 150
    case neg =>
      have f1 := b4 (by omega)
      rw [f1, show w32 (bz 1) = 1 from rfl, if_neg (by decide), bX_some, if_neg (by decide)]
      exact WP_some.2 ⟨b2, fun q => by omega, fun _ => f1⟩
    case pos =>
      obtain ⟨c1, c2, c3, c4, c5⟩ := b3 full
      have g7 := w.2.2.2.2.1 j hj
      have r7 := Mz.1.2.2.2.2.2.1 j hj
      have rt : rtL G (gOu G + j) = swN G (G 8 j).toNat := by
        unfold rtL
        rw [if_neg (by omega), Nat.add_sub_cancel_left]
      have e7 : G 8 j = ((G 8 j).toNat : Int) := by omega
      have hp : isRt G (rtL G (gOu G + j) / 2) := ⟨gOu G + j, by omega, rfl⟩
      have In : KIn s2 G B d k (rtS G B (gOu G + j)) 0 := ⟨Mz, c1, c2, c3, v1⟩
      rw [c3, show w32 (bz 0) = 0 from rfl, if_pos rfl, bX_some, if_pos rfl, Mz.2.2.2.2.1, gk_chip hk, gk_dsg hd, gk_dsg hd, rdI_e (by omega), Int.toNat_natCast, r7, e7, k_sweep Mz.1.2 w (by omega), bX_some, ← rt]
      refine WP_call (k_netOf w wl hr hd hk hp In full) (fun x33 hx => ?_)
      obtain ⟨⟨y1, y2, y3⟩, y4⟩ := hx
      have es : rtR G B (rtL G (gOu G + j)) (rtS G B (gOu G + j)) = rtS G B (gOu G + (j + 1)) := rfl
      rw [es] at y2 y3 y4
      rw [wrI_e (by omega), Int.toNat_natCast]
      have cz : ChW (PGm k) S x33.2 := b2.tr y1 (fun _ _ g => .inl g)
      refine WP_some.2 ⟨by show (j : Int) + 1 = _; omega, cz.sI (.inr (.inr rfl)), fun q => ?_, fun q => ?_⟩
      · obtain ⟨a1, a2, a3⟩ := y2 q
        have rn := rtN_rng (p := rtL G (gOu G + j)) w hp u1 (Nat.lt_of_le_of_lt q (by omega))
        refine ⟨a1.mv2 hk (fun a i g1 g2 => hI_sI_a g2), ?_, ?_, fun i hi => ?_, fun i hi => ?_⟩
        · rw [hI_sI_a (by omega)]; exact a2
        · rw [hI_sI_a (by omega)]; exact a3
        · rw [hI_sI_a (by omega), y1.1 _ _ (fun q => by unfold PGk at q; omega)]; exact c4 i hi
        · by_cases g : i = j
          · subst g
            rw [gI_set, y4 q]
            exact w32_id (by have rn' := rn; show _ ≤ rtN G (rtS G B (gOu G + i + 1)) (rtL G (gOu G + i)) ∧ rtN G (rtS G B (gOu G + i + 1)) (rtL G (gOu G + i)) < _; omega)
          · rw [hI_sI_i g, y1.1 _ _ (fun q => by unfold PGk at q; omega)]; exact c5 i (by omega)
      · rw [hI_sI_a (by omega)]; exact y3 q
  · obtain ⟨s1, s2⟩ := st
    obtain ⟨b1, b2⟩ := hI
    dsimp only at b1 b2
    subst b1
    have Mz := hM.cwm w wl hd hk b2.1
    have e6 := Mz.1.2.1.2.1
    rw [ws] at e6
    unfold mX12_make_L191
    dsimp only
    rw [Mz.1.1, gk_dsg hd, e6, if_neg (by omega), bX_some, if_neg (by decide)]
    exact WP_some.2 b2
end KROOTS
