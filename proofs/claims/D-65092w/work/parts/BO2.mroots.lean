/-! the reference's jobs: all roots -/
def PJm (j a i : Nat) : Prop := PJb a i ∨ (a = 2114 ∧ 16 * j ≤ i ∧ i < 16 * j + 16) ∨ (a = 2115 ∧ 6 * j ≤ i ∧ i < 6 * j + 6)
def MRs (S : Sto) (G : Dsg) (B : Lib) (j o n : Nat) (z : Sto) : Prop := ChW (PJm j) S z ∧ MSg z G B (rtS G B (o + n)) ∧ (rtS G B (o + n)).1.length + missN G (rtS G B (o + n)) = 3 * gNo G ∧ FLg z B (rtS G B (o + n)) ∧ (∀ i, i < o → gI z 2114 (16 * j + i) = rtN G (rtS G B (i + 1)) (rtL G i)) ∧ ∀ i, i < n → gI z 2115 (6 * j + i) = rtN G (rtS G B (o + i + 1)) (rtL G (o + i))
section MROOTS
variable {S z z' : Sto} {G : Dsg} {B : Lib} {d n i k l m o tu x t b f p j : Nat} {s s1 T : MkS}
theorem MKg.cwm (w : WFG G) (wl : WFL B) (hl : l < 3) (h : MKg S G B d l) (g : ChW (PJm j) S z) : MKg z G B d l := by
  obtain ⟨h1, h2, h3, h4⟩ := h
  have o : ∀ a i, ¬ PJm j a i → gI z a i = gI S a i := g.1
  exact ⟨h1.cw w g (fun a i e => by unfold PJm PJb at e; omega), h2.cw wl hl g (fun a i e => by unfold PJm PJb at e; omega), fun n q1 q2 => (o _ _ (fun q => by unfold PJm PJb at q; omega)).trans (h3 n q1 q2), h4.cw w wl g (fun a i e => .inr (by unfold PJm PJb at e; omega))⟩
theorem MSg.mv2 (h : MSg S G B s) (e : ∀ a i, a ≠ 2114 → a ≠ 2115 → gI z a i = gI S a i) : MSg z G B s := ⟨(e _ _ (by omega) (by omega)).trans h.1, fun i hi => by rw [e _ _ (by omega) (by omega), e _ _ (by omega) (by omega), e _ _ (by omega) (by omega), e _ _ (by omega) (by omega)]; exact h.2.1 i hi, fun n q1 q2 => by rw [e _ _ (by omega) (by omega), e _ _ (by omega) (by omega)]; exact h.2.2.1 n q1 q2, fun n q1 => by rw [e _ _ (by omega) (by omega)]; exact h.2.2.2 n q1⟩
theorem m_mp251 (w : WFG G) (wl : WFL B) (hr : rOK G B) (hd : d < 6) (hl3 : l < 3) (hj : j < 4) (hM : MKg S G B d l) {y25 : Int × Sto} (hy : y25.1 = 1) (h0 : MRs S G B j 0 0 z) : WP (lpF (mX23_map_L251 (d : Int) y25 (j : Int)) (0, z)) (MRs S G B j (gOu G) 0) := by
  have hno := no_le w
  have ng := w.nums
  have wo := w.o
  have wn := w.n
  have nR : nRt G = gOu G + gSt G := rfl
  refine WP_cnt (gOu G) (fun q st => st.1 = (q : Int) ∧ MRs S G B j q 0 st.2) (by unfold cFU; omega) ⟨rfl, h0⟩ (fun q st hq hI => ?_) (fun st hI => ?_)
  · obtain ⟨s1, s2⟩ := st
    obtain ⟨b1, b2, b3, b4, b5, b6, b7⟩ := hI
    dsimp only at b1 b2 b3 b4 b5 b6 b7
    subst b1
    have Mz := hM.cwm w wl hl3 b2
    have e6 := Mz.1.2.1.2.2.1
    rw [wo] at e6
    obtain ⟨v1, v2⟩ := rtS_ok w wl hr q (by omega)
    obtain ⟨u1, u2⟩ := rtS_ok w wl hr (q + 1) (by omega)
    have g7 := w.2.2.2.1 q hq
    have r7 := Mz.1.2.2.2.2.1 q hq
    have rt : rtL G q = swN G (G 7 q).toNat := if_pos hq
    have e7 : G 7 q = ((G 7 q).toNat : Int) := by omega
    have hp : isRt G (rtL G q / 2) := ⟨q, by omega, rfl⟩
    have z1 : (16 * (d : Int) + (q : Int)).toNat = 16 * d + q := by omega
    have z2 : (16 * (j : Int) + (q : Int)).toNat = 16 * j + q := by omega
    unfold mX23_map_L251
    dsimp only
    rw [rdI_e (by omega), Int.toNat_natCast, e6, w32_id (x := (q : Int)) (by omega), w32_id (x := (gOu G : Int)) (by omega), if_pos (by omega), hy, if_pos (by decide), bX_some, if_pos rfl, rdI_e (by omega), z1, r7, e7]
    refine WP_call (m_netOfRoot (s := rtS G B (q + 0)) w wl hr hd hl3 Mz (by omega) rt.symm hp ⟨b3, v1, b4, b5, ChW.refl⟩) (fun x35 hx => ?_)
    obtain ⟨y1, y2, y3, y4, y5, y6⟩ := hx
    have es : rtR G B (rtL G q) (rtS G B (q + 0)) = rtS G B (q + 1 + 0) := rfl
    rw [es] at y1 y2 y3 y4 y5
    rw [wrI_e (by omega), z2, y1]
    have lt : (rtS G B (q + 1)).1.length < 1000 ∨ True := .inr trivial
    have rn : -1000 ≤ rtN G (rtS G B (q + 1)) (rtL G q) ∧ rtN G (rtS G B (q + 1)) (rtL G q) < 6000 := by
      unfold rtN
      by_cases g : rtL G q < 2
      · rw [if_pos g]; omega
      · rw [if_neg g]
        have hx : WdG G (rtL G q / 2) := ⟨isRt_Wt hp, by omega⟩
        have xl := Wd_lt w hx
        have l4 : (rtS G B (q + 1)).1.length + missN G (rtS G B (q + 1)) = 3 * gNo G := y4
        have t2 : rtL G q % 2 < 2 := by omega
        have e13 : gFi G = 1 + gIn G + gSt G := rfl
        by_cases gg : hasK G (rtL G q / 2) (rtL G q % 2)
        · rw [inN_it t2 gg]; have := u1 (rtL G q / 2) (inK G (rtL G q / 2) (rtL G q % 2)); omega
        · rw [(inN_src hx gg).1]; omega
    refine WP_some.2 ⟨by show (q : Int) + 1 = _; omega, (b2.tr y6 (fun _ _ g => .inl g)).sI (.inr (.inl ⟨rfl, by omega, by omega⟩)), y2.mv2 (fun a i g1 g2 => hI_sI_a g1), y4, ?_, fun i hi => ?_, fun i hi => absurd hi (Nat.not_lt_zero _)⟩
    · unfold FLg at *
      dsimp only
      rw [hI_sI_a (by omega)]; exact y5
    · dsimp only
      by_cases g : i = q
      · subst g
        rw [gI_set]
        exact w32_id (by have rn' := rn; show _ ≤ rtN G (rtS G B (i + 1)) (rtL G i) ∧ rtN G (rtS G B (i + 1)) (rtL G i) < _; omega)
      · rw [hI_sI_i (by omega), y6.1 _ _ (fun q => by unfold PJb at q; omega)]; exact b6 i (by omega)
  · obtain ⟨s1, s2⟩ := st
    obtain ⟨b1, b2⟩ := hI
    dsimp only at b1 b2
    subst b1
    have Mz := hM.cwm w wl hl3 b2.1
    have e6 := Mz.1.2.1.2.2.1
    rw [wo] at e6
    unfold mX23_map_L251
    dsimp only
    rw [rdI_e (by omega), Int.toNat_natCast, e6, if_neg (by omega), bX_some, if_neg (by decide)]
    exact WP_some.2 b2
end MROOTS
