/-! the reference's jobs: next states -/
section MROOTS2
variable {S z z' : Sto} {G : Dsg} {B : Lib} {d n i k l m o tu x t b f p j : Nat} {s s1 T : MkS}
theorem m_mp304 (w : WFG G) (wl : WFL B) (hr : rOK G B) (hd : d < 6) (hl3 : l < 3) (hj : j < 4) (hM : MKg S G B d l) {y25 : Int × Sto} (hy : y25.1 = 1) (h0 : MRs S G B j (gOu G) 0 z) : WP (lpF (mX23_map_L304 (d : Int) y25 (j : Int)) (0, z)) (MRs S G B j (gOu G) (gSt G)) := by
  have hno := no_le w
  have ng := w.nums
  have ws := w.s
  have wn := w.n
  have nR : nRt G = gOu G + gSt G := rfl
  refine WP_cnt (gSt G) (fun q st => st.1 = (q : Int) ∧ MRs S G B j (gOu G) q st.2) (by unfold cFU; omega) ⟨rfl, h0⟩ (fun q st hq hI => ?_) (fun st hI => ?_)
  · obtain ⟨s1, s2⟩ := st
    obtain ⟨b1, b2, b3, b4, b5, b6, b7⟩ := hI
    dsimp only at b1 b2 b3 b4 b5 b6 b7
    subst b1
    have Mz := hM.cwm w wl hl3 b2
    have e6 := Mz.1.2.1.2.1
    rw [ws] at e6
    obtain ⟨v1, v2⟩ := rtS_ok w wl hr (gOu G + q) (by omega)
    obtain ⟨u1, u2⟩ := rtS_ok w wl hr (gOu G + q + 1) (by omega)
    have g7 := w.2.2.2.2.1 q hq
    have r7 := Mz.1.2.2.2.2.2.1 q hq
    have rt : rtL G (gOu G + q) = swN G (G 8 q).toNat := by
      unfold rtL
      rw [if_neg (by omega), Nat.add_sub_cancel_left]
    have e7 : G 8 q = ((G 8 q).toNat : Int) := by omega
    have hp : isRt G (rtL G (gOu G + q) / 2) := ⟨gOu G + q, by omega, rfl⟩
    have z1 : (6 * (d : Int) + (q : Int)).toNat = 6 * d + q := by omega
    have z2 : (6 * (j : Int) + (q : Int)).toNat = 6 * j + q := by omega
    unfold mX23_map_L304
    dsimp only
    rw [rdI_e (by omega), Int.toNat_natCast, e6, w32_id (x := (q : Int)) (by omega), w32_id (x := (gSt G : Int)) (by omega), if_pos (by omega), hy, if_pos (by decide), bX_some, if_pos rfl, rdI_e (by omega), z1, r7, e7]
    refine WP_call (m_netOfRoot (s := rtS G B (gOu G + q)) w wl hr hd hl3 Mz (by omega) rt.symm hp ⟨b3, v1, b4, b5, ChW.refl⟩) (fun x35 hx => ?_)
    obtain ⟨y1, y2, y3, y4, y5, y6⟩ := hx
    have es : rtR G B (rtL G (gOu G + q)) (rtS G B (gOu G + q)) = rtS G B (gOu G + q + 1) := rfl
    rw [es] at y1 y2 y3 y4 y5
    rw [wrI_e (by omega), z2, y1]
    have rn : -1000 ≤ rtN G (rtS G B (gOu G + q + 1)) (rtL G (gOu G + q)) ∧ rtN G (rtS G B (gOu G + q + 1)) (rtL G (gOu G + q)) < 6000 := by
      unfold rtN
      by_cases g : rtL G (gOu G + q) < 2
      · rw [if_pos g]; omega
      · rw [if_neg g]
        have hx : WdG G (rtL G (gOu G + q) / 2) := ⟨isRt_Wt hp, by omega⟩
        have xl := Wd_lt w hx
        have t2 : rtL G (gOu G + q) % 2 < 2 := by omega
        have e13 : gFi G = 1 + gIn G + gSt G := rfl
        by_cases gg : hasK G (rtL G (gOu G + q) / 2) (rtL G (gOu G + q) % 2)
        · rw [inN_it t2 gg]; have := u1 (rtL G (gOu G + q) / 2) (inK G (rtL G (gOu G + q) / 2) (rtL G (gOu G + q) % 2)); omega
        · rw [(inN_src hx gg).1]; omega
    refine WP_some.2 ⟨by show (q : Int) + 1 = _; omega, (b2.tr y6 (fun _ _ g => .inl g)).sI (.inr (.inr ⟨rfl, by omega, by omega⟩)), y2.mv2 (fun a i g1 g2 => hI_sI_a g2), y4, ?_, fun i hi => ?_, fun i hi => ?_⟩
    · unfold FLg at *
      dsimp only
      rw [hI_sI_a (by omega)]; exact y5
    · dsimp only
      rw [hI_sI_a (by omega), y6.1 _ _ (fun q => by unfold PJb at q; omega)]; exact b6 i hi
    · dsimp only
      by_cases g : i = q
      · subst g
        rw [gI_set]
        exact w32_id (by have rn' := rn; show _ ≤ rtN G (rtS G B (gOu G + i + 1)) (rtL G (gOu G + i)) ∧ rtN G (rtS G B (gOu G + i + 1)) (rtL G (gOu G + i)) < _; omega)
      · rw [hI_sI_i (by omega), y6.1 _ _ (fun q => by unfold PJb at q; omega)]; exact b7 i (by omega)
  · obtain ⟨s1, s2⟩ := st
    obtain ⟨b1, b2⟩ := hI
    dsimp only at b1 b2
    subst b1
    have Mz := hM.cwm w wl hl3 b2.1
    have e6 := Mz.1.2.1.2.1
    rw [ws] at e6
    unfold mX23_map_L304
    dsimp only
    rw [rdI_e (by omega), Int.toNat_natCast, e6, if_neg (by omega), bX_some, if_neg (by decide)]
    exact WP_some.2 b2
end MROOTS2
