/-! the reference tries a cell at a cut -/
section MWAYS3
variable {S z : Sto} {G : Dsg} {B : Lib} {d n i l c m o tu x t u : Nat} {L : List (List Nat)} {s : WSt}
theorem m_tc24 (w : WFG G) (wl : WFL B) (hd : d < 6) (hl : l < 3) (h : CMw S G B d l L n) (hn : AndG G n) (hu : u < L.length) (h63 : L.length ≤ 63) (hc : c < liN B) (hm : (L.getD u []).length = bI B c) (hw : ∀ x ∈ L.getD u [], WdG G x ∧ x < n) (ho : o < nOrd (bI B c)) (hs : MWy S n s) (hb : SWb s) {T : Sto} :
    WP (lpF (mX23_tryCell_L24 (bI B c : Int) (c : Int) ((o : Int), T) (u : Int) (n : Int)) (0, S)) (fun z => MWy z n (wyT B (ndO G B (WW G B)) (fun c => tbT G c n) c (L.getD u []) o s (2 ^ bI B c)) ∧ SWb (wyT B (ndO G B (WW G B)) (fun c => tbT G c n) c (L.getD u []) o s (2 ^ bI B c)) ∧ ChW (PMn n) S z) := by
  have hno := no_le w
  have ln := wl.nums
  obtain ⟨r1, r2, r3, r4, r5, r6, r7, r8⟩ := bI_rng wl hc
  have p8 := pow_m8 r2
  have sm : aShl 1 (bI B c : Int) = ((2 ^ bI B c : Nat) : Int) := aShl1 (by omega)
  have ppos : 0 < 2 ^ bI B c := Nat.two_pow_pos _
  obtain ⟨tt, htt⟩ : ∃ tt, tt = tbT G (L.getD u []) n := ⟨_, rfl⟩
  have tl : tt < 256 := by rw [htt]; exact tbT_lt
  have per : per8 (bI B c) tt := by rw [htt, ← hm]; exact tbT_per (by omega)
  have xl : tt ^^^ 255 < 256 := Nat.xor_lt_two_pow (n := 8) tl (by omega)
  refine WP_cnt (2 ^ bI B c) (fun q st => st.1 = (q : Int) ∧ MWy st.2 n (wyT B (ndO G B (WW G B)) (fun c => tbT G c n) c (L.getD u []) o s q) ∧ SWb (wyT B (ndO G B (WW G B)) (fun c => tbT G c n) c (L.getD u []) o s q) ∧ ChW (PMn n) S st.2) (by unfold cFU; omega) ⟨rfl, hs, hb, ChW.refl⟩ (fun q st hq hI => ?_) (fun st hI => ?_)
  · obtain ⟨s1, s2⟩ := st
    obtain ⟨b1, b2, b3, b4⟩ := hI
    dsimp only at b1 b2 b3 b4
    subst b1
    obtain ⟨sq, hsq⟩ : ∃ sq, sq = wyT B (ndO G B (WW G B)) (fun c => tbT G c n) c (L.getD u []) o s q := ⟨_, rfl⟩
    rw [← hsq] at b2 b3
    have hz := h.cw w wl hl b4
    have ft := hz.2.2.2.2.1 u hu
    rw [← htt] at ft
    have ef := (hz.2.1.2.1.2 c hc).2.1
    rw [r4] at ef
    have zf : (12 * (l : Int) + (c : Int)).toNat = 12 * l + c := by omega
    have n6 := nOrd_le r2
    have bl := bitsN_lt 8 (plF B c (bI B c) o q)
    have c20 := fun v e => Nat.le_trans (costO_20 (tu := q) (l := nds (L.getD u []) (bI B c) o) w wl r8 (bI B c) v (by omega) e) (show 1000 + 6000000 * bI B c ≤ 20000000 by omega)
    have ll : (nds (L.getD u []) (bI B c) o).length ≤ 3 := by rw [nds_len]; exact r2
    have m0 := mtc_m0 (B := B) (c := c) (m := bI B c) (o := o) (tu := q) ⟨r1, r2⟩ ho tl per
    have m1 := mtc_m1 (B := B) (c := c) (m := bI B c) (o := o) (tu := q) ⟨r1, r2⟩ ho tl per
    have co := m_cellOver (B := B) (c := c) (m := bI B c) (o := o) (tu := q) ⟨r1, r2⟩ ho (by omega) r5 rfl
    have x0 : aXor (tt : Int) 255 = ((tt ^^^ 255 : Nat) : Int) := aXor_nat (a := tt) (b := 255) (by omega) (by omega)
    obtain ⟨F, hF⟩ : ∃ F, F = bitsN 8 (plF B c (bI B c) o q) := ⟨_, rfl⟩
    rw [← hF] at bl m0 m1 co
    have step : wyT B (ndO G B (WW G B)) (fun c => tbT G c n) c (L.getD u []) o s (q + 1) = styT B (ndO G B (WW G B)) (fun c => tbT G c n) c (L.getD u []) o sq q := by rw [hsq]; rfl
    have sb := styT_b (o := o) (tu := q) (tb := fun c => tbT G c n) (cut := L.getD u []) w wl hc b3
    obtain ⟨A0, hA0⟩ : ∃ A, A = cG (mtcW B c (bI B c) o q tt false) (tryO sq 0 (costO (bA B c) (ndO G B (WW G B)) (nds (L.getD u []) (bI B c) o) q (bI B c)) c q (nds (L.getD u []) (bI B c) o)) sq := ⟨_, rfl⟩
    have eA : styT B (ndO G B (WW G B)) (fun c => tbT G c n) c (L.getD u []) o sq q = cG (mtcW B c (bI B c) o q tt true) (tryO A0 1 (costO (bA B c) (ndO G B (WW G B)) (nds (L.getD u []) (bI B c) o) q (bI B c)) c q (nds (L.getD u []) (bI B c) o)) A0 := by rw [hA0, htt]; rfl
    unfold mX23_tryCell_L24
    dsimp only
    rw [sm, w32_id (x := (q : Int)) (by omega), w32_id (x := ((2 ^ bI B c : Nat) : Int)) (by omega), if_pos (by omega), hz.2.1.1, rdI_e (by omega), zf, ef, co, bX_some, rdI_e (by omega), Int.toNat_natCast, ft, w32_id (x := (F : Int)) (by omega), w32_id (x := (tt : Int)) (by omega)]
    refine WP_call (R := fun z => MWy z n A0 ∧ SWb A0 ∧ ChW (PMn n) s2 z) ?_ (fun z hz' => ?_)
    · by_cases g : mtcW B c (bI B c) o q tt false
      · have e : A0 = tryO sq 0 (costO (bA B c) (ndO G B (WW G B)) (nds (L.getD u []) (bI B c) o) q (bI B c)) c q (nds (L.getD u []) (bI B c) o) := by rw [hA0, cG_t g]
        have ff := m0.2 g
        rw [if_pos (by omega)]
        refine WP_call (m_tryWay (t := 0) w wl hd hl hz hn hu h63 hc hm hw ho (by omega) (by omega) b2 b3) (fun y hy => WP_some.2 ⟨by rw [e]; exact hy.1, by rw [e]; exact b3.try c20 ll, hy.2⟩)
      · have e : A0 = sq := by rw [hA0, cG_f g]
        have ff : ¬ F = tt := fun k => g (m0.1 k)
        rw [if_neg (by omega), e]
        exact WP_some.2 ⟨b2, b3, ChW.refl⟩
    · obtain ⟨z1, z2, z3⟩ := hz'
      have hz2 := hz.cw w wl hl z3
      have ft2 := hz2.2.2.2.2.1 u hu
      rw [← htt] at ft2
      rw [rdI_e (by omega), Int.toNat_natCast, ft2, x0, w32_id (x := ((tt ^^^ 255 : Nat) : Int)) (by omega)]
      refine WP_call (R := fun z' => MWy z' n (styT B (ndO G B (WW G B)) (fun c => tbT G c n) c (L.getD u []) o sq q) ∧ ChW (PMn n) z z') ?_ (fun z' hz'' => WP_some.2 ⟨by show (q : Int) + 1 = _; omega, by rw [step]; exact hz''.1, by rw [step]; exact sb, (b4.tr z3 (fun _ _ g => g)).tr hz''.2 (fun _ _ g => g)⟩)
      rw [eA]
      by_cases g : mtcW B c (bI B c) o q tt true
      · have ff := m1.2 g
        rw [if_pos (by omega), cG_t g]
        refine WP_call (m_tryWay (t := 1) w wl hd hl hz2 hn hu h63 hc hm hw ho (by omega) (by omega) z1 z2) (fun y hy => WP_some.2 hy)
      · have ff : ¬ F = tt ^^^ 255 := fun k => g (m1.1 k)
        rw [if_neg (by omega), cG_f g]
        exact WP_some.2 ⟨z1, ChW.refl⟩
  · obtain ⟨s1, s2⟩ := st
    obtain ⟨b1, b2, b3, b4⟩ := hI
    dsimp only at b1 b2 b3 b4
    subst b1
    unfold mX23_tryCell_L24
    dsimp only
    rw [sm, if_neg (by omega)]
    exact WP_some.2 ⟨b2, b3, b4⟩
theorem m_tryCell (w : WFG G) (wl : WFL B) (hd : d < 6) (hl : l < 3) (h : CMw S G B d l L n) (hn : AndG G n) (hu : u < L.length) (h63 : L.length ≤ 63) (hc : c < liN B) (hm : (L.getD u []).length = bI B c) (hw : ∀ x ∈ L.getD u [], WdG G x ∧ x < n) (hs : MWy S n s) (hb : SWb s) :
    WP (mX23_tryCell S (n : Int) (c : Int) (u : Int) (bI B c : Int)) (fun z => MWy z n (wyO B (ndO G B (WW G B)) (fun c => tbT G c n) c (L.getD u []) s (nOrd (bI B c))) ∧ SWb (wyO B (ndO G B (WW G B)) (fun c => tbT G c n) c (L.getD u []) s (nOrd (bI B c))) ∧ ChW (PMn n) S z) := by
  obtain ⟨r1, r2, r3, r4, r5, r6, r7, r8⟩ := bI_rng wl hc
  have n6 := nOrd_le r2
  have od : (if w32 (bI B c : Int) = 3 then 6 else (bI B c : Int)) = (nOrd (bI B c) : Int) := by
    rw [w32_id (by omega)]
    rcases (show bI B c = 1 ∨ bI B c = 2 ∨ bI B c = 3 by omega) with e | e | e <;> rw [e] <;> rfl
  unfold mX23_tryCell
  refine WP_call (R := fun z => MWy z n (wyO B (ndO G B (WW G B)) (fun c => tbT G c n) c (L.getD u []) s (nOrd (bI B c))) ∧ SWb (wyO B (ndO G B (WW G B)) (fun c => tbT G c n) c (L.getD u []) s (nOrd (bI B c))) ∧ ChW (PMn n) S z) ?_ (fun z hz => WP_some.2 hz)
  refine WP_cnt (nOrd (bI B c)) (fun q st => st.1 = (q : Int) ∧ MWy st.2 n (wyO B (ndO G B (WW G B)) (fun c => tbT G c n) c (L.getD u []) s q) ∧ SWb (wyO B (ndO G B (WW G B)) (fun c => tbT G c n) c (L.getD u []) s q) ∧ ChW (PMn n) S st.2) (by unfold cFU; omega) ⟨rfl, hs, hb, ChW.refl⟩ (fun q st hq hI => ?_) (fun st hI => ?_)
  · obtain ⟨s1, s2⟩ := st
    obtain ⟨b1, b2, b3, b4⟩ := hI
    dsimp only at b1 b2 b3 b4
    subst b1
    unfold mX23_tryCell_L3
    dsimp only
    rw [od, w32_id (by omega), w32_id (by omega), if_pos (by omega)]
    refine WP_call (m_tc24 w wl hd hl (h.cw w wl hl b4) hn hu h63 hc hm hw hq b2 b3) (fun y hy => ?_)
    exact WP_some.2 ⟨by show (q : Int) + 1 = _; omega, hy.1, hy.2.1, b4.tr hy.2.2 (fun _ _ g => g)⟩
  · obtain ⟨s1, s2⟩ := st
    obtain ⟨b1, b2, b3, b4⟩ := hI
    dsimp only at b1 b2 b3 b4
    subst b1
    unfold mX23_tryCell_L3
    dsimp only
    rw [od, if_neg (by omega)]
    exact WP_some.2 ⟨b2, b3, b4⟩
end MWAYS3
