/-! the class tries all ways of a node -/
section KWAYS4
variable {S z : Sto} {G : Dsg} {B : Lib} {d n i k c m o tu x t kc : Nat} {K : List (List Nat)} {s : WSt}
theorem styT_b (w : WFG G) (wl : WFL B) {tb : List Nat → Nat} {cut : List Nat} (hc : c < liN B) (hb : SWb s) : SWb (styT B (ndO G B (WW G B)) tb c cut o s tu) := by
  obtain ⟨r1, r2, r3, r4, r5, r6, r7, r8⟩ := bI_rng wl hc
  have c20 := fun v e => Nat.le_trans (costO_20 (tu := tu) (l := nds cut (bI B c) o) w wl r8 (bI B c) v (by omega) e) (show 1000 + 6000000 * bI B c ≤ 20000000 by omega)
  have ll : (nds cut (bI B c) o).length ≤ 3 := by rw [nds_len]; exact r2
  unfold styT
  by_cases a : mtcW B c (bI B c) o tu (tb cut) false <;> by_cases b : mtcW B c (bI B c) o tu (tb cut) true
  · rw [cG_t a, cG_t b]; exact (hb.try c20 ll).try c20 ll
  · rw [cG_t a, cG_f b]; exact hb.try c20 ll
  · rw [cG_f a, cG_t b]; exact hb.try c20 ll
  · rw [cG_f a, cG_f b]; exact hb
/-- the turns -/
theorem k_wo137 (w : WFG G) (wl : WFL B) (hd : d < 6) (hk : k < 4) (h : CXw S G B d k K n) (hn : AndG G n) (hkc : kc < K.length) (h63 : K.length ≤ 63) (hc : c < liN B) (hm : (K.getD kc []).length = bI B c) (hw : ∀ x ∈ K.getD kc [], WdG G x ∧ x < n) (ho : o < nOrd (bI B c)) (hs : KWy S n s) (hb : SWb s) {T U : Sto} :
    WP (lpF (mX12_waysOf_L137 (bI B c : Int) ((c : Int), T) ((o : Int), U) (kc : Int) (n : Int)) (0, S)) (fun z => KWy z n (wyT B (ndO G B (WW G B)) (fun c => tbT G c n) c (K.getD kc []) o s (2 ^ bI B c)) ∧ SWb (wyT B (ndO G B (WW G B)) (fun c => tbT G c n) c (K.getD kc []) o s (2 ^ bI B c)) ∧ ChW (PWn n) S z) := by
  have hno := no_le w
  have ln := wl.nums
  obtain ⟨r1, r2, r3, r4, r5, r6, r7, r8⟩ := bI_rng wl hc
  have p8 := pow_m8 r2
  have sm : aShl 1 (bI B c : Int) = ((2 ^ bI B c : Nat) : Int) := aShl1 (by omega)
  have sm2 : aShl 1 ((2 ^ bI B c : Nat) : Int) = ((2 ^ 2 ^ bI B c : Nat) : Int) := aShl1 (by omega)
  have p256 : 2 ^ 2 ^ bI B c ≤ 256 := Nat.pow_le_pow_right (n := 2) (by omega) p8
  have ppos : 0 < 2 ^ 2 ^ bI B c := Nat.two_pow_pos _
  obtain ⟨tt, htt⟩ : ∃ tt, tt = tbT G (K.getD kc []) n := ⟨_, rfl⟩
  have tl : tt < 256 := by rw [htt]; exact tbT_lt
  refine WP_cnt (2 ^ bI B c) (fun q st => st.1 = (q : Int) ∧ KWy st.2 n (wyT B (ndO G B (WW G B)) (fun c => tbT G c n) c (K.getD kc []) o s q) ∧ SWb (wyT B (ndO G B (WW G B)) (fun c => tbT G c n) c (K.getD kc []) o s q) ∧ ChW (PWn n) S st.2) (by unfold cFU; omega) ⟨rfl, hs, hb, ChW.refl⟩ (fun q st hq hI => ?_) (fun st hI => ?_)
  · obtain ⟨s1, s2⟩ := st
    obtain ⟨b1, b2, b3, b4⟩ := hI
    dsimp only at b1 b2 b3 b4
    subst b1
    obtain ⟨sq, hsq⟩ : ∃ sq, sq = wyT B (ndO G B (WW G B)) (fun c => tbT G c n) c (K.getD kc []) o s q := ⟨_, rfl⟩
    rw [← hsq] at b2 b3
    have hz := h.cw w wl b4
    have fp := hz.2.2.2.1 c o q hc ho hq
    have ft := hz.2.2.2.2.2.2.1 kc hkc
    rw [← htt] at ft
    have n6 := nOrd_le r2
    have zp : (48 * (c : Int) + 8 * (o : Int) + (q : Int)).toNat = 48 * c + 8 * o + q := by omega
    have bl := bitsN_lt (2 ^ bI B c) (plF B c (bI B c) o q)
    have c20 := fun v e => Nat.le_trans (costO_20 (tu := q) (l := nds (K.getD kc []) (bI B c) o) w wl r8 (bI B c) v (by omega) e) (show 1000 + 6000000 * bI B c ≤ 20000000 by omega)
    have ll : (nds (K.getD kc []) (bI B c) o).length ≤ 3 := by rw [nds_len]; exact r2
    have m0 := mtc_k0 (B := B) (c := c) (m := bI B c) (o := o) (tu := q) tl
    have m1 := mtc_k1 (B := B) (c := c) (m := bI B c) (o := o) (tu := q) (told := tt) r2
    have and0 : aAnd (tt : Int) (((2 ^ 2 ^ bI B c : Nat) : Int) - 1) = ((tt % 2 ^ 2 ^ bI B c : Nat) : Int) := by
      rw [aAnd_mask (tt : Int) (k := 2 ^ bI B c) (by omega)]; rfl
    have and1 := not8k ⟨bI B c, by omega⟩ r1 ⟨tt, tl⟩
    dsimp only at and1
    have md : tt % 2 ^ 2 ^ bI B c < 256 := Nat.lt_of_lt_of_le (Nat.mod_lt _ ppos) p256
    have md1 : (tt ^^^ 255) % 2 ^ 2 ^ bI B c < 256 := Nat.lt_of_lt_of_le (Nat.mod_lt _ ppos) p256
    obtain ⟨F, hF⟩ : ∃ F, F = bitsN (2 ^ bI B c) (plF B c (bI B c) o q) := ⟨_, rfl⟩
    rw [← hF] at fp bl m0 m1
    have step : wyT B (ndO G B (WW G B)) (fun c => tbT G c n) c (K.getD kc []) o s (q + 1) = styT B (ndO G B (WW G B)) (fun c => tbT G c n) c (K.getD kc []) o sq q := by rw [hsq]; rfl
    have sb := styT_b (o := o) (tu := q) (tb := fun c => tbT G c n) (cut := K.getD kc []) w wl hc b3
    obtain ⟨A0, hA0⟩ : ∃ A, A = cG (mtcW B c (bI B c) o q tt false) (tryO sq 0 (costO (bA B c) (ndO G B (WW G B)) (nds (K.getD kc []) (bI B c) o) q (bI B c)) c q (nds (K.getD kc []) (bI B c) o)) sq := ⟨_, rfl⟩
    have eA : styT B (ndO G B (WW G B)) (fun c => tbT G c n) c (K.getD kc []) o sq q = cG (mtcW B c (bI B c) o q tt true) (tryO A0 1 (costO (bA B c) (ndO G B (WW G B)) (nds (K.getD kc []) (bI B c) o) q (bI B c)) c q (nds (K.getD kc []) (bI B c) o)) A0 := by rw [hA0, htt]; rfl
    unfold mX12_waysOf_L137
    dsimp only
    rw [sm, sm2, w32_id (x := (q : Int)) (by omega), w32_id (x := ((2 ^ bI B c : Nat) : Int)) (by omega), if_pos (by omega), rdI_e (by omega), zp, fp, rdI_e (by omega), Int.toNat_natCast, ft, and0, w32_id (x := (F : Int)) (by omega), w32_id (x := ((tt % 2 ^ 2 ^ bI B c : Nat) : Int)) (by omega)]
    refine WP_call (R := fun z => KWy z n A0 ∧ SWb A0 ∧ ChW (PWn n) s2 z) ?_ (fun z hz' => ?_)
    · by_cases g : mtcW B c (bI B c) o q tt false
      · have e : A0 = tryO sq 0 (costO (bA B c) (ndO G B (WW G B)) (nds (K.getD kc []) (bI B c) o) q (bI B c)) c q (nds (K.getD kc []) (bI B c) o) := by rw [hA0, cG_t g]
        have ff := m0.2 g
        rw [if_pos (by omega), k_orderOf ⟨r1, r2⟩ (by omega), bX_some]
        refine WP_call (k_way (t := 0) w wl hd hk hz hn hkc h63 hc hm hw ho (by omega) (by omega) b2 b3) (fun y hy => WP_some.2 ⟨by rw [e]; exact hy.1, by rw [e]; exact b3.try c20 ll, hy.2⟩)
      · have e : A0 = sq := by rw [hA0, cG_f g]
        have ff : ¬ F = tt % 2 ^ 2 ^ bI B c := fun k => g (m0.1 k)
        rw [if_neg (by omega), e]
        exact WP_some.2 ⟨b2, b3, ChW.refl⟩
    · obtain ⟨z1, z2, z3⟩ := hz'
      have hz2 := hz.cw w wl z3
      have ft2 := hz2.2.2.2.2.2.2.1 kc hkc
      rw [← htt] at ft2
      rw [rdI_e (by omega), Int.toNat_natCast, ft2, and1, w32_id (x := (((tt ^^^ 255) % 2 ^ 2 ^ bI B c : Nat) : Int)) (by omega)]
      refine WP_call (R := fun z' => KWy z' n (styT B (ndO G B (WW G B)) (fun c => tbT G c n) c (K.getD kc []) o sq q) ∧ ChW (PWn n) z z') ?_ (fun z' hz'' => WP_some.2 ⟨by show (q : Int) + 1 = _; omega, by rw [step]; exact hz''.1, by rw [step]; exact sb, (b4.tr z3 (fun _ _ g => g)).tr hz''.2 (fun _ _ g => g)⟩)
      rw [eA]
      by_cases g : mtcW B c (bI B c) o q tt true
      · have ff := m1.2 g
        rw [if_pos (by omega), k_orderOf ⟨r1, r2⟩ (by omega), bX_some, cG_t g]
        refine WP_call (k_way (t := 1) w wl hd hk hz2 hn hkc h63 hc hm hw ho (by omega) (by omega) z1 z2) (fun y hy => WP_some.2 hy)
      · have ff : ¬ F = (tt ^^^ 255) % 2 ^ 2 ^ bI B c := fun k => g (m1.1 k)
        rw [if_neg (by omega), cG_f g]
        exact WP_some.2 ⟨z1, ChW.refl⟩
  · obtain ⟨s1, s2⟩ := st
    obtain ⟨b1, b2, b3, b4⟩ := hI
    dsimp only at b1 b2 b3 b4
    subst b1
    unfold mX12_waysOf_L137
    dsimp only
    rw [sm, if_neg (by omega)]
    exact WP_some.2 ⟨b2, b3, b4⟩
/-- the orders -/
theorem k_wo125 (w : WFG G) (wl : WFL B) (hd : d < 6) (hk : k < 4) (h : CXw S G B d k K n) (hn : AndG G n) (hkc : kc < K.length) (h63 : K.length ≤ 63) (hc : c < liN B) (hm : (K.getD kc []).length = bI B c) (hw : ∀ x ∈ K.getD kc [], WdG G x ∧ x < n) (hs : KWy S n s) (hb : SWb s) {T : Sto} :
    WP (lpF (mX12_waysOf_L125 (bI B c : Int) ((c : Int), T) (kc : Int) (n : Int)) (0, S)) (fun z => KWy z n (wyO B (ndO G B (WW G B)) (fun c => tbT G c n) c (K.getD kc []) s (nOrd (bI B c))) ∧ SWb (wyO B (ndO G B (WW G B)) (fun c => tbT G c n) c (K.getD kc []) s (nOrd (bI B c))) ∧ ChW (PWn n) S z) := by
  obtain ⟨r1, r2, r3, r4, r5, r6, r7, r8⟩ := bI_rng wl hc
  have n6 := nOrd_le r2
  refine WP_cnt (nOrd (bI B c)) (fun q st => st.1 = (q : Int) ∧ KWy st.2 n (wyO B (ndO G B (WW G B)) (fun c => tbT G c n) c (K.getD kc []) s q) ∧ SWb (wyO B (ndO G B (WW G B)) (fun c => tbT G c n) c (K.getD kc []) s q) ∧ ChW (PWn n) S st.2) (by unfold cFU; omega) ⟨rfl, hs, hb, ChW.refl⟩ (fun q st hq hI => ?_) (fun st hI => ?_)
  · obtain ⟨s1, s2⟩ := st
    obtain ⟨b1, b2, b3, b4⟩ := hI
    dsimp only at b1 b2 b3 b4
    subst b1
    unfold mX12_waysOf_L125
    dsimp only
    rw [k_orders ⟨r1, r2⟩, bX_some, w32_id (by omega), w32_id (by omega), if_pos (by omega)]
    refine WP_call (k_wo137 w wl hd hk (h.cw w wl b4) hn hkc h63 hc hm hw hq b2 b3) (fun y hy => ?_)
    exact WP_some.2 ⟨by show (q : Int) + 1 = _; omega, hy.1, hy.2.1, b4.tr hy.2.2 (fun _ _ g => g)⟩
  · obtain ⟨s1, s2⟩ := st
    obtain ⟨b1, b2, b3, b4⟩ := hI
    dsimp only at b1 b2 b3 b4
    subst b1
    unfold mX12_waysOf_L125
    dsimp only
    rw [k_orders ⟨r1, r2⟩, bX_some, if_neg (by omega)]
    exact WP_some.2 ⟨b2, b3, b4⟩
/-- the cuts in their order -/
theorem k_wo90 (w : WFG G) (wl : WFL B) (hd : d < 6) (hk : k < 4) (h : CXw S G B d k K n) (hn : AndG G n) (h63 : K.length ≤ 63) (hK3 : ∀ c ∈ K, c.length ≤ 3 ∧ ∀ x ∈ c, WdG G x ∧ x < n) (hc : c < liN B) (hs : KWy S n s) (hb : SWb s) {T : Sto} :
    WP (lpF (mX12_waysOf_L90 (bI B c : Int) ((c : Int), T) (n : Int)) (0, S)) (fun z => KWy z n (wyU B (ndO G B (WW G B)) (stC K K.length) (fun c => tbT G c n) c s K.length) ∧ SWb (wyU B (ndO G B (WW G B)) (stC K K.length) (fun c => tbT G c n) c s K.length) ∧ ChW (PWn n) S z) := by
  obtain ⟨r1, r2, r3, r4, r5, r6, r7, r8⟩ := bI_rng wl hc
  refine WP_cnt K.length (fun q st => st.1 = (q : Int) ∧ KWy st.2 n (wyU B (ndO G B (WW G B)) (stC K K.length) (fun c => tbT G c n) c s q) ∧ SWb (wyU B (ndO G B (WW G B)) (stC K K.length) (fun c => tbT G c n) c s q) ∧ ChW (PWn n) S st.2) (by unfold cFU; omega) ⟨rfl, hs, hb, ChW.refl⟩ (fun q st hq hI => ?_) (fun st hI => ?_)
  · obtain ⟨s1, s2⟩ := st
    obtain ⟨b1, b2, b3, b4⟩ := hI
    dsimp only at b1 b2 b3 b4
    subst b1
    have hz := h.cw w wl b4
    obtain ⟨kc, k1, k2, k3⟩ := hz.2.2.2.2.2.1 q hq
    have f8 := (hz.2.2.2.2.1.2 kc k1).1
    have step : wyU B (ndO G B (WW G B)) (stC K K.length) (fun c => tbT G c n) c s (q + 1) = if (K.getD kc []).length = bI B c then wyO B (ndO G B (WW G B)) (fun c => tbT G c n) c (K.getD kc []) (wyU B (ndO G B (WW G B)) (stC K K.length) (fun c => tbT G c n) c s q) (nOrd (bI B c)) else wyU B (ndO G B (WW G B)) (stC K K.length) (fun c => tbT G c n) c s q := by rw [k3]; rfl
    obtain ⟨k31, k32⟩ := hK3 _ (getD_mem (d := []) k1)
    unfold mX12_waysOf_L90
    dsimp only
    rw [hz.2.2.2.2.1.1, w32_id (x := (q : Int)) (by omega), w32_id (x := (K.length : Int)) (by omega), if_pos (by omega), rdI_e (by omega), Int.toNat_natCast, k2, rdI_e (by omega), Int.toNat_natCast, f8, w32_id (by omega), w32_id (by omega)]
    by_cases g : (K.getD kc []).length = bI B c
    · rw [if_neg (by omega)]
      rw [if_pos g] at step
      refine WP_call (R := fun z => KWy z n (wyU B (ndO G B (WW G B)) (stC K K.length) (fun c => tbT G c n) c s (q + 1)) ∧ SWb (wyU B (ndO G B (WW G B)) (stC K K.length) (fun c => tbT G c n) c s (q + 1)) ∧ ChW (PWn n) s2 z) (WP_call (k_wo125 w wl hd hk hz hn k1 h63 hc g k32 b2 b3) (fun y hy => WP_some.2 (by rw [step]; exact hy))) (fun y hy => ?_)
      exact WP_some.2 ⟨by show (q : Int) + 1 = _; omega, hy.1, hy.2.1, b4.tr hy.2.2 (fun _ _ g => g)⟩
    · rw [if_pos (by omega), bX_some]
      rw [if_neg g] at step
      exact WP_some.2 ⟨by show (q : Int) + 1 = _; omega, by rw [step]; exact b2, by rw [step]; exact b3, b4⟩
  · obtain ⟨s1, s2⟩ := st
    obtain ⟨b1, b2, b3, b4⟩ := hI
    dsimp only at b1 b2 b3 b4
    subst b1
    have hz := h.cw w wl b4
    unfold mX12_waysOf_L90
    dsimp only
    rw [hz.2.2.2.2.1.1, if_neg (by omega)]
    exact WP_some.2 ⟨b2, b3, b4⟩
/-- the cells -/
theorem k_wo57 (w : WFG G) (wl : WFL B) (hd : d < 6) (hk : k < 4) (h : CXw S G B d k K n) (hn : AndG G n) (h63 : K.length ≤ 63) (hK3 : ∀ c ∈ K, c.length ≤ 3 ∧ ∀ x ∈ c, WdG G x ∧ x < n) (hs : KWy S n (fun _ => none)) :
    WP (lpF (mX12_waysOf_L57 (n : Int)) (0, S)) (fun z => KWy z n (wyC B (ndO G B (WW G B)) (stC K K.length) (fun c => tbT G c n) (liN B)) ∧ ChW (PWn n) S z) := by
  have ln := wl.nums
  have sl : (stC K K.length).length = K.length := stC_len K.length
  refine WP_cnt (liN B) (fun q st => st.1 = (q : Int) ∧ KWy st.2 n (wyC B (ndO G B (WW G B)) (stC K K.length) (fun c => tbT G c n) q) ∧ SWb (wyC B (ndO G B (WW G B)) (stC K K.length) (fun c => tbT G c n) q) ∧ ChW (PWn n) S st.2) (by unfold cFU; omega) ⟨rfl, hs, (fun t y e => by cases e), ChW.refl⟩ (fun q st hq hI => ?_) (fun st hI => ?_)
  · obtain ⟨s1, s2⟩ := st
    obtain ⟨b1, b2, b3, b4⟩ := hI
    dsimp only at b1 b2 b3 b4
    subst b1
    have hz := h.cw w wl b4
    have e0 := hz.2.1.2.1.1
    rw [wl.n] at e0
    have e1 := (hz.2.1.2.1.2 q hq).1
    rw [(bI_rng wl hq).2.2.1] at e1
    have step : wyC B (ndO G B (WW G B)) (stC K K.length) (fun c => tbT G c n) (q + 1) = wyU B (ndO G B (WW G B)) (stC K K.length) (fun c => tbT G c n) q (wyC B (ndO G B (WW G B)) (stC K K.length) (fun c => tbT G c n) q) K.length := by
      show wyU _ _ _ _ _ _ (stC K K.length).length = _
      rw [sl]
    unfold mX12_waysOf_L57
    dsimp only
    rw [hz.2.1.1, gk_own hk, e0, w32_id (by omega), w32_id (by omega), if_pos (by omega), gk_own hk, rdI_e (by omega), Int.toNat_natCast, e1]
    refine WP_call (k_wo90 w wl hd hk hz hn h63 hK3 hq b2 b3) (fun y hy => ?_)
    exact WP_some.2 ⟨by show (q : Int) + 1 = _; omega, by rw [step]; exact hy.1, by rw [step]; exact hy.2.1, b4.tr hy.2.2 (fun _ _ g => g)⟩
  · obtain ⟨s1, s2⟩ := st
    obtain ⟨b1, b2, b3, b4⟩ := hI
    dsimp only at b1 b2 b3 b4
    subst b1
    have hz := h.cw w wl b4
    have e0 := hz.2.1.2.1.1
    rw [wl.n] at e0
    unfold mX12_waysOf_L57
    dsimp only
    rw [hz.2.1.1, gk_own hk, e0, if_neg (by omega)]
    exact WP_some.2 ⟨b2, b4⟩
end KWAYS4
