/-! the reference tries a way -/
section MWAYS2
variable {S z : Sto} {G : Dsg} {B : Lib} {d n i l c m o tu x t u : Nat} {L : List (List Nat)} {s : WSt}
theorem m_tryWay (w : WFG G) (wl : WFL B) (hd : d < 6) (hl : l < 3) (h : CMw S G B d l L n) (hn : AndG G n) (hu : u < L.length) (h63 : L.length ≤ 63) (hc : c < liN B) (hm : (L.getD u []).length = bI B c) (hw : ∀ x ∈ L.getD u [], WdG G x ∧ x < n) (ho : o < nOrd (bI B c)) (htu : tu < 8) (ht : t < 2) (hs : MWy S n s) (hb : SWb s) :
    WP (mX23_tryWay S (n : Int) (t : Int) (c : Int) (u : Int) (o : Int) (tu : Int)) (fun z => MWy z n (tryO s t (costO (bA B c) (ndO G B (WW G B)) (nds (L.getD u []) (bI B c) o) tu (bI B c)) c tu (nds (L.getD u []) (bI B c) o)) ∧ ChW (PMn n) S z) := by
  have hno := no_le w
  have nn := hn.2.1
  have ln := wl.nums
  obtain ⟨c1, c2, c3, c4, c5, c6⟩ := id h
  obtain ⟨r1, r2, r3, r4, r5, r6, r7, r8⟩ := bI_rng wl hc
  have cost := m_tw20 w wl c1 hd c2 c3 c6 c4 hu h63 hc hm hw ho htu
  have c20 := fun v => costO_20 (tu := tu) (l := nds (L.getD u []) (bI B c) o) w wl r8 (bI B c) v (by omega)
  obtain ⟨ll', hl'⟩ : ∃ l, l = nds (L.getD u []) (bI B c) o := ⟨_, rfl⟩
  have ll : ll'.length = bI B c := by rw [hl']; exact nds_len
  rw [← hl'] at cost c20 ⊢
  generalize costO (bA B c) (ndO G B (WW G B)) ll' tu (bI B c) = v at *
  have z0 : (2 * (n : Int) + (t : Int)).toNat = 2 * n + t := by omega
  have w0 := (hs t ht).1
  have ea := (c2.2.1.2 c hc).2.2.1
  rw [r6] at ea
  have za : (12 * (l : Int) + (c : Int)).toNat = 12 * l + c := by omega
  have ib : ∀ e : Option Nat, (∀ u, e = some u → u ≤ 20000000) → (i2l (ecN 1000000000 e)).toInt = ecN 1000000000 e := fun e k => by
    rw [i2l_int]
    cases e with
    | none => rfl
    | some v => have := k v rfl; exact w32_id (by show _ ≤ (v : Int) ∧ (v : Int) < _; omega)
  have iw := ib (wCo (s t)) (fun u e => by
    cases k : s t with
    | none => rw [k] at e; cases e
    | some y => rw [k] at e; cases e; exact (hb t y k).1)
  unfold mX23_tryWay
  rw [c2.1, rdI_e (by omega), za, ea]
  refine WP_call cost (fun y8 hy8 => ?_)
  rw [rdI_e (by omega), z0, w0]
  have cmp := lCmp_ge (x := y8) rfl iw
  -- the case that it stays
  have stay : tryO s t v c tu ll' = s → ecN 1000000000 (wCo (s t)) ≤ y8.toInt → WP (if 0 ≤ w32 (lCmp y8 (i2l (ecN 1000000000 (wCo (s t))))) then some S else wrI 4096 S 2089 (2 * (n : Int) + (t : Int)) (l2i y8) fun S10 => wrI 4096 S10 2090 (2 * (n : Int) + (t : Int)) (c : Int) fun S11 => wrI 4096 S11 2092 (2 * (n : Int) + (t : Int)) (tu : Int) fun S12 => bX (lpF (mX23_tryWay_L131 (u : Int) (o : Int) (n : Int) (t : Int)) (0, S12)) fun y19 => some y19) (fun z => MWy z n (tryO s t v c tu ll') ∧ ChW (PMn n) S z) := fun e1 e2 => by
    rw [if_pos (cmp.2 e2), e1]
    exact WP_some.2 ⟨hs, ChW.refl⟩
  have change : ∀ u', v = some u' → tryO s t v c tu ll' = updN s t (some (u', c, tu, ll')) → ¬ ecN 1000000000 (wCo (s t)) ≤ y8.toInt → WP (if 0 ≤ w32 (lCmp y8 (i2l (ecN 1000000000 (wCo (s t))))) then some S else wrI 4096 S 2089 (2 * (n : Int) + (t : Int)) (l2i y8) fun S10 => wrI 4096 S10 2090 (2 * (n : Int) + (t : Int)) (c : Int) fun S11 => wrI 4096 S11 2092 (2 * (n : Int) + (t : Int)) (tu : Int) fun S12 => bX (lpF (mX23_tryWay_L131 (u : Int) (o : Int) (n : Int) (t : Int)) (0, S12)) fun y19 => some y19) (fun z => MWy z n (tryO s t v c tu ll') ∧ ChW (PMn n) S z) := fun u' ev e1 e2 => by
    have u20 := c20 u' ev
    have ey : y8.toInt = (u' : Int) := by rw [ev] at hy8; exact hy8
    have el : l2i y8 = (u' : Int) := l2i_int ey (by omega)
    rw [if_neg (fun g => e2 (cmp.1 g)), e1, el, wrI_e (by omega), z0, wrI_e (by omega), z0, wrI_e (by omega), z0]
    obtain ⟨Y, hY⟩ : ∃ Y, Y = sI (sI (sI S 2089 (2 * n + t) (u' : Int)) 2090 (2 * n + t) (c : Int)) 2092 (2 * n + t) (tu : Int) := ⟨_, rfl⟩
    rw [← hY]
    have cY : ChW (PMn n) S Y := by
      rw [hY]
      exact ((ChW.refl.sI (.inl ⟨.inl rfl, by omega⟩)).sI (.inl ⟨.inr (.inl rfl), by omega⟩)).sI (.inl ⟨.inr (.inr (.inl rfl)), by omega⟩)
    have y04 : ∀ j, gI Y 2089 j = if j = 2 * n + t then (u' : Int) else gI S 2089 j := fun j => by
      rw [hY, hI_sI_a (by omega), hI_sI_a (by omega)]
      by_cases g : j = 2 * n + t
      · rw [g, gI_set, if_pos rfl]; exact w32_id (by omega)
      · rw [hI_sI_i g, if_neg g]
    have y05 : ∀ j, gI Y 2090 j = if j = 2 * n + t then (c : Int) else gI S 2090 j := fun j => by
      rw [hY, hI_sI_a (by omega)]
      by_cases g : j = 2 * n + t
      · rw [g, gI_set, if_pos rfl]; exact w32_id (by omega)
      · rw [hI_sI_i g, if_neg g, hI_sI_a (by omega)]
    have y07 : ∀ j, gI Y 2092 j = if j = 2 * n + t then (tu : Int) else gI S 2092 j := fun j => by
      rw [hY]
      by_cases g : j = 2 * n + t
      · rw [g, gI_set, if_pos rfl]; exact w32_id (by omega)
      · rw [hI_sI_i g, if_neg g, hI_sI_a (by omega), hI_sI_a (by omega)]
    have yo : ∀ a i, a ≠ 2089 → a ≠ 2090 → a ≠ 2092 → gI Y a i = gI S a i := fun a i g1 g2 g3 => by rw [hY, hI_sI_a g3, hI_sI_a g2, hI_sI_a g1]
    refine WP_call (R := fun z => ChW (fun a j => a = 2091 ∧ 3 * (2 * n + t) ≤ j ∧ j < 3 * (2 * n + t) + 3) Y z ∧ ∀ i, i < bI B c → gI z 2091 (3 * (2 * n + t) + i) = ((ll'.getD i 0 : Nat) : Int)) ?_ (fun z hz => WP_some.2 ?_)
    · refine WP_cnt (bI B c) (fun i st => st.1 = (i : Int) ∧ ChW (fun a j => a = 2091 ∧ 3 * (2 * n + t) ≤ j ∧ j < 3 * (2 * n + t) + 3) Y st.2 ∧ ∀ i', i' < i → gI st.2 2091 (3 * (2 * n + t) + i') = ((ll'.getD i' 0 : Nat) : Int)) (by unfold cFU; omega) ⟨rfl, ChW.refl, fun i h => absurd h (Nat.not_lt_zero _)⟩ (fun i st hi hI => ?_) (fun st hI => ?_)
      · obtain ⟨s1, s2⟩ := st
        obtain ⟨b1, b2, b3⟩ := hI
        dsimp only at b1 b2 b3
        subst b1
        have sl := c4.2 u hu
        have s1' : gI S 2087 u = ((L.getD u []).length : Int) := sl.1
        have s2' : ∀ i, i < (L.getD u []).length → gI S 2088 (3 * u + i) = (((L.getD u []).getD i 0 : Nat) : Int) := sl.2
        have il := inpM_lt (m := bI B c) ⟨r1, r2⟩ ho hi
        have zc : (3 * (u : Int) + (inpM (bI B c) o i : Int)).toNat = 3 * u + inpM (bI B c) o i := by omega
        have zw : (3 * (2 * (n : Int) + (t : Int)) + (i : Int)).toNat = 3 * (2 * n + t) + i := by omega
        have e7 : gI s2 2087 u = (bI B c : Int) := by rw [b2.1 _ _ (by omega), yo _ _ (by omega) (by omega) (by omega), s1', hm]
        have cn : gI s2 2088 (3 * u + inpM (bI B c) o i) = (((L.getD u []).getD (inpM (bI B c) o i) 0 : Nat) : Int) := by
          rw [b2.1 _ _ (by omega), yo _ _ (by omega) (by omega) (by omega)]
          exact s2' _ (by rw [hm]; exact il)
        have li : ll'.getD i 0 = (L.getD u []).getD (inpM (bI B c) o i) 0 := by rw [hl']; exact nds_get hi
        have lx' := Wd_lt w (hw ((L.getD u []).getD (inpM (bI B c) o i) 0) (getD_mem (by rw [hm]; exact il))).1
        unfold mX23_tryWay_L131
        dsimp only
        rw [rdI_e (by omega), Int.toNat_natCast, e7, w32_id (by omega), w32_id (by omega), if_pos (by omega), rdI_e (by omega), Int.toNat_natCast, e7, m_inputAt ⟨r1, r2⟩ ho hi, bX_some, rdI_e (by omega), zc, cn, wrI_e (by omega), zw]
        refine WP_some.2 ⟨by show (i : Int) + 1 = _; omega, b2.sI ⟨rfl, by omega, by omega⟩, fun i' hi' => ?_⟩
        dsimp only
        by_cases g : i' = i
        · rw [g, gI_set, li, w32_id (by omega)]
        · rw [hI_sI_i (by omega)]; exact b3 i' (by omega)
      · obtain ⟨s1, s2⟩ := st
        obtain ⟨b1, b2, b3⟩ := hI
        dsimp only at b1 b2 b3
        subst b1
        have e7 : gI s2 2087 u = (bI B c : Int) := by
          have sl := (c4.2 u hu).1
          have s1' : gI S 2087 u = ((L.getD u []).length : Int) := sl
          rw [b2.1 _ _ (by omega), yo _ _ (by omega) (by omega) (by omega), s1', hm]
        unfold mX23_tryWay_L131
        dsimp only
        rw [rdI_e (by omega), Int.toNat_natCast, e7, if_neg (by omega)]
        exact WP_some.2 ⟨b2, b3⟩
    · obtain ⟨z1, z2⟩ := hz
      refine ⟨fun t' ht' => ?_, cY.tr z1 (fun a i g => .inr (by omega))⟩
      by_cases g : t' = t
      · subst g
        rw [updN_eq]
        refine ⟨?_, fun y hy => ?_⟩
        · rw [z1.1 _ _ (by omega), y04, if_pos rfl]; rfl
        · cases hy
          refine ⟨?_, ?_, fun i hi => ?_⟩
          · rw [z1.1 _ _ (by omega), y05, if_pos rfl]
          · rw [z1.1 _ _ (by omega), y07, if_pos rfl]
          · exact z2 i (by rw [← ll]; exact hi)
      · rw [updN_ne g]
        obtain ⟨f1, f2⟩ := hs t' ht'
        refine ⟨?_, fun y hy => ?_⟩
        · rw [z1.1 _ _ (by omega), y04, if_neg (by omega)]; exact f1
        · obtain ⟨f3, f4, f5⟩ := f2 y hy
          have l3 := (hb t' y hy).2
          refine ⟨?_, ?_, fun i hi => ?_⟩
          · rw [z1.1 _ _ (by omega), y05, if_neg (by omega)]; exact f3
          · rw [z1.1 _ _ (by omega), y07, if_neg (by omega)]; exact f4
          · rw [z1.1 _ _ (by omega), yo _ _ (by omega) (by omega) (by omega)]; exact f5 i hi
  cases hv : v with
  | none =>
    rw [hv] at stay hy8
    refine stay rfl ?_
    have hy8' : 1000000000 ≤ y8.toInt ∧ y8.toInt ≤ 9000000000 := hy8
    cases hst : s t with
    | none => exact hy8'.1
    | some y => have := (hb t y hst).1; show (y.1 : Int) ≤ _; omega
  | some u' =>
    rw [hv] at stay change c20 hy8
    have u20 := c20 u' rfl
    have ey : y8.toInt = (u' : Int) := hy8
    cases hst : s t with
    | none =>
      rw [hst] at stay change
      refine change u' rfl (by unfold tryO; rw [hst]) ?_
      rw [ey]; show ¬ (1000000000 : Int) ≤ (u' : Int); omega
    | some y =>
      rw [hst] at stay change
      by_cases g : u' < y.1
      · refine change u' rfl (by unfold tryO; rw [hst]; exact if_pos g) ?_
        rw [ey]; show ¬ (y.1 : Int) ≤ (u' : Int); omega
      · refine stay (by unfold tryO; rw [hst]; exact if_neg g) ?_
        rw [ey]; show (y.1 : Int) ≤ (u' : Int); omega
end MWAYS2
