/-! the class tries ways: the loops -/
def SWb (s : WSt) : Prop := ∀ t y, s t = some y → y.1 ≤ 20000000 ∧ y.2.2.2.length ≤ 3
theorem not8k : ∀ m : Fin 4, 1 ≤ m.val → ∀ t : Fin 256, aAnd (aXor (t.val : Int) (-1)) (((2 ^ 2 ^ m.val : Nat) : Int) - 1) = (((t.val ^^^ 255) % 2 ^ 2 ^ m.val : Nat) : Int) := by decide +kernel
section KWAYS3
variable {S z : Sto} {G : Dsg} {B : Lib} {d n i k c m o tu x t kc : Nat} {K : List (List Nat)} {s : WSt}
theorem SWb.try {v : Option Nat} {l : List Nat} (h : SWb s) (hv : ∀ x, v = some x → x ≤ 20000000) (hl : l.length ≤ 3) : SWb (tryO s t v c tu l) := fun t' y e => tryO_all (Q := fun y => y.1 ≤ 20000000 ∧ y.2.2.2.length ≤ 3) h (fun x e => ⟨hv x e, hl⟩) t' y e
theorem k_way (w : WFG G) (wl : WFL B) (hd : d < 6) (hk : k < 4) (h : CXw S G B d k K n) (hn : AndG G n) (hkc : kc < K.length) (h63 : K.length ≤ 63) (hc : c < liN B) (hm : (K.getD kc []).length = bI B c) (hw : ∀ x ∈ K.getD kc [], WdG G x ∧ x < n) (ho : o < nOrd (bI B c)) (htu : tu < 8) (ht : t < 2) (hs : KWy S n s) (hb : SWb s) :
    WP (mX12_way S (n : Int) (t : Int) (c : Int) (kc : Int) (ordK (bI B c) o : Int) (tu : Int)) (fun z => KWy z n (tryO s t (costO (bA B c) (ndO G B (WW G B)) (nds (K.getD kc []) (bI B c) o) tu (bI B c)) c tu (nds (K.getD kc []) (bI B c) o)) ∧ ChW (PWn n) S z) := by
  have hno := no_le w
  have nn := hn.2.1
  have ln := wl.nums
  obtain ⟨c1, c2, c3, c4, c5, c6, c7, c8⟩ := id h
  obtain ⟨r1, r2, r3, r4, r5, r6, r7, r8⟩ := bI_rng wl hc
  have cost := k_cost w wl c1 hd c2 hk c3 c8 c5 hkc h63 hc hm hw ho htu
  have c20 := fun v => costO_20 (tu := tu) (l := nds (K.getD kc []) (bI B c) o) w wl r8 (bI B c) v (by omega)
  obtain ⟨l, hl⟩ : ∃ l, l = nds (K.getD kc []) (bI B c) o := ⟨_, rfl⟩
  have ll : l.length = bI B c := by rw [hl]; exact nds_len
  rw [← hl] at cost c20 ⊢
  generalize costO (bA B c) (ndO G B (WW G B)) l tu (bI B c) = v at *
  have z0 : (2 * (n : Int) + (t : Int)).toNat = 2 * n + t := by omega
  have w0 := (hs t ht).1
  have rg := gI_rng S 204 (2 * n + t)
  unfold mX12_way
  rw [cost, bX_some, rdI_e (by omega), z0, w32_gI]
  have ecr : ∀ v : Option Nat, (∀ u, v = some u → u ≤ 20000000) → w32 (ecN 100000000 v) = ecN 100000000 v := fun v e => by
    cases v with
    | none => rfl
    | some u => have := e u rfl; exact w32_id (by show _ ≤ (u : Int) ∧ (u : Int) < _; omega)
  rw [ecr v (fun u e => by have := c20 u e; omega)]
  -- the case that it stays
  have stay : tryO s t v c tu l = s → gI S 204 (2 * n + t) ≤ ecN 100000000 v → WP (if gI S 204 (2 * n + t) ≤ ecN 100000000 v then some S else wrI 2026 S 204 (2 * (n : Int) + (t : Int)) (ecN 100000000 v) fun S3 => wrI 2026 S3 205 (2 * (n : Int) + (t : Int)) (c : Int) fun S4 => wrI 2026 S4 207 (2 * (n : Int) + (t : Int)) (tu : Int) fun S5 => bX (lpF (mX12_way_L62 (c : Int) (ordK (bI B c) o : Int) (kc : Int) (n : Int) (t : Int)) (0, S5)) fun y12 => some y12) (fun z => KWy z n (tryO s t v c tu l) ∧ ChW (PWn n) S z) := fun e1 e2 => by
    rw [if_pos e2, e1]
    exact WP_some.2 ⟨hs, ChW.refl⟩
  have change : ∀ u, v = some u → tryO s t v c tu l = updN s t (some (u, c, tu, l)) → ¬ gI S 204 (2 * n + t) ≤ ecN 100000000 v → WP (if gI S 204 (2 * n + t) ≤ ecN 100000000 v then some S else wrI 2026 S 204 (2 * (n : Int) + (t : Int)) (ecN 100000000 v) fun S3 => wrI 2026 S3 205 (2 * (n : Int) + (t : Int)) (c : Int) fun S4 => wrI 2026 S4 207 (2 * (n : Int) + (t : Int)) (tu : Int) fun S5 => bX (lpF (mX12_way_L62 (c : Int) (ordK (bI B c) o : Int) (kc : Int) (n : Int) (t : Int)) (0, S5)) fun y12 => some y12) (fun z => KWy z n (tryO s t v c tu l) ∧ ChW (PWn n) S z) := fun u ev e1 e2 => by
    have u20 := c20 u ev
    rw [if_neg e2, e1, wrI_e (by omega), z0, wrI_e (by omega), z0, wrI_e (by omega), z0]
    obtain ⟨Y, hY⟩ : ∃ Y, Y = sI (sI (sI S 204 (2 * n + t) (ecN 100000000 v)) 205 (2 * n + t) (c : Int)) 207 (2 * n + t) (tu : Int) := ⟨_, rfl⟩
    rw [← hY]
    have cY : ChW (PWn n) S Y := by
      rw [hY]
      exact ((ChW.refl.sI (.inl ⟨.inl rfl, by omega⟩)).sI (.inl ⟨.inr (.inl rfl), by omega⟩)).sI (.inl ⟨.inr (.inr rfl), by omega⟩)
    have y04 : ∀ j, gI Y 204 j = if j = 2 * n + t then (u : Int) else gI S 204 j := fun j => by
      rw [hY, hI_sI_a (by omega), hI_sI_a (by omega)]
      by_cases g : j = 2 * n + t
      · rw [g, gI_set, if_pos rfl, ev]
        show w32 (u : Int) = (u : Int)
        exact w32_id (by omega)
      · rw [hI_sI_i g, if_neg g]
    have y05 : ∀ j, gI Y 205 j = if j = 2 * n + t then (c : Int) else gI S 205 j := fun j => by
      rw [hY, hI_sI_a (by omega)]
      by_cases g : j = 2 * n + t
      · rw [g, gI_set, if_pos rfl]; exact w32_id (by omega)
      · rw [hI_sI_i g, if_neg g, hI_sI_a (by omega)]
    have y07 : ∀ j, gI Y 207 j = if j = 2 * n + t then (tu : Int) else gI S 207 j := fun j => by
      rw [hY]
      by_cases g : j = 2 * n + t
      · rw [g, gI_set, if_pos rfl]; exact w32_id (by omega)
      · rw [hI_sI_i g, if_neg g, hI_sI_a (by omega), hI_sI_a (by omega)]
    have yo : ∀ a i, a ≠ 204 → a ≠ 205 → a ≠ 207 → gI Y a i = gI S a i := fun a i g1 g2 g3 => by rw [hY, hI_sI_a g3, hI_sI_a g2, hI_sI_a g1]
    refine WP_call (R := fun z => ChW (fun a j => a = 206 ∧ 3 * (2 * n + t) ≤ j ∧ j < 3 * (2 * n + t) + 3) Y z ∧ ∀ i, i < bI B c → gI z 206 (3 * (2 * n + t) + i) = ((l.getD i 0 : Nat) : Int)) ?_ (fun z hz => WP_some.2 ?_)
    · refine WP_cnt (bI B c) (fun i st => st.1 = (i : Int) ∧ ChW (fun a j => a = 206 ∧ 3 * (2 * n + t) ≤ j ∧ j < 3 * (2 * n + t) + 3) Y st.2 ∧ ∀ i', i' < i → gI st.2 206 (3 * (2 * n + t) + i') = ((l.getD i' 0 : Nat) : Int)) (by unfold cFU; omega) ⟨rfl, ChW.refl, fun i h => absurd h (Nat.not_lt_zero _)⟩ (fun i st hi hI => ?_) (fun st hI => ?_)
      · obtain ⟨s1, s2⟩ := st
        obtain ⟨b1, b2, b3⟩ := hI
        dsimp only at b1 b2 b3
        subst b1
        have hLz : KLx s2 k B := (c2.cw cY (fun a i q => by unfold PWn at q; omega)).cw b2 (fun a i q => by omega)
        have e1' := (hLz.2.1.2 c hc).1
        rw [r3] at e1'
        obtain ⟨o1, o2, o3⟩ := ord_k ⟨r1, r2⟩ ho hi
        have il := inpM_lt (m := bI B c) ⟨r1, r2⟩ ho hi
        have z3 : 3 * (ordK (bI B c) o : Int) + (i : Int) = ((3 * ordK (bI B c) o + i : Nat) : Int) := by omega
        have zc : (3 * (kc : Int) + (inpM (bI B c) o i : Int)).toNat = 3 * kc + inpM (bI B c) o i := by omega
        have zw : (3 * (2 * (n : Int) + (t : Int)) + (i : Int)).toNat = 3 * (2 * n + t) + i := by omega
        have cn : gI s2 209 (3 * kc + inpM (bI B c) o i) = (((K.getD kc []).getD (inpM (bI B c) o i) 0 : Nat) : Int) := by
          rw [b2.1 _ _ (by omega), yo _ _ (by omega) (by omega) (by omega)]
          exact (c5.2 kc hkc).2 _ (by rw [hm]; exact il)
        have li : l.getD i 0 = (K.getD kc []).getD (inpM (bI B c) o i) 0 := by rw [hl]; exact nds_get hi
        have lx' := Wd_lt w (hw ((K.getD kc []).getD (inpM (bI B c) o i) 0) (getD_mem (by rw [hm]; exact il))).1
        unfold mX12_way_L62
        dsimp only
        rw [hLz.1, gk_own hk, rdI_e (by omega), Int.toNat_natCast, e1', w32_id (by omega), w32_id (by omega), if_pos (by omega), z3, rdO (by omega), o3, rdI_e (by omega), zc, cn, wrI_e (by omega), zw]
        refine WP_some.2 ⟨by show (i : Int) + 1 = _; omega, b2.sI ⟨rfl, by omega, by omega⟩, fun i' hi' => ?_⟩
        dsimp only
        by_cases g : i' = i
        · rw [g, gI_set, li, w32_id (by omega)]
        · rw [hI_sI_i (by omega)]; exact b3 i' (by omega)
      · obtain ⟨s1, s2⟩ := st
        obtain ⟨b1, b2, b3⟩ := hI
        dsimp only at b1 b2 b3
        subst b1
        have hLz : KLx s2 k B := (c2.cw cY (fun a i q => by unfold PWn at q; omega)).cw b2 (fun a i q => by omega)
        have e1' := (hLz.2.1.2 c hc).1
        rw [r3] at e1'
        unfold mX12_way_L62
        dsimp only
        rw [hLz.1, gk_own hk, rdI_e (by omega), Int.toNat_natCast, e1', if_neg (by omega)]
        exact WP_some.2 ⟨b2, b3⟩
    · obtain ⟨z1, z2⟩ := hz
      refine ⟨fun t' ht' => ?_, cY.tr z1 (fun a i g => .inr (by omega))⟩
      by_cases g : t' = t
      · subst g
        rw [updN_eq]
        refine ⟨?_, fun y hy => ?_⟩
        · rw [z1.1 _ _ (by omega), y04, if_pos rfl]; rfl
        · cases hy
          refine ⟨?_, ?_, fun i hi => ?_⟩
          · rw [z1.1 _ _ (by omega), y05, if_pos rfl]
          · rw [z1.1 _ _ (by omega), y07, if_pos rfl]
          · exact z2 i (by rw [← ll]; exact hi)
      · rw [updN_ne g]
        obtain ⟨f1, f2⟩ := hs t' ht'
        refine ⟨?_, fun y hy => ?_⟩
        · rw [z1.1 _ _ (by omega), y04, if_neg (by omega)]; exact f1
        · obtain ⟨f3, f4, f5⟩ := f2 y hy
          have l3 := (hb t' y hy).2
          refine ⟨?_, ?_, fun i hi => ?_⟩
          · rw [z1.1 _ _ (by omega), y05, if_neg (by omega)]; exact f3
          · rw [z1.1 _ _ (by omega), y07, if_neg (by omega)]; exact f4
          · rw [z1.1 _ _ (by omega), yo _ _ (by omega) (by omega) (by omega)]; exact f5 i hi
  cases hv : v with
  | none =>
    rw [hv] at stay
    refine stay rfl ?_
    rw [w0]
    cases hst : s t with
    | none => exact Int.le_refl _
    | some y => have := (hb t y hst).1; show (y.1 : Int) ≤ 100000000; omega
  | some u =>
    rw [hv] at stay change c20
    have u20 := c20 u rfl
    cases hst : s t with
    | none =>
      rw [hst] at w0
      refine change u rfl (by unfold tryO; rw [hst]) ?_
      rw [w0]; show ¬ (100000000 : Int) ≤ (u : Int); omega
    | some y =>
      rw [hst] at w0
      have ey : gI S 204 (2 * n + t) = (y.1 : Int) := w0
      by_cases g : u < y.1
      · refine change u rfl (by unfold tryO; rw [hst]; exact if_pos g) ?_
        rw [ey]; show ¬ (y.1 : Int) ≤ (u : Int); omega
      · refine stay (by unfold tryO; rw [hst]; exact if_neg g) ?_
        rw [ey]; show (y.1 : Int) ≤ (u : Int); omega
end KWAYS3
