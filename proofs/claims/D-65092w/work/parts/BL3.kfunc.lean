/-! the class tells what a node is over a cut -/
def PFn (a i : Nat) : Prop := (a = 198 ∧ i = 20) ∨ (212 ≤ a ∧ a ≤ 214)
theorem not8 : ∀ t : Fin 256, aAnd (aXor (t.val : Int) (-1)) 255 = ((t.val ^^^ 255 : Nat) : Int) := by decide +kernel
theorem pat_c {i : Nat} (h : i < 3) : ([170, 204, 240] : List Int).getD i 0 = (pat8 i : Int) := by
  rcases (show i = 0 ∨ i = 1 ∨ i = 2 by omega) with rfl | rfl | rfl <;> rfl
def nM : Nat := 1013
theorem nM_e : nM = 1013 := rfl
def FnI (z : Sto) (G : Dsg) (c : List Nat) (n : Nat) (s : Int) (h : Nat) (p : Nat → Nat) : Prop :=
  gI z 198 20 = s ∧ (∀ i, i < h → gI z 214 i = (p i : Int)) ∧ (∀ i, i < h → Cb G c (p i) ∧ ¬ p i ∈ c ∧ gI z 213 (p i) ≠ s ∧ p i + i ≤ n) ∧ (0 < h → p 0 = n) ∧ (h = 0 → gI z 213 n = s) ∧
  (∀ x, x < 1013 → gI z 213 x = s → gI z 212 x = (tbT G c x : Int)) ∧ (∀ x ∈ c, gI z 213 x = s) ∧ (∀ x, x < 1013 → gI z 213 x ≤ s) ∧ ∀ i j, i < j → j < h → p j < p i
theorem fn_fin' {V B m h c : Nat} (h1 : V + B + (c - h) ≤ m) (hB : 2 ≤ B) (h2 : h ≠ 0) (h3 : h ≤ c) : V + (c - (h - 1)) ≤ m - 1 := by omega
theorem fn_fin {U m h : Nat} (h1 : U * 2000 + 2000 + (1013 - h) ≤ m) (h2 : h ≠ 0) (h3 : h ≤ 1013) : U * 2000 + (1013 - (h - 1)) ≤ m - 1 := fn_fin' h1 (by decide) h2 h3
section KFUNC
variable {S z : Sto} {G : Dsg} {d n i k : Nat} {c : List Nat} {K : List (List Nat)} {s0 : Int}
theorem k_literal {l t : Nat} (hl : l < 2026) (h : gI S 212 (l / 2) = (t : Int)) (ht : t < 256) : mX12_literal S (l : Int) = some (xr8 t (l % 2) : Int) := by
  unfold mX12_literal
  rw [aAnd1_n, aShr1_n (by omega), w32_id (by omega)]
  unfold xr8
  by_cases q : l % 2 = 1
  · have e := not8 ⟨t, ht⟩
    rw [if_pos (by omega), if_pos q, rdI_e (by omega), Int.toNat_natCast, h, bX_some]
    exact congrArg some e
  · rw [if_neg (by omega), if_neg q, rdI_e (by omega), Int.toNat_natCast, h, bX_some]
theorem k_fn12 (hK : KcD S K) (hk : k < K.length) (h63 : K.length ≤ 63) (hc : (K.getD k []).length ≤ 3) (hn : (K.getD k []).Nodup) (hb : ∀ x ∈ K.getD k [], x < 1013) : WP (lpF (mX12_function_L12 (k : Int)) (0, S)) (fun z => ChW (fun a _ => a = 212 ∨ a = 213) S z ∧ (∀ x ∈ K.getD k [], gI z 212 x = (tbT G (K.getD k []) x : Int) ∧ gI z 213 x = gI S 198 20) ∧ ∀ x, ¬ x ∈ K.getD k [] → gI z 213 x = gI S 213 x) := by
  obtain ⟨k1, k2⟩ := hK.2 k hk
  have sr := gI_rng S 198 20
  generalize K.getD k [] = c at *
  refine WP_cnt c.length (fun j s => s.1 = (j : Int) ∧ ChW (fun a _ => a = 212 ∨ a = 213) S s.2 ∧ (∀ i, i < j → gI s.2 212 (c.getD i 0) = (tbT G c (c.getD i 0) : Int) ∧ gI s.2 213 (c.getD i 0) = gI S 198 20) ∧ ∀ x, (∀ i, i < j → c.getD i 0 ≠ x) → gI s.2 213 x = gI S 213 x) (by unfold cFU; omega) ⟨rfl, ChW.refl, fun i h => absurd h (Nat.not_lt_zero _), fun x _ => rfl⟩ (fun j s hj hI => ?_) (fun s hI => ?_)
  · obtain ⟨s1, s2⟩ := s
    obtain ⟨b1, b2, b3, b4⟩ := hI
    dsimp only at b1 b2 b3 b4
    subst b1
    have zt : (3 * (k : Int) + (j : Int)).toNat = 3 * k + j := by omega
    have f1 : gI s2 208 k = (c.length : Int) := (b2.1 _ _ (by omega)).trans k1
    have f2 : gI s2 209 (3 * k + j) = ((c.getD j 0 : Nat) : Int) := (b2.1 _ _ (by omega)).trans (k2 j hj)
    have f3 : gI s2 198 20 = gI S 198 20 := b2.1 _ _ (by omega)
    have cj := getD_mem (d := 0) hj
    have cb := hb _ cj
    have r3 : 0 ≤ (j : Int) ∧ (j : Int) < (([170, 204, 240] : List Int).length : Int) ∧ (([170, 204, 240] : List Int).length : Int) ≤ 2147483648 := by
      have e : ([170, 204, 240] : List Int).length = 3 := rfl
      rw [e]; omega
    unfold mX12_function_L12
    dsimp only
    rw [rdI_e (by omega), Int.toNat_natCast, f1, w32_id (by omega), w32_id (by omega), if_pos (by omega), rdI_e (by omega), zt, f2, rdC_e r3, Int.toNat_natCast, pat_c (by omega), wrI_e (by omega), Int.toNat_natCast, rdI_e (by omega), zt, hI_sI_a (by omega), f2, hI_sI_a (by omega), f3, wrI_e (by omega), Int.toNat_natCast]
    have pl := @pat8_lt j
    refine WP_some.2 ⟨by show (j : Int) + 1 = _; omega, (b2.sI (.inl rfl)).sI (.inr rfl), fun i hi => ?_, fun x hx => ?_⟩
    · dsimp only
      by_cases e : i = j
      · rw [e, hI_sI_a (by omega), gI_set, gI_set, tbT_in cj, plc_get c hn j hj, w32_id (by omega), w32_id sr]; exact ⟨rfl, rfl⟩
      · have ne : c.getD i 0 ≠ c.getD j 0 := fun g => e (by
          rw [List.getD_eq_getElem?_getD, List.getD_eq_getElem?_getD, List.getElem?_eq_getElem (show i < c.length by omega), List.getElem?_eq_getElem hj] at g
          exact (List.getElem_inj hn).1 g)
        rw [hI_sI_a (by omega), hI_sI_i ne, hI_sI_i ne, hI_sI_a (by omega)]; exact b3 i (by omega)
    · dsimp only
      rw [hI_sI_i (fun e => hx j (by omega) e.symm), hI_sI_a (by omega)]; exact b4 x (fun i hi => hx i (by omega))
  · obtain ⟨s1, s2⟩ := s
    obtain ⟨b1, b2, b3, b4⟩ := hI
    dsimp only at b1 b2 b3 b4
    subst b1
    have f1 : gI s2 208 k = (c.length : Int) := (b2.1 _ _ (by omega)).trans k1
    unfold mX12_function_L12
    dsimp only
    rw [rdI_e (by omega), Int.toNat_natCast, f1, if_neg (by omega)]
    refine WP_some.2 ⟨b2, fun x hx => ?_, fun x hx => b4 x (fun i hi e => hx (by rw [← e]; exact getD_mem hi))⟩
    obtain ⟨i, i1, i2⟩ := mem_getD 0 hx
    rw [← i2]; exact b3 i i1
theorem k_fn79 (w : WFG G) (hs : SdX S G 199 200 (gFi G)) {p : Nat → Nat} (hn : n < 1013) (h0 : FnI S G c n s0 1 p) (hs0 : 0 < s0 ∧ s0 < 2000000000) : WP (lpF mX12_function_L79 (1, S)) (fun z => ChW (fun a _ => 212 ≤ a ∧ a ≤ 214) S z ∧ gI z 213 n = s0 ∧ gI z 212 n = (tbT G c n : Int) ∧ gI z 198 20 = s0 ∧ ∀ x, x < 1013 → gI z 213 x ≤ s0) := by
  have hno := no_le w
  refine WP_lpM (fun s m => ∃ (h : Nat) (p : Nat → Nat), s.1 = (h : Int) ∧ h ≤ 1013 ∧ FnI s.2 G c n s0 h p ∧ ChW (fun a _ => 212 ≤ a ∧ a ≤ 214) S s.2 ∧ smN (fun x => bo (gI s.2 213 x ≠ s0)) nM * 2000 + (1013 - h) ≤ m) (fun s m hI => ?_) (m := 2028000) ⟨1, p, rfl, by omega, h0, ChW.refl, by have := smN_le (f := fun x => bo (gI S 213 x ≠ s0)) (n := nM) (b := 1) (fun _ _ => bo_le); have := nM_e; dsimp only; omega⟩ (by unfold cFU; omega)
  obtain ⟨s1, s2⟩ := s
  obtain ⟨h, p, b1, b2, ⟨a1, a2, a3, a4, a5, a6, a7, a8, a9⟩, b4, b5⟩ := hI
  dsimp only at b1 a1 a2 b4 b5
  subst b1
  unfold mX12_function_L79
  dsimp only
  rw [w32_id (x := (h : Int)) (by omega)]
  by_cases q : h = 0
  · rw [if_neg (by omega)]
    have e := a5 q
    exact WP_some.2 ⟨b4, e, a6 n hn e, a1, a8⟩
  · obtain ⟨cb, nc, ns, pn⟩ := a3 (h - 1) (by omega)
    obtain ⟨x, hx⟩ : ∃ x, x = p (h - 1) := ⟨_, rfl⟩
    have e1 : (h : Int) - 1 = ((h - 1 : Nat) : Int) := by omega
    have tp := a2 (h - 1) (by omega)
    rw [← hx] at cb nc ns pn tp
    obtain ⟨ax, ca, cbb⟩ := cb
    have ab := aN_lt w ax.1 ax.2.1
    have sd := hs x ax.1 ax
    have g1 : gI s2 199 x = (lA G x : Int) := (b4.1 _ _ (by omega)).trans sd.1
    have g2 : gI s2 200 x = (lB G x : Int) := (b4.1 _ _ (by omega)).trans sd.2
    have ea : lA G x / 2 = aN' G x := rfl
    have eb : lB G x / 2 = bN' G x := rfl
    have r13 := gI_rng s2 213 x
    have rs : w32 s0 = s0 := w32_id (by omega)
    have xl : x < 1013 := by have := ax.2.1; omega
    rw [if_pos (by omega), e1, rdI_e (by omega), Int.toNat_natCast, tp, rdI_e (by omega), Int.toNat_natCast, g1, rdI_e (by omega), Int.toNat_natCast, g2, rdI_e (by omega), Int.toNat_natCast, w32_gI, a1, rs, if_neg ns, aShr1_n (by omega), aShr1_n (by omega), ea, eb, rdI_e (by omega), Int.toNat_natCast, w32_gI]
    -- a side goes on the stack
    have push : ∀ y, y < x → Cv G c y → gI s2 213 y ≠ s0 → WP (some (Sum.inl ((h : Int) + 1, sI s2 214 h (y : Int))) : Option ((Int × Sto) ⊕ Sto)) (WE (fun s' => ∃ m', m' < m ∧ ∃ (h : Nat) (p : Nat → Nat), s'.1 = (h : Int) ∧ h ≤ 1013 ∧ FnI s'.2 G c n s0 h p ∧ ChW (fun a _ => 212 ≤ a ∧ a ≤ 214) S s'.2 ∧ smN (fun x => bo (gI s'.2 213 x ≠ s0)) nM * 2000 + (1013 - h) ≤ m') (fun z => ChW (fun a _ => 212 ≤ a ∧ a ≤ 214) S z ∧ gI z 213 n = s0 ∧ gI z 212 n = (tbT G c n : Int) ∧ gI z 198 20 = s0 ∧ ∀ x, x < 1013 → gI z 213 x ≤ s0)) := fun y yx cy ny => by
      have ync : ¬ y ∈ c := fun g => ny (a7 y g)
      have cby := ((Cv_iff w).1 cy).resolve_left ync
      have o : ∀ a i, a ≠ 214 → gI (sI s2 214 h (y : Int)) a i = gI s2 a i := fun a i g => hI_sI_a g
      refine WP_some.2 ⟨m - 1, by omega, h + 1, updN p h y, by show (h : Int) + 1 = _; omega, by omega, ⟨(o _ _ (by omega)).trans a1, fun i hi => ?_, fun i hi => ?_, fun _ => ?_, fun e => absurd e (Nat.succ_ne_zero _), fun t ht => by rw [o _ _ (by omega), o _ _ (by omega)]; exact a6 t ht, fun t ht => (o _ _ (by omega)).trans (a7 t ht), fun t ht => by rw [o _ _ (by omega)]; exact a8 t ht, fun i j hij hj => ?_⟩, b4.sI ⟨by omega, by omega⟩, ?_⟩
      · by_cases e : i = h
        · rw [e, gI_set, updN_eq, w32_id (by omega)]
        · rw [hI_sI_i e, updN_ne e]; exact a2 i (by omega)
      · rw [o _ _ (by omega)]
        by_cases e : i = h
        · rw [e, updN_eq]; exact ⟨cby, ync, ny, by omega⟩
        · rw [updN_ne e]; exact a3 i (by omega)
      · rw [updN_ne (by omega)]; exact a4 (by omega)
      · rw [updN_ne (show i ≠ h by omega)]
        by_cases e : j = h
        · rw [e, updN_eq]
          by_cases e2 : i = h - 1
          · rw [e2, ← hx]; exact yx
          · have := a9 i (h - 1) (by omega) (by omega); omega
        · rw [updN_ne e]; exact a9 i j hij (by omega)
      · have : (fun x => bo (gI (sI s2 214 h (y : Int)) 213 x ≠ s0)) = fun x => bo (gI s2 213 x ≠ s0) := funext fun t => by rw [o _ _ (by omega)]
        dsimp only
        rw [this]; omega
    by_cases qa : gI s2 213 (aN' G x) = s0
    · rw [if_neg (fun g => g qa), rdI_e (by omega), Int.toNat_natCast, w32_gI]
      by_cases qb : gI s2 213 (bN' G x) = s0
      · have ta := a6 _ (by omega) qa
        have tb := a6 _ (by omega) qb
        have la := k_literal (l := lA G x) (S := s2) (by omega) (by rw [ea]; exact ta) tbT_lt
        have lb := k_literal (l := lB G x) (S := s2) (by omega) (by rw [eb]; exact tb) tbT_lt
        have xa := xr8_lt (b := lA G x % 2) (tbT_lt (G := G) (c := c) (x := aN' G x))
        have xb := xr8_lt (b := lB G x % 2) (tbT_lt (G := G) (c := c) (x := bN' G x))
        have tv := tbT_and w nc ax
        have tl := tbT_lt (G := G) (c := c) (x := x)
        rw [if_neg (fun g => g qb), rdI_e (by omega), Int.toNat_natCast, g1, la, bX_some, rdI_e (by omega), Int.toNat_natCast, g2, lb, bX_some, aAnd_nat (by omega) (by omega), ← tv, wrI_e (by omega), Int.toNat_natCast, wrI_e (by omega), Int.toNat_natCast, hI_sI_a (by omega), a1, bX_some]
        obtain ⟨Z, hZ⟩ : ∃ Z, Z = sI (sI s2 212 x (tbT G c x : Int)) 213 x s0 := ⟨_, rfl⟩
        rw [← hZ]
        have o : ∀ a i, a ≠ 212 → a ≠ 213 → gI Z a i = gI s2 a i := fun a i g g' => by rw [hZ, hI_sI_a g', hI_sI_a g]
        have z12 : ∀ t, gI Z 212 t = if t = x then (tbT G c x : Int) else gI s2 212 t := fun t => by
          rw [hZ, hI_sI_a (by omega)]
          by_cases e : t = x
          · rw [e, gI_set, if_pos rfl, w32_id (by omega)]
          · rw [hI_sI_i e, if_neg e]
        have z13 : ∀ t, gI Z 213 t = if t = x then s0 else gI s2 213 t := fun t => by
          rw [hZ]
          by_cases e : t = x
          · rw [e, gI_set, if_pos rfl, rs]
          · rw [hI_sI_i e, if_neg e, hI_sI_a (by omega)]
        have cnt : smN (fun t => bo (gI s2 213 t ≠ s0)) nM = smN (fun t => bo (gI Z 213 t ≠ s0)) nM + 1 := smN_up (f := fun t => bo (gI Z 213 t ≠ s0)) (g := fun t => bo (gI s2 213 t ≠ s0)) (show x < nM from xl) (by show bo (gI s2 213 x ≠ s0) = bo (gI Z 213 x ≠ s0) + 1; rw [bo_t ns, z13, if_pos rfl, bo_f (fun g => g rfl)]) (fun t _ e => by show bo (gI s2 213 t ≠ s0) = bo (gI Z 213 t ≠ s0); rw [z13, if_neg e])
        refine WP_some.2 ⟨m - 1, by omega, h - 1, p, by show (h : Int) + -1 = _; omega, by omega, ⟨(o _ _ (by omega) (by omega)).trans a1, fun i hi => (o _ _ (by omega) (by omega)).trans (a2 i (by omega)), fun i hi => ?_, fun g => a4 (by omega), fun e => ?_, fun t ht g => ?_, fun t ht => ?_, fun t ht => ?_, fun i j hij hj => a9 i j hij (by omega)⟩, ?_, ?_⟩
        · obtain ⟨c1, c2, c3, c4⟩ := a3 i (by omega)
          refine ⟨c1, c2, ?_, c4⟩
          rw [z13]
          by_cases e : p i = x
          · have := a9 i (h - 1) (by omega) (by omega)
            omega
          · rw [if_neg e]; exact c3
        · rw [z13]
          by_cases e' : n = x
          · rw [if_pos e']
          · exact absurd (by have := a4 (by omega); rw [hx, show h - 1 = 0 by omega]; exact this.symm) e'
        · rw [z13] at g
          rw [z12]
          by_cases e : t = x
          · rw [if_pos e, e]
          · rw [if_neg e] at g ⊢; exact a6 t ht g
        · rw [z13]
          by_cases e : t = x
          · rw [if_pos e]
          · rw [if_neg e]; exact a7 t ht
        · rw [z13]
          by_cases e : t = x
          · rw [if_pos e]; exact Int.le_refl _
          · rw [if_neg e]; exact a8 t ht
        · rw [hZ]; exact (b4.sI ⟨by omega, by omega⟩).sI ⟨by omega, by omega⟩
        · show smN (fun t => bo (gI Z 213 t ≠ s0)) nM * 2000 + (1013 - (h - 1)) ≤ m - 1
          exact fn_fin (by have b6 := b5; rw [cnt, Nat.add_mul, Nat.one_mul] at b6; exact b6) q b2
      · rw [if_pos qb, wrI_e (by omega), Int.toNat_natCast, bX_some]
        exact push _ ab.2 cbb qb
    · rw [if_pos qa, wrI_e (by omega), Int.toNat_natCast, bX_some]
      exact push _ ab.1 ca qa
theorem k_function (w : WFG G) (hn : AndG G n) (hK : KcD S K) (hk : k < K.length) (k63 : K.length ≤ 63) (o2 : SS (K.getD k [])) (o4 : (K.getD k []).length ≤ 3) (o5 : ∀ x ∈ K.getD k [], WdG G x) (cb : Cb G (K.getD k []) n) (lt : ∀ x ∈ K.getD k [], x < n) (hs : SdX S G 199 200 (gFi G)) (hst : 0 ≤ gI S 198 20 ∧ gI S 198 20 < 1000000000) (hsm : ∀ m, m < 1013 → gI S 213 m ≤ gI S 198 20) :
    WP (mX12_function S (n : Int) (k : Int)) (fun y => y.1 = (tbT G (K.getD k []) n : Int) ∧ ChW PFn S y.2 ∧ gI y.2 198 20 = gI S 198 20 + 1 ∧ ∀ m, m < 1013 → gI y.2 213 m ≤ gI S 198 20 + 1) := by
  have hno := no_le w
  have nn := hn.2.1
  unfold mX12_function
  rw [wf_eq]
  obtain ⟨Y, hY⟩ : ∃ Y, Y = sI S 198 20 (gI S 198 20 + 1) := ⟨_, rfl⟩
  rw [← hY]
  have yo : ∀ a i, a ≠ 198 → gI Y a i = gI S a i := fun a i g => by rw [hY, hI_sI_a g]
  have y20 : gI Y 198 20 = gI S 198 20 + 1 := by rw [hY, gI_set, w32_id (by omega)]
  have y16 : gI Y 198 16 = gI S 198 16 := by rw [hY, hI_sI_i (by omega)]
  have kY : KcD Y K := hK.mv y16 (fun a i l1 l2 => yo _ _ (by omega))
  have cY : ChW PFn S Y := by rw [hY]; exact ChW.refl.sI (.inl ⟨rfl, rfl⟩)
  refine WP_call (k_fn12 (G := G) kY hk k63 o4 (SS_nodup o2) (fun x hx => Wd_lt w (o5 x hx))) (fun z hz => ?_)
  obtain ⟨z1, z2, z3⟩ := hz
  generalize K.getD k [] = c at *
  have nc : ¬ n ∈ c := fun g => by have := lt n g; omega
  rw [wrI_e (by omega), show (0 : Int).toNat = 0 from rfl]
  obtain ⟨T, hT⟩ : ∃ T, T = sI z 214 0 (n : Int) := ⟨_, rfl⟩
  rw [← hT]
  have t0 : ∀ a i, a ≠ 214 → gI T a i = gI z a i := fun a i g => by rw [hT, hI_sI_a g]
  have cz : ChW PFn S z := cY.tr z1 (fun a i g => .inr (by omega))
  have cT : ChW PFn S T := by rw [hT]; exact cz.sI (.inr ⟨by omega, by omega⟩)
  have f20 : gI z 198 20 = gI S 198 20 + 1 := (z1.1 _ _ (by omega)).trans y20
  rw [y20] at z2
  have old : ∀ x, x < 1013 → ¬ x ∈ c → gI T 213 x ≤ gI S 198 20 := fun x hx g => by
    rw [t0 _ _ (by omega), z3 x g, yo _ _ (by omega)]; exact hsm x hx
  have sT : SdX T G 199 200 (gFi G) := fun m q1 q2 => by
    rw [t0 _ _ (by omega), t0 _ _ (by omega), z1.1 _ _ (by omega), z1.1 _ _ (by omega), yo _ _ (by omega), yo _ _ (by omega)]; exact hs m q1 q2
  have fi : FnI T G c n (gI S 198 20 + 1) 1 (fun _ => n) := by
    refine ⟨(t0 _ _ (by omega)).trans f20, fun i hi => ?_, fun i hi => ⟨cb, nc, ?_, (show n + i ≤ n by omega)⟩, fun _ => rfl, (fun e => by cases e), fun x hx g => ?_, fun x hx => ?_, fun x hx => ?_, fun i j h1 h2 => by omega⟩
    · rw [show i = 0 by omega, hT, gI_set, w32_id (by omega)]
    · show gI T 213 n ≠ _
      have := old n (by omega) nc
      omega
    · by_cases q : x ∈ c
      · rw [t0 _ _ (by omega)]; exact (z2 x q).1
      · have := old x hx q; omega
    · rw [t0 _ _ (by omega)]; exact (z2 x hx).2
    · by_cases q : x ∈ c
      · rw [t0 _ _ (by omega), (z2 x q).2]; omega
      · have := old x hx q; omega
  refine WP_call (k_fn79 w sT (by omega) fi (by omega)) (fun v hv => ?_)
  obtain ⟨v1, v2, v3, v4, v5⟩ := hv
  rw [rdI_e (by omega), Int.toNat_natCast, v3]
  exact WP_some.2 ⟨rfl, cT.tr v1 (fun a i g => .inr g), v4, v5⟩
end KFUNC
