/-! the reference tells designs: plain numbers, bits -/
def PPl (h a i : Nat) : Prop := PG9 a i ∨ (a = 2021 ∧ i = h) ∨ (a = 2022 ∧ 8 * h ≤ i ∧ i < 8 * h + 8)
section MPL
variable {S z y : Sto} {u : Nat → Int} {n N h : Nat} {q : Qq} {j b : Nat} {f : Int × Int}
theorem WP_and {σ : Type} {m : Option σ} {P Q : σ → Prop} (h : WP m P) (g : WP m Q) : WP m (fun x => P x ∧ Q x) := by
  obtain ⟨x, h1, h2⟩ := h
  obtain ⟨y, g1, g2⟩ := g
  rw [h1] at g1
  injection g1 with g1
  subst g1
  exact ⟨x, h1, h2, g2⟩
theorem m_go_9 (t : MTk u n N S) (h : MsQ u n N S (.inl j)) (hj : j < N) : WP (mX23_go S) (fun y => MsQ u n N y (nxT u n j) ∧ ChW PG9 S y ∧ gI y 2000 9 = ((j + 1 : Nat) : Int)) := by
  have hb := t.b; have he := t.e
  have h1 := m_go t h (fun i e => by injection e with e; omega)
  have h2 : WP (mX23_go S) (fun y => gI y 2000 9 = ((j + 1 : Nat) : Int)) := by
    obtain ⟨a1, a2, a3, _⟩ := h
    unfold mX23_go
    rw [a1, if_pos (by decide), wf_eq, a2]
    have e9 : gI (sI S 2000 9 ((j : Int) + 1)) 2000 9 = ((j + 1 : Nat) : Int) := by rw [gI_sI_eq, w32_id (by omega)]; omega
    have e10 : gI (sI S 2000 9 ((j : Int) + 1)) 2000 10 = 0 := by rw [hI_sI_i (by decide)]; exact a1
    generalize sI S 2000 9 ((j : Int) + 1) = x at e9 e10 ⊢
    unfold mX23_readNext
    rw [e9, rdI_e (by omega), Int.toNat_natCast]
    by_cases e : w32 (gI x 2002 (j + 1)) = 4
    · rw [if_pos e]
      unfold mX23_flaw
      rw [e10, if_pos (by decide), rdI_e (by omega), Int.toNat_natCast, wf_eq, rdI_e (by omega), Int.toNat_natCast, wf_eq, bX_some, bX_some, bX_some, bX_some]
      refine WP_some.2 ?_
      rw [hI_sI_i (by decide), hI_sI_i (by decide)]; exact e9
    · rw [if_neg e, bX_some, bX_some, bX_some]
      exact WP_some.2 e9
  exact (WP_and h1 h2).mono (fun y hy => ⟨hy.1.1, hy.1.2, hy.2⟩)
def mPl (u : Nat → Int) (n N h j : Nat) (r : RsD) (y : Sto) : Prop := match r with
  | .inl t => MsQ u n N y (.inl t.1) ∧ gI y 2021 h = t.2.2 ∧ t.2.1 = [(0, tkV u n j, t.2.2)] ∧ ∀ i, i < 8 → gI y 2022 (8 * h + i) = w32 (aAnd (aShr (tkV u n j) (i : Int)) 1)
  | .inr f => MsQ u n N y (.inr f)
def kPl (S : Sto) (x3 : Int) (x9 : Sto) : Option Sto := bX (mX23_isRight x9) fun x10 => bX (bX (if ¬ w32 x10 = 0 then rdI 65537 x9 2004 (gI S 2000 9) fun v11 => rdI 65537 x9 2004 x3 fun v12 => if w32 (aShl 1 v12) ≤ w32 v11 then some true else some false else some false) fun b => if b = true then bX (mX23_flawBefore x9 12 (gI S 2000 9)) fun x13 => some x13 else some x9) fun y14 => rdI 65537 y14 2004 x3 fun v15 => wrI 1024 y14 2021 (gI y14 2000 34) v15 fun S16 => bX (lpF (mX23_plainNumber_L102 S) (0, S16)) fun y20 => some y20
theorem plain_eq : mX23_plainNumber S = bX (mX23_go S) fun x1 => bX (mX23_sign x1 64) fun x2 => bX (mX23_due x2 2) fun x3 => bX (mX23_isRight x3.2) fun x4 => bX (bX (if ¬ w32 x4 = 0 then rdI 65537 x3.2 2004 x3.1 fun v5 => bX (mX23_within v5 1 8) fun x6 => if w32 x6 = 0 then some true else some false else some false) fun b => if b = true then bX (mX23_flaw x3.2 12 x3.1) fun x7 => some x7 else some x3.2) fun y8 => bX (mX23_go y8) fun x9 => kPl S x3.1 x9 := rfl
theorem PG9_pl : ∀ a i, PG9 a i → PPl h a i := fun a i q => Or.inl q
/-- the bits of a number -/
theorem m_bits (t : MTk u n N y) (h9 : gI S 2000 9 = (j : Int)) (hj : j ≤ N) (h34 : gI y 2000 34 = (h : Int)) (hh : h ≤ 1000) : WP (lpF (mX23_plainNumber_L102 S) (0, y)) (fun z => ChW (fun a i => a = 2022 ∧ 8 * h ≤ i ∧ i < 8 * h + 8) y z ∧ ∀ i, i < 8 → gI z 2022 (8 * h + i) = w32 (aAnd (aShr (gI y 2004 j) (i : Int)) 1)) := by
  have hb := t.b; have he := t.e
  refine WP_cnt 8 (fun m s => s.1 = (m : Int) ∧ ChW (fun a i => a = 2022 ∧ 8 * h ≤ i ∧ i < 8 * h + 8) y s.2 ∧ ∀ i, i < m → gI s.2 2022 (8 * h + i) = w32 (aAnd (aShr (gI y 2004 j) (i : Int)) 1)) (by decide) ⟨rfl, ChW.refl, fun i hi => absurd hi (by omega)⟩ (fun m s hm hs => ?_) (fun s hs => ?_)
  · obtain ⟨s1, s2⟩ := s
    obtain ⟨a1, a2, a3⟩ := hs
    dsimp only at a1 a2 a3
    subst a1
    unfold mX23_plainNumber_L102
    dsimp only
    have e34 : gI s2 2000 34 = (h : Int) := (a2.1 _ _ (by omega)).trans h34
    rw [w32_id (by omega), if_pos (by omega), h9, rdI_e (by omega), Int.toNat_natCast, e34, show 8 * (h : Int) + (m : Int) = ((8 * h + m : Nat) : Int) by omega, wrI_e (by omega), Int.toNat_natCast, a2.1 2004 j (by omega)]
    refine WP_some.2 ⟨by dsimp only; omega, a2.sI ⟨rfl, by omega, by omega⟩, fun i hi => ?_⟩
    dsimp only
    by_cases e : i = m
    · rw [e, gI_sI_eq]
    · rw [hI_sI_i (by omega)]; exact a3 i (by omega)
  · obtain ⟨s1, s2⟩ := s
    obtain ⟨a1, a2, a3⟩ := hs
    dsimp only at a1 a2 a3
    subst a1
    unfold mX23_plainNumber_L102
    dsimp only
    rw [w32_id (by omega), if_neg (by omega)]
    exact WP_some.2 ⟨a2, a3⟩
theorem m_plain (t : MTk u n N S) (hq : MsQ u n N S (.inl j)) (k2 : tkK u n j = 2) (h34 : gI S 2000 34 = (h : Int)) (hh : h ≤ 1000) : WP (mX23_plainNumber S) (fun y => ChW (PPl h) S y ∧ mPl u n N h j (conD u n j) y) := by
  have hb := t.b; have he := t.e
  have h9 : gI S 2000 9 = (j : Int) := hq.2.1
  have hj : j ≤ N := hq.2.2.1
  have hlt : j < N := t.l.le (by rw [k2]; decide) hj
  have vj := (tK_2 (show tK u n (tkB u n j) = 2 from k2)).2
  have vj : 0 ≤ tkV u n j ∧ tkV u n j < 1000000 := vj
  rw [plain_eq]
  refine WP_call (m_go t hq (fun i e => by injection e with e; omega)) (fun x1 hx => ?_)
  obtain ⟨a1, a2⟩ := hx
  have a1 : MsQ u n N x1 (nxT u n j) := a1
  have t1 := t.g9 a2
  refine WP_call (m_sign t1 a1 (c := 64) (by omega)) (fun x2 hx => ?_)
  obtain ⟨b1, b2⟩ := hx
  have c2 : ChW PG9 S x2 := a2.tr b2 (fun _ _ z => z)
  refine m_numD (t.g9 c2) b1 (K := kPl S) (hi := 8) (by omega) (fun i x9 hi hij m9 c9 => ?_)
  have d9 : ChW PG9 S x9 := c2.tr c9 (fun _ _ z => z)
  have t9 := t.g9 d9
  have o9 : gI x9 2000 34 = (h : Int) := (d9.1 _ _ (fun q => by unfold PG9 at q; omega)).trans h34
  -- what is written whatever comes out
  have fin : ∀ {w : Sto}, ChW PG9 S w → (∀ z, ChW (PPl h) S z → (∀ i, 9 ≤ i → i ≤ 11 → gI z 2000 i = gI w 2000 i) → gI z 2021 h = gI w 2004 i → (∀ i, i < 8 → gI z 2022 (8 * h + i) = w32 (aAnd (aShr (gI w 2004 j) (i : Int)) 1)) → mPl u n N h j (conD u n j) z) → WP (rdI 65537 w 2004 (i : Int) fun v15 => wrI 1024 w 2021 (gI w 2000 34) v15 fun S16 => bX (lpF (mX23_plainNumber_L102 S) (0, S16)) fun y20 => some y20) (fun y => ChW (PPl h) S y ∧ mPl u n N h j (conD u n j) y) := fun {w} w1 w2 => by
    have w34 : gI w 2000 34 = (h : Int) := (w1.1 _ _ (fun q => by unfold PG9 at q; omega)).trans h34
    rw [rdI_e (by omega), Int.toNat_natCast, w34, wrI_e (by omega), Int.toNat_natCast]
    generalize hv : sI w 2021 h (gI w 2004 i) = v
    have cv : ChW (fun a i => a = 2021 ∧ i = h) w v := by rw [← hv]; exact ChW.refl.sI ⟨rfl, rfl⟩
    have tv : MTk u n N v := (t.g9 w1).ch cv (fun a i l1 l2 q => by omega)
    refine WP_call (m_bits tv h9 hj ((cv.1 _ _ (by omega)).trans w34) hh) (fun z hz => WP_some.2 ?_)
    obtain ⟨z1, z2⟩ := hz
    have cz : ChW (PPl h) S z := ((ChW.refl.tr w1 PG9_pl).tr cv (fun a i q => Or.inr (Or.inl q))).tr z1 (fun a i q => Or.inr (Or.inr q))
    refine ⟨cz, w2 z cz (fun i l1 l2 => (z1.1 _ _ (by omega)).trans (cv.1 _ _ (by omega))) ?_ (fun i hi => ?_)⟩
    · rw [z1.1 _ _ (by omega), ← hv, gI_sI_eq, w32_gI]
    · rw [z2 i hi, cv.1 _ _ (by omega)]
  have flt : ∀ {f : Int × Int}, MsQ u n N x9 (.inr f) → conD u n j = .inr f → WP (kPl S (i : Int) x9) (fun y => ChW (PPl h) S y ∧ mPl u n N h j (conD u n j) y) := fun {f} e1 e2 => by
    unfold kPl
    rw [m_isRight e1, bX_some, bIf]
    show WP (bX (bX (if false = true then _ else some false) _) _) _
    rw [if_neg (by decide), bX_some, if_neg (by decide), bX_some]
    refine fin d9 (fun z cz hz _ _ => ?_)
    rw [e2]
    exact e1.cg hz
  cases hA : nxT u n j with
  | inr f =>
    rw [hA] at m9
    exact flt m9 (by unfold conD; rw [hA]; rfl)
  | inl a =>
    rw [hA] at m9 hij
    cases hB : tkT u n 64 (.inl a) with
    | inr f =>
      rw [hB] at m9
      exact flt m9 (by unfold conD; rw [hA, oB_l, hB]; rfl)
    | inl b =>
      rw [hB] at m9 hij
      have eb : i = b := hij b rfl
      subst eb
      have m9 : MsQ u n N x9 (nuT u n 1 8 i) := m9
      cases hC : nuT u n 1 8 i with
      | inr f =>
        rw [hC] at m9
        exact flt m9 (by unfold conD; rw [hA, oB_l, hB, oB_l, hC]; rfl)
      | inl cc =>
        rw [hC] at m9
        obtain ⟨n1, n2, n3, n4, n5⟩ := nuT_ok hC
        have vi : 1 ≤ tkV u n i ∧ tkV u n i ≤ 8 := ⟨n4, n5⟩
        obtain ⟨w, hw⟩ := Int.eq_ofNat_of_zero_le (show 0 ≤ tkV u n i by omega)
        have hw8 : 1 ≤ w ∧ w ≤ 8 := by omega
        have hp : 2 ^ w ≤ 2 ^ 8 := Nat.pow_le_pow_right (by omega) hw8.2
        have e28 : (2 : Nat) ^ 8 = 256 := rfl
        have hp2 : 2 ^ w ≤ 256 := by omega
        have esh : aShl 1 (tkV u n i) = ((2 ^ w : Nat) : Int) := by
          rw [hw]
          have := aShl_nat (a := 1) (k := w) (by omega) (by omega)
          rw [Nat.one_mul] at this
          exact this
        have ec : (2 : Int) ^ (tkV u n i).toNat = ((2 ^ w : Nat) : Int) := by rw [hw, Int.toNat_natCast]; push_cast; rfl
        unfold kPl
        rw [m_isRight m9, bX_some, bIf]
        show WP (bX (bX (if true = true then _ else some false) _) _) _
        rw [if_pos rfl, h9, t9.v hj (by omega), t9.v hi (by omega), esh, w32_id (show -2147483648 ≤ ((2 ^ w : Nat) : Int) ∧ ((2 ^ w : Nat) : Int) < 2147483648 from ⟨Int.le_trans (by decide) (Int.natCast_nonneg _), by omega⟩), w32_id (show -2147483648 ≤ tkV u n j ∧ tkV u n j < 2147483648 by omega)]
        by_cases g : (2 : Int) ^ (tkV u n i).toNat ≤ tkV u n j
        · have eo : conD u n j = .inr (12, (tkB u n j : Int)) := by
            unfold conD
            rw [hA, oB_l, hB, oB_l, hC, oB_l, if_pos g]
          rw [ec] at g
          rw [if_pos g, bX_some, if_pos rfl]
          refine WP_bX.2 (WP_call (m_flawBefore t9 m9 hj (c := 12) (by omega)) (fun v hv => WP_some.2 ?_))
          have v1 : MsQ u n N v (.inr (12, (tkB u n j : Int))) := hv.1
          refine fin (d9.tr hv.2 PF10_G9) (fun z cz hz _ _ => ?_)
          rw [eo]
          exact v1.cg hz
        · have eo : conD u n j = .inl (cc, [(0, tkV u n j, tkV u n i)], tkV u n i) := by
            unfold conD
            rw [hA, oB_l, hB, oB_l, hC, oB_l, if_neg g]
          rw [ec] at g
          rw [if_neg g, bX_some, if_neg (by decide), bX_some]
          refine fin d9 (fun z cz hz z21 z22 => ?_)
          rw [eo]
          have r4 : ∀ i, i ≤ N → tkK u n i = 2 → gI x9 2004 i = tkV u n i := fun i l k => (t9.s i (by omega)).2.2.1 (by show tkK u n i ≠ 4; omega)
          refine ⟨m9.cg hz, z21.trans (r4 i hi n1), rfl, fun k hk => ?_⟩
          rw [z22 k hk, r4 j hj k2]
end MPL
