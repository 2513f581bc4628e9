/-! the reference tells designs: bits and copies of values -/
def PCp (h a i : Nat) : Prop := (a = 2021 ∧ i = h) ∨ (a = 2022 ∧ 8 * h ≤ i ∧ i < 8 * h + 8)
section MNA
variable {S z y : Sto} {u : Nat → Int} {n N h : Nat} {q : Qq} {j b : Nat} {f : Int × Int} {md w : Int}
theorem PCp_pl : ∀ a i, PCp h a i → PPl h a i := fun a i q => Or.inr q
/-- a value is copied -/
theorem m_copy (h27 : gI S 2000 27 = md) (hmd : md = 0 ∨ md = 1) (h34 : gI S 2000 34 = (h : Int)) (hh : h ≤ 1000) (hw : w32 w = w) {p2 : Int} (hp2 : p2 = 0 ∨ p2 = 1) {p3 : Int} {kk : Nat} (hp3 : md = 1 → p3 = (kk : Int) ∧ (p2 = 0 ∧ kk + 8 ≤ 5120 ∨ p2 = 1 ∧ kk + 8 ≤ 204800)) :
    WP (mX23_copyValue S w p2 p3) (fun y => ChW (PCp h) S y ∧ gI y 2021 h = w ∧ (md = 1 → ∀ i, i < 8 → gI y 2022 (8 * h + i) = gI S (if p2 = 0 then 2027 else 2028) (kk + i))) := by
  unfold mX23_copyValue
  rw [h34, wrI_e (by omega), Int.toNat_natCast]
  generalize hx : sI S 2021 h w = x
  have cx : ChW (PCp h) S x := by rw [← hx]; exact ChW.refl.sI (Or.inl ⟨rfl, rfl⟩)
  have x21 : gI x 2021 h = w := by rw [← hx, gI_sI_eq, hw]
  have x27 : gI x 2000 27 = md := (cx.1 _ _ (fun q => by unfold PCp at q; omega)).trans h27
  have x34 : gI x 2000 34 = (h : Int) := (cx.1 _ _ (fun q => by unfold PCp at q; omega)).trans h34
  have xo : ∀ a i, a ≠ 2021 → gI x a i = gI S a i := fun a i q => by rw [← hx, hI_sI_a q]
  refine WP_call (R := fun y => ChW (PCp h) S y ∧ gI y 2021 h = w ∧ (md = 1 → ∀ i, i < 8 → gI y 2022 (8 * h + i) = gI S (if p2 = 0 then 2027 else 2028) (kk + i))) ?_ (fun y hy => WP_some.2 hy)
  rcases hmd with e | e
  · subst e
    refine WP_lpF (fun s => s.2 = x) (fun _ => 1) rfl (by show 1 < 1000000000000; omega) (fun s hs => ?_)
    obtain ⟨s1, s2⟩ := s
    have hs : s2 = x := hs
    subst hs
    unfold mX23_copyValue_L13
    dsimp only
    have hc : (if w32 s1 < 8 then if w32 (gI s2 2000 27) = 1 then some true else some false else some false) = some false := by
      split
      · rw [x27, if_neg (by decide)]
      · rfl
    rw [hc, bX_some, if_neg (by decide)]
    exact WP_some.2 ⟨cx, x21, fun q => by omega⟩
  · subst e
    obtain ⟨hk3, hp3⟩ := hp3 rfl
    subst hk3
    refine WP_cnt 8 (fun m s => s.1 = (m : Int) ∧ ChW (fun a i => a = 2022 ∧ 8 * h ≤ i ∧ i < 8 * h + 8) x s.2 ∧ ∀ i, i < m → gI s.2 2022 (8 * h + i) = gI S (if p2 = 0 then 2027 else 2028) (kk + i)) (by decide) ⟨rfl, ChW.refl, fun i hi => absurd hi (by omega)⟩ (fun m s hm hs => ?_) (fun s hs => ?_)
    · obtain ⟨s1, s2⟩ := s
      obtain ⟨a1, a2, a3⟩ := hs
      dsimp only at a1 a2 a3
      subst a1
      unfold mX23_copyValue_L13
      dsimp only
      have e27 : gI s2 2000 27 = 1 := (a2.1 _ _ (by omega)).trans x27
      have e34 : gI s2 2000 34 = (h : Int) := (a2.1 _ _ (by omega)).trans x34
      rw [w32_id (by omega), if_pos (by omega), e27, if_pos (by decide), bX_some, if_pos rfl, e34, show (kk : Int) + (m : Int) = ((kk + m : Nat) : Int) by omega, show 8 * (h : Int) + (m : Int) = ((8 * h + m : Nat) : Int) by omega]
      have hr : (if ¬ w32 p2 = 0 then rdI 204800 s2 2028 ((kk + m : Nat) : Int) fun v3 => some v3 else rdI 5120 s2 2027 ((kk + m : Nat) : Int) fun v4 => some v4) = some (gI S (if p2 = 0 then 2027 else 2028) (kk + m)) := by
        rcases hp2 with e | e
        · subst e
          rw [if_neg (by decide), rdI_e (by omega), Int.toNat_natCast, if_pos rfl, a2.1 2027 _ (by omega), xo 2027 _ (by omega)]
        · subst e
          rw [if_pos (by decide), rdI_e (by omega), Int.toNat_natCast, if_neg (by decide), a2.1 2028 _ (by omega), xo 2028 _ (by omega)]
      rw [hr, bX_some, wrI_e (by omega), Int.toNat_natCast]
      refine WP_some.2 ⟨by dsimp only; omega, a2.sI ⟨rfl, by omega, by omega⟩, fun i hi => ?_⟩
      dsimp only
      by_cases e : i = m
      · rw [e, gI_sI_eq, w32_gI]
      · rw [hI_sI_i (by omega)]; exact a3 i (by omega)
    · obtain ⟨s1, s2⟩ := s
      obtain ⟨a1, a2, a3⟩ := hs
      dsimp only at a1 a2 a3
      subst a1
      unfold mX23_copyValue_L13
      dsimp only
      rw [w32_id (by omega), if_neg (by omega), bX_some, if_neg (by decide)]
      exact WP_some.2 ⟨cx.tr a2 (fun a i q => Or.inr q), (a2.1 _ _ (by omega)).trans x21, fun _ => a3⟩
def mBi (u : Nat → Int) (n N h b : Nat) (S : Sto) (r : Qq) (y : Sto) : Prop := match r with
  | .inl c => MsQ u n N y (.inl c) ∧ gI y 2021 h = 1 ∧ gI y 2022 (8 * h) = gI S 2022 (8 * h + (tkV u n b).toNat)
  | .inr f => MsQ u n N y (.inr f)
/-- a bit of the value on top -/
theorem m_bit1 (t : MTk u n N S) (hq : MsQ u n N S (.inl b)) (h34 : gI S 2000 34 = (h : Int)) (hh : h ≤ 1000) (hw : 1 ≤ w ∧ w ≤ 8) : WP (mX23_bit S w) (fun y => ChW (PPl h) S y ∧ mBi u n N h b S (nuT u n 0 (w - 1) b) y) := by
  have hb := t.b; have he := t.e
  have hj : b ≤ N := hq.2.2.1
  unfold mX23_bit
  refine WP_call (m_due t hq (k := 2) (by omega)) (fun x hx => ?_)
  obtain ⟨x1, x⟩ := x
  obtain ⟨h1, h2, h3, h4⟩ := hx
  dsimp only at h1 h2 h3 h4 ⊢
  have cx : ChW PG9 S x := ChW.refl.tr h2 PF10_G9
  have tx := t.g9 cx
  have ex : x1 = (b : Int) := h3.trans hq.2.1
  subst ex
  have bad : ∀ {v : Sto} {f : Int × Int}, MsQ u n N v (.inr f) → ChW PG9 S v → nuT u n 0 (w - 1) b = .inr f → WP (bX (mX23_go v) fun x6 => bX (mX23_isRight x6) fun x7 => bX (if ¬ w32 x7 = 0 then rdI 65537 x6 2004 (b : Int) fun v8 => rdI 8192 x6 2022 ((8 * (gI x6 2000 34)) + v8) fun v9 => wrI 8192 x6 2022 (8 * (gI x6 2000 34)) v9 fun S10 => wrI 1024 S10 2021 (gI S10 2000 34) 1 fun S11 => some S11 else some x6) fun y12 => some y12) (fun y => ChW (PPl h) S y ∧ mBi u n N h b S (nuT u n 0 (w - 1) b) y) := fun {v f} v1 v2 v3 => by
    refine WP_call (m_go (t.g9 v2) v1 (fun i e => by cases e)) (fun g hg => ?_)
    have g1 : MsQ u n N g (.inr f) := hg.1
    rw [m_isRight g1, bX_some, bIf]
    show WP (bX (if false = true then _ else some g) _) _
    rw [if_neg (by decide), bX_some]
    refine WP_some.2 ⟨ChW.refl.tr (v2.tr hg.2 (fun _ _ z => z)) PG9_pl, ?_⟩
    rw [v3]; exact g1
  by_cases k2 : tkK u n b = 2
  · have h1 : MsQ u n N x (.inl b) := by
      have : duT u n 2 (.inl b) = .inl b := if_pos k2
      rw [this] at h1; exact h1
    have vr := tK_2 (show tK u n (tkB u n b) = 2 from k2)
    have vr : 0 ≤ tkV u n b ∧ tkV u n b < 1000000 := vr.2
    rw [m_isRight h1, bX_some, bIf]
    show WP (bX (bX (if true = true then _ else some false) _) _) _
    rw [if_pos rfl, tx.v hj (by omega), w32_id (show -2147483648 ≤ w ∧ w < 2147483648 by omega), w32_id (show -2147483648 ≤ tkV u n b ∧ tkV u n b < 2147483648 by omega)]
    by_cases g : 0 ≤ tkV u n b ∧ tkV u n b ≤ w - 1
    · have en : nuT u n 0 (w - 1) b = nxT u n b := by unfold nuT; rw [if_pos k2, if_pos g]
      rw [if_neg (show ¬ w ≤ tkV u n b by omega), bX_some, if_neg (by decide), bX_some]
      have hlt : b < N := t.l.le (by rw [k2]; decide) hj
      refine WP_call (m_go tx h1 (fun i e => by injection e with e; omega)) (fun v hv => ?_)
      obtain ⟨v1, v2⟩ := hv
      have v1 : MsQ u n N v (nxT u n b) := v1
      have cv : ChW PG9 S v := cx.tr v2 (fun _ _ z => z)
      rw [m_isRight v1, bX_some, bIf, en]
      cases hA : nxT u n b with
      | inr f =>
        rw [hA] at v1
        show WP (bX (if false = true then _ else some v) _) _
        rw [if_neg (by decide), bX_some]
        exact WP_some.2 ⟨ChW.refl.tr cv PG9_pl, v1⟩
      | inl c =>
        rw [hA] at v1
        show WP (bX (if true = true then _ else some v) _) _
        have v34 : gI v 2000 34 = (h : Int) := (cv.1 _ _ (fun q => by unfold PG9 at q; omega)).trans h34
        obtain ⟨vb, hvb⟩ := Int.eq_ofNat_of_zero_le vr.1
        rw [if_pos rfl, (t.g9 cv).v hj (by omega), v34, hvb, show 8 * (h : Int) + (vb : Int) = ((8 * h + vb : Nat) : Int) by omega, rdI_e (by omega), Int.toNat_natCast, show 8 * (h : Int) = ((8 * h : Nat) : Int) by omega, wrI_e (by omega), Int.toNat_natCast, hI_sI_a (by decide), v34, wrI_e (by omega), Int.toNat_natCast, bX_some]
        generalize hs : sI (sI v 2022 (8 * h) (gI v 2022 (8 * h + vb))) 2021 h 1 = s
        have cs : ChW (PCp h) v s := by rw [← hs]; exact (ChW.refl.sI (Or.inr ⟨rfl, by omega, by omega⟩)).sI (Or.inl ⟨rfl, rfl⟩)
        refine WP_some.2 ⟨(ChW.refl.tr cv PG9_pl).tr cs PCp_pl, v1.ch cs (fun i _ _ q => by unfold PCp at q; omega), ?_, ?_⟩
        · rw [← hs, gI_sI_eq]; rfl
        · rw [← hs, hI_sI_a (by decide), gI_sI_eq, w32_gI, hvb, Int.toNat_natCast]
          exact cv.1 _ _ (fun q => by unfold PG9 at q; omega)
    · have en : nuT u n 0 (w - 1) b = .inr (12, (tkB u n b : Int)) := by unfold nuT; rw [if_pos k2, if_neg g]; rfl
      rw [if_pos (show w ≤ tkV u n b by omega), bX_some, if_pos rfl]
      refine WP_bX.2 (WP_call (m_flawAt tx h1 hj (fun _ => by omega) (c := 12) (by omega)) (fun v hv => WP_some.2 ?_))
      exact bad hv.1 (cx.tr hv.2 PF10_G9) en
  · have h1 : MsQ u n N x (.inr (2, (tkB u n b : Int))) := by
      have : duT u n 2 (.inl b) = flT u n 2 b := if_neg k2
      rw [this] at h1; exact h1
    have en : nuT u n 0 (w - 1) b = .inr (2, (tkB u n b : Int)) := by unfold nuT; rw [if_neg k2]; rfl
    rw [m_isRight h1, bX_some, bIf]
    show WP (bX (bX (if false = true then _ else some false) _) _) _
    rw [if_neg (by decide), bX_some, if_neg (by decide), bX_some]
    exact bad h1 cx en
end MNA
