/-! the reference's mode of cells -/
def RvL : List Int → Sto → Prop
  | [], _ => True
  | x :: l, S => gI S 2022 (8 * l.length) = x ∧ 0 ≤ x ∧ x < 256 ∧ RvL l S
def RpL (ps : List Nat) (v : List Int) (S : Sto) : Prop := RvL v S ∧ gI S 2000 80 = (ps.length : Int) ∧ ∀ i, i < ps.length → gI S 2060 i = (ps.getD i 0 : Int)
def QL (a i : Nat) : Prop := a = 2021 ∨ a = 2022 ∨ (a = 2000 ∧ i = 34)
theorem RvL.cg {S z : Sto} : ∀ {v : List Int}, RvL v S → (∀ i, i < v.length → gI z 2022 (8 * i) = gI S 2022 (8 * i)) → RvL v z
  | [], _, _ => trivial
  | _ :: l, h, g => ⟨(g _ (Nat.lt_succ_self _)).trans h.1, h.2.1, h.2.2.1, RvL.cg h.2.2.2 (fun i hi => g i (Nat.lt_succ_of_lt hi))⟩
section MCX
variable {u : Nat → Int} {n N : Nat} {ps : List Nat} {S z : Sto} {j : Nat} {v : List Int}
theorem RpL.ch (h : RpL ps v S) {P : Nat → Nat → Prop} (g : ChW P S z) (e : ∀ a i, P a i → a ≠ 2022 ∧ a ≠ 2060 ∧ ¬ (a = 2000 ∧ i = 80)) : RpL ps v z :=
  ⟨h.1.cg (fun i _ => g.1 _ _ (fun q => (e _ _ q).1 rfl)), (g.1 _ _ (fun q => (e _ _ q).2.2 ⟨rfl, rfl⟩)).trans h.2.1, fun i hi => (g.1 _ _ (fun q => (e _ _ q).2.1 rfl)).trans (h.2.2 i hi)⟩
/-- which pin it is -/
theorem m_pinOf (t : MTk u n N S) (hd : Dst u n ps) (hp : ps.length ≤ 3) (hk : ∀ i, i < ps.length → tkK u n (ps.getD i 0) = 1 ∧ ps.getD i 0 ≤ N) (h80 : gI S 2000 80 = (ps.length : Int)) (h60 : ∀ i, i < ps.length → gI S 2060 i = (ps.getD i 0 : Int)) (h9 : gI S 2000 9 = (j : Int)) (hj : j ≤ N) (k1 : tkK u n j = 1) :
    WP (lpF (mX23_cellInput_L27 S) ((-1), 0)) (fun y => y = if inNm u n ps j = true then (fiN u n ps j : Int) else -1) := by
  refine WP_cnt ps.length (fun k s => s.2 = (k : Int) ∧ ((s.1 = -1 ∧ ∀ i, i < k → ¬ smNm u n (ps.getD i 0) j) ∨ (∃ i : Nat, i < k ∧ s.1 = (i : Int) ∧ smNm u n (ps.getD i 0) j))) (by show _ < 1000000000000; omega) ⟨rfl, Or.inl ⟨rfl, fun i hi => absurd hi (by omega)⟩⟩ (fun k s hk' hs => ?_) (fun s hs => ?_)
  · obtain ⟨s1, s2⟩ := s
    obtain ⟨a1, a2⟩ := hs
    dsimp only at a1 a2
    subst a1
    obtain ⟨b1, b2⟩ := hk k hk'
    unfold mX23_cellInput_L27
    dsimp only
    rw [h80, w32_id (by omega), w32_id (by omega), if_pos (by omega), rdI_e (by omega), Int.toNat_natCast, h60 k hk', h9, m_isSame t b2 hj b1 k1, bX_some]
    by_cases g : smNm u n (ps.getD k 0) j
    · rw [smB_t g, if_pos (by decide)]
      exact WP_some.2 ⟨by dsimp only; omega, Or.inr ⟨k, by omega, rfl, g⟩⟩
    · rw [smB_f g, if_neg (by decide)]
      refine WP_some.2 ⟨by dsimp only; omega, ?_⟩
      rcases a2 with ⟨c1, c2⟩ | ⟨i, c1, c2, c3⟩
      · refine Or.inl ⟨c1, fun i hi => ?_⟩
        by_cases e : i = k
        · subst e; exact g
        · exact c2 i (by omega)
      · exact Or.inr ⟨i, by omega, c2, c3⟩
  · obtain ⟨s1, s2⟩ := s
    obtain ⟨a1, a2⟩ := hs
    dsimp only at a1 a2
    subst a1
    unfold mX23_cellInput_L27
    dsimp only
    rw [h80, w32_id (by omega), if_neg (by omega)]
    refine WP_some.2 ?_
    rcases a2 with ⟨c1, c2⟩ | ⟨i, c1, c2, c3⟩
    · have : inNm u n ps j = false := by
        cases e : inNm u n ps j with
        | false => rfl
        | true => obtain ⟨i, i1, i2⟩ := inN_iff.1 e; exact absurd i2 (c2 i i1)
      rw [this, if_neg (by decide)]; exact c1
    · obtain ⟨f1, f2⟩ := fiN_eq hd c1 c3
      rw [if_pos f1, f2]; exact c2
theorem vl_cases {i : Nat} (h : i < 3) : (if w32 (i : Int) = 0 then some (170 : Int) else if w32 (i : Int) = 1 then some 204 else some 240) = some (vlI i) := by
  have : i = 0 ∨ i = 1 ∨ i = 2 := by omega
  rcases this with e | e | e <;> subst e <;> rfl
theorem m_cellInput (t : MTk u n N S) (h27 : gI S 2000 27 = 2) (hq : MsQ u n N S (.inl j)) (hd : Dst u n ps) (hp : ps.length ≤ 3) (hk : ∀ i, i < ps.length → tkK u n (ps.getD i 0) = 1 ∧ ps.getD i 0 ≤ N) (h34 : gI S 2000 34 = (v.length : Int)) (hv : v.length ≤ 1000) (hR : RpL ps v S) :
    WP (mMid S) (fun y => ChW (fun a i => PG9 a i ∨ QL a i) S y ∧ oPO (XL u n ps) N (RpL ps) v.length (opL u n ps j v) y) := by
  have h9 : gI S 2000 9 = (j : Int) := hq.2.1
  have hj : j ≤ N := hq.2.2.1
  unfold mMid
  rw [h27, if_pos (by decide)]
  unfold mX23_cellInput
  rw [h9, t.k hj, tkK_id]
  unfold opL
  by_cases k1 : tkK u n j = 1
  · rw [if_neg (fun q => q k1), if_pos k1]
    refine WP_bX.2 (WP_call (m_pinOf t hd hp hk hR.2.1 hR.2.2 h9 hj k1) (fun y6 hy => ?_))
    subst hy
    by_cases g : inNm u n ps j = true
    · obtain ⟨f1, f2⟩ := fiN_ok g
      rw [if_pos g, w32_id (by omega), if_neg (by omega), if_pos g]
      have hvl := vl_cases (i := fiN u n ps j) (by omega)
      rw [w32_id (by omega)] at hvl
      rw [hvl, bX_some, h34, wrI_e (by omega), hI_sI_a (by decide), h34, wrI_e (by omega)]
      rw [show (8 * (v.length : Int)).toNat = 8 * v.length by omega, Int.toNat_natCast]
      have vr := vlI_rng (fiN u n ps j)
      generalize hw : sI (sI S 2022 (8 * v.length) (vlI (fiN u n ps j))) 2021 v.length 1 = w
      have cw : ChW (fun a i => a = 2021 ∨ a = 2022) S w := by rw [← hw]; exact (ChW.refl.sI (Or.inr rfl)).sI (Or.inl rfl)
      have w22 : gI w 2022 (8 * v.length) = vlI (fiN u n ps j) := by rw [← hw, hI_sI_a (by decide), gI_sI_eq, w32_id (by omega)]
      have w22o : ∀ i, i < v.length → gI w 2022 (8 * i) = gI S 2022 (8 * i) := fun i hi => by rw [← hw, hI_sI_a (by decide), hI_sI_i (by omega)]
      have tw := t.ch cw (fun a i h1 h2 q => by omega)
      have qw : MsQ u n N w (.inl j) := hq.ch cw (fun i h1 h2 q => by omega)
      have hlt : j < N := t.l.le (by rw [k1]; decide) hj
      refine WP_call (m_go tw qw (fun i e => by injection e with e; omega)) (fun y hy => WP_some.2 (WP_some.2 ?_))
      obtain ⟨y1, y2⟩ := hy
      have y1 : MsQ u n N y (nxT u n j) := y1
      refine ⟨ChW.refl.tr (ChW.refl.tr cw (fun a i q => Or.inr (by unfold QL; omega)) |>.tr y2 (fun a i q => Or.inl q)) (fun _ _ q => q), ?_⟩
      cases hx : nxT u n j with
      | inr f => rw [hx] at y1; exact y1
      | inl j1 =>
        rw [hx] at y1
        have g34 : gI y 2000 34 = (v.length : Int) := by rw [y2.1 _ _ (fun q => by unfold PG9 at q; omega), cw.1 _ _ (by omega)]; exact h34
        refine ⟨y1, g34, ?_⟩
        have c34 : ChW (fun a i => a = 2000 ∧ i = 34) y (sI y 2000 34 ((v.length : Int) + 1)) := ChW.refl.sI ⟨rfl, rfl⟩
        have fr : ∀ a i, ¬ (a = 2000 ∧ 9 ≤ i ∧ i ≤ 11) → ¬ (a = 2000 ∧ i = 34) → gI (sI y 2000 34 ((v.length : Int) + 1)) a i = gI w a i := fun a i q1 q2 => (c34.1 a i q2).trans (y2.1 a i q1)
        refine ⟨⟨(fr _ _ (by omega) (by omega)).trans w22, vr.1, vr.2, hR.1.cg (fun i hi => (fr _ _ (by omega) (by omega)).trans (w22o i hi))⟩, ?_, fun i hi => ?_⟩
        · rw [fr _ _ (by omega) (by omega), cw.1 _ _ (by omega)]; exact hR.2.1
        · rw [fr _ _ (by omega) (by omega), cw.1 _ _ (by omega)]; exact hR.2.2 i hi
    · rw [if_neg g, if_pos (by decide), if_neg g]
      have hfl := m_flaw t hq (c := 11) (by omega)
      rw [h9] at hfl
      exact WP_call hfl (fun y hy => WP_some.2 (WP_some.2 ⟨ChW.refl.tr hy.2 (fun a i q => Or.inl (PF10_G9 a i q)), hy.1⟩))
  · rw [if_pos k1, if_neg k1]
    have hfl := m_flaw t hq (c := 2) (by omega)
    rw [h9] at hfl
    exact WP_bX.2 (WP_call hfl (fun y hy => WP_some.2 (WP_some.2 ⟨ChW.refl.tr hy.2 (fun a i q => Or.inl (PF10_G9 a i q)), hy.1⟩)))
theorem m_turnL (h27 : gI S 2000 27 = 2) (h34 : gI S 2000 34 = (v.length : Int)) (h1 : 1 ≤ v.length) (h2 : v.length ≤ 1000) (hR : RpL ps v S) : WP (lpF (mX23_turn_L33 S) (0, S)) (fun z => ChW QL S z ∧ gI z 2000 34 = gI S 2000 34 ∧ RpL ps (ngL v) z) := by
  match v, h1 with
  | x :: l, _ =>
    have h34 : gI S 2000 34 = ((l.length + 1 : Nat) : Int) := h34
    have hl : l.length + 1 ≤ 1000 := h2
    obtain ⟨⟨r1, r2, r3, r4⟩, r5, r6⟩ := hR
    have e8 : ∀ k : Nat, (8 * (gI S 2000 34 - 1)) + (k : Int) = ((8 * l.length + k : Nat) : Int) := fun k => by omega
    refine WP_cnt 8 (fun k s => s.1 = (k : Int) ∧ ChW (fun a i => a = 2022 ∧ 8 * l.length ≤ i) S s.2 ∧ gI s.2 2022 (8 * l.length) = if k = 0 then x else aXor x 255) (by decide) ⟨rfl, ChW.refl, r1⟩ (fun k s hk hs => ?_) (fun s hs => ?_)
    · obtain ⟨s1, s2⟩ := s
      obtain ⟨a1, a2, a3⟩ := hs
      dsimp only at a1 a2 a3
      subst a1
      have s27 : gI s2 2000 27 = 2 := (a2.1 _ _ (by omega)).trans h27
      unfold mX23_turn_L33
      dsimp only
      rw [w32_id (by omega), if_pos (by omega), e8 k, rdI_e (by omega), Int.toNat_natCast, s27, if_pos (by decide), wrI_e (by omega), Int.toNat_natCast]
      refine WP_some.2 ⟨by dsimp only; omega, a2.sI ⟨rfl, by omega⟩, ?_⟩
      dsimp only
      rw [if_neg (by omega)]
      by_cases k0 : k = 0
      · subst k0
        rw [if_pos rfl] at a3
        rw [Nat.add_zero, gI_sI_eq, a3]
        have hx := trnB_rng (par := true) (v := x) ⟨r2, r3⟩
        have hx : 0 ≤ aXor x 255 ∧ aXor x 255 < 256 := hx
        exact w32_id (by omega)
      · rw [if_neg k0] at a3
        rw [hI_sI_i (by omega)]; exact a3
    · obtain ⟨s1, s2⟩ := s
      obtain ⟨a1, a2, a3⟩ := hs
      dsimp only at a1 a2 a3
      subst a1
      unfold mX23_turn_L33
      dsimp only
      rw [w32_id (by omega), if_neg (by omega)]
      rw [if_neg (by omega)] at a3
      have hx := trnB_rng (par := true) (v := x) ⟨r2, r3⟩
      have hx : 0 ≤ aXor x 255 ∧ aXor x 255 < 256 := hx
      refine WP_some.2 ⟨ChW.refl.tr a2 (fun a i q => Or.inr (Or.inl q.1)), a2.1 _ _ (by omega), ⟨a3, hx.1, hx.2, r4.cg (fun i hi => a2.1 _ _ (by omega))⟩, (a2.1 _ _ (by omega)).trans r5, fun i hi => (a2.1 _ _ (by omega)).trans (r6 i hi)⟩
theorem oR_lt4 {c : Int} (h1 : 1 ≤ oR c) (h4 : oR c < 4) : c = 124 ∨ c = 94 ∨ c = 38 := by
  have hi := oR_iff (c := c)
  have : oR c = 1 ∨ oR c = 2 ∨ oR c = 3 := by omega
  rcases this with e | e | e
  · exact Or.inl (hi.1.1 e)
  · exact Or.inr (Or.inl (hi.2.1.1 e))
  · exact Or.inr (Or.inr (hi.2.2.1.1 e))
theorem m_applyL (t : MTk u n N S) (h27 : gI S 2000 27 = 2) (hq : MsQ u n N S (.inl j)) {k p : Nat} {c : Int} (h32 : gI S 2000 32 = (k : Int) + 1) (hk : k ≤ 1000) (hc1 : gI S 2019 k = c) (hp1 : gI S 2020 k = (p : Int)) (h1 : 1 ≤ oR c) (h4 : oR c < 4) (h34 : gI S 2000 34 = (v.length : Int)) (h2 : 2 ≤ v.length) (hv : v.length ≤ 1000) (hR : RpL ps v S) :
    WP (mX23_apply S) (fun z => ChW (fun a i => (a = 2000 ∧ (i = 10 ∨ i = 11 ∨ i = 32)) ∨ QL a i) S z ∧ gI z 2000 32 = (k : Int) ∧ oPA (XL u n ps) N (RpL ps) j (apL c p v) z) := by
  match v, h2 with
  | y :: x :: l, _ =>
    have h34 : gI S 2000 34 = ((l.length + 2 : Nat) : Int) := h34
    have hl : l.length + 2 ≤ 1000 := hv
    obtain ⟨⟨r1, r2, r3, r4, r5, r6, r7⟩, r8, r9⟩ := hR
    have r1 : gI S 2022 (8 * (l.length + 1)) = y := r1
    unfold mX23_apply
    rw [show gI S 2000 32 - 1 = (k : Int) by omega, rdI_e (by omega), rdI_e (by omega), Int.toNat_natCast, hc1, hp1, wf_eq]
    generalize hw : sI S 2000 32 (k : Int) = w
    have cw : ChW (fun a i => a = 2000 ∧ i = 32) S w := by rw [← hw]; exact ChW.refl.sI ⟨rfl, rfl⟩
    have w27 : gI w 2000 27 = 2 := (cw.1 _ _ (by omega)).trans h27
    have w34 : gI w 2000 34 = ((l.length + 2 : Nat) : Int) := (cw.1 _ _ (by omega)).trans h34
    have w32' : gI w 2000 32 = (k : Int) := by rw [← hw, gI_sI_eq, w32_id (by omega)]
    have e2 : gI w 2000 34 - 2 = (l.length : Int) := by omega
    have e1 : gI w 2000 34 - 1 = ((l.length + 1 : Nat) : Int) := by omega
    rw [w27, if_neg (by decide), bX_some, if_neg (by decide), bX_some, w27, if_neg (by decide), bX_some, w27, if_pos (by decide), e2, e1]
    rw [show 8 * (l.length : Int) = ((8 * l.length : Nat) : Int) by omega, show 8 * ((l.length + 1 : Nat) : Int) = ((8 * (l.length + 1) : Nat) : Int) by omega]
    rw [rdI_e (by omega), rdI_e (by omega), Int.toNat_natCast, Int.toNat_natCast, cw.1 _ _ (by omega), cw.1 _ _ (by omega), r1, r4]
    have hcv : (if w32 c = 124 then some (aOr x y) else if w32 c = 94 then some (aXor x y) else some (aAnd x y)) = some (cmb (oR c) x y) := by
      rcases oR_lt4 h1 h4 with e | e | e <;> subst e <;> rfl
    have hcr := cmb_rng (r := oR c) (v := x) (w := y) ⟨r5, r6⟩ ⟨r2, r3⟩
    have hc257 : ¬ w32 c = 257 := by rcases oR_lt4 h1 h4 with e | e | e <;> subst e <;> decide
    rw [hcv, bX_some, wrI_e (by omega), Int.toNat_natCast, bX_some, if_neg hc257, rdI_e (by omega), Int.toNat_natCast, bX_some, wrI_e (by omega), Int.toNat_natCast, wf_eq]
    generalize hy1 : sI w 2022 (8 * l.length) (cmb (oR c) x y) = y1
    generalize hy2 : sI y1 2021 l.length (gI y1 2021 l.length) = y2
    have c1 : ChW (fun a i => a = 2022 ∧ i = 8 * l.length) w y1 := by rw [← hy1]; exact ChW.refl.sI ⟨rfl, rfl⟩
    have c2 : ChW (fun a i => a = 2021) y1 y2 := by rw [← hy2]; exact ChW.refl.sI rfl
    have g34 : gI y2 2000 34 = ((l.length + 2 : Nat) : Int) := by rw [c2.1 _ _ (by omega), c1.1 _ _ (by omega)]; exact w34
    rw [g34]
    generalize hz : sI y2 2000 34 (((l.length + 2 : Nat) : Int) - 1) = z
    have c3 : ChW (fun a i => a = 2000 ∧ i = 34) y2 z := by rw [← hz]; exact ChW.refl.sI ⟨rfl, rfl⟩
    have fr : ∀ a i, ¬ (a = 2022 ∧ i = 8 * l.length) → a ≠ 2021 → ¬ (a = 2000 ∧ i = 34) → ¬ (a = 2000 ∧ i = 32) → gI z a i = gI S a i := fun a i q1 q2 q3 q4 => (c3.1 a i q3).trans ((c2.1 a i q2).trans ((c1.1 a i q1).trans (cw.1 a i q4)))
    have call : ChW (fun a i => (a = 2000 ∧ (i = 10 ∨ i = 11 ∨ i = 32)) ∨ QL a i) S z := by
      refine (((ChW.refl.tr cw (fun a i q => Or.inl ⟨q.1, Or.inr (Or.inr q.2)⟩)).tr c1 (fun a i q => Or.inr (Or.inr (Or.inl q.1)))).tr c2 (fun a i q => Or.inr (Or.inl q))).tr c3 (fun a i q => Or.inr (Or.inr (Or.inr q)))
    refine WP_some.2 ⟨call, ?_, ?_, ?_, ⟨?_, hcr.1, hcr.2, r7.cg (fun i hi => fr _ _ (by omega) (by omega) (by omega) (by omega))⟩, ?_, fun i hi => ?_⟩
    · rw [c3.1 _ _ (by omega), c2.1 _ _ (by omega), c1.1 _ _ (by omega)]; exact w32'
    · exact hq.cg (fun i h1 h2 => fr _ _ (by omega) (by omega) (by omega) (by omega))
    · rw [← hz, gI_sI_eq, w32_id (by omega)]; show ((l.length + 2 : Nat) : Int) - 1 = ((l.length + 1 : Nat) : Int); omega
    · rw [c3.1 _ _ (by omega), c2.1 _ _ (by omega), ← hy1, gI_sI_eq, w32_id (by omega)]
    · rw [fr _ _ (by omega) (by omega) (by omega) (by omega)]; exact r8
    · rw [fr _ _ (by omega) (by omega) (by omega) (by omega)]; exact r9 i hi
theorem XL_in (hd : Dst u n ps) (hp : ps.length ≤ 3) (hk : ∀ i, i < ps.length → tkK u n (ps.getD i 0) = 1 ∧ ps.getD i 0 ≤ N) : OIn (XL u n ps) N 2 QL (RpL ps) := by
  refine ⟨⟨Or.inl ⟨rfl, rfl⟩, Or.inr (Or.inr ⟨rfl, rfl⟩)⟩, ?_, ?_, ?_, ?_, ?_, ?_, ?_⟩
  · intro a i q; unfold QL at q; omega
  · intro v S z h g
    refine h.ch g (fun a i q => ?_)
    rcases q with q | q | q | q
    · omega
    · omega
    · omega
    · exact absurd q id
  · intro j v S t h27 hq _ _ h34 hv hR; exact m_cellInput t h27 hq hd hp hk h34 hv hR
  · intro v S h27 h34 h1 h2 hR; exact m_turnL h27 h34 h1 h2 hR
  · intro j c p k v S t h27 hq h32 hk' hc hp' _ h1 h4 h34 h2 hv hR; exact m_applyL t h27 hq h32 hk' hc hp' h1 (h4 rfl) h34 h2 hv hR
  · intro j p k o v S hm; cases hm
  · intro v S hm; cases hm
/-- a cell's expression in the reference -/
theorem m_cellExpr (t : MTk u n N S) (h27 : gI S 2000 27 = 2) (hq : MsQ u n N S (.inl j)) (hd : Dst u n ps) (hp : ps.length ≤ 3) (hk : ∀ i, i < ps.length → tkK u n (ps.getD i 0) = 1 ∧ ps.getD i 0 ≤ N) (h80 : gI S 2000 80 = (ps.length : Int)) (h60 : ∀ i, i < ps.length → gI S 2060 i = (ps.getD i 0 : Int)) {res : Rsv} (h : LE u n ps (lxE 1) j 0 res) :
    WP (mX23_expression S) (fun z => ChW (PAq QL) S z ∧ match res with | .inl r => MsQ u n N z (.inl r.1) ∧ gI z 2022 0 = r.2 ∧ 0 ≤ r.2 ∧ r.2 < 256 | .inr f => MsQ u n N z (.inr f)) := by
  have g1 := LE.gr hd h ⟨by omega, by omega⟩ []
  have g0 : oGr (XL u n ps) (gE 0) j 0 [] (rsV [] res) := by
    cases res with
    | inr f => exact oGr.qf g1
    | inl r => obtain ⟨i, w⟩ := r; exact oGr.qs g1 rfl
  have hR : RpL ps [] (sI (sI (sI S 2000 32 0) 2000 33 0) 2000 34 0) := by
    refine ⟨trivial, ?_, fun i hi => ?_⟩
    · rw [hI_sI_i (by decide), hI_sI_i (by decide), hI_sI_i (by decide)]; exact h80
    · rw [hI_sI_a (by decide), hI_sI_a (by decide), hI_sI_a (by decide)]; exact h60 i hi
  refine (sim_expr (X := XL u n ps) (XL_in hd hp hk) (XL_ok t.l) t h27 hq rfl hR g0).mono (fun z hz => ⟨hz.1, ?_⟩)
  have hz2 := hz.2
  cases res with
  | inr f => exact hz2
  | inl r =>
    obtain ⟨i, w⟩ := r
    obtain ⟨a1, a2, a3⟩ := hz2
    exact ⟨a1, a3.1.1, a3.1.2.1, a3.1.2.2.1⟩
end MCX
