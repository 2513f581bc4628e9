/-! the reference's nodes -/
def hfM (x y : Int) : Int := (1021 * x + y) % 4096
def HshM (S : Sto) (fa : Nat) (A : Nds) : Prop := (gI S 2000 37 = ((fa + A.length : Nat) : Int) ∧ gI S 2000 38 = (fa : Int) ∧ 1 ≤ fa ∧ fa ≤ 13 ∧ A.length ≤ 1001) ∧ NdU A ∧
  (∀ i, i < A.length → gI S 2023 (fa + i) = (ndA A i).1 ∧ gI S 2024 (fa + i) = (ndA A i).2 ∧ gI S 2026 (fa + i) = lsH hfM 0 fa A (hfM (ndA A i).1 (ndA A i).2) i) ∧
  (∀ h : Nat, h < 4096 → gI S 2025 h = lsH hfM 0 fa A (h : Int) A.length)
def PNd (a i : Nat) : Prop := (a = 2000 ∧ i = 37) ∨ (2023 ≤ a ∧ a ≤ 2026)
section MAN
variable {S x z y : Sto} {fa : Nat} {A : Nds} {a b c : Int}
theorem hfM_rng {x y : Int} : 0 ≤ hfM x y ∧ hfM x y < 4096 := by unfold hfM; omega
theorem HshM.cg (h : HshM S fa A) (e : ∀ a i, PNd a i ∨ (a = 2000 ∧ i = 38) → gI z a i = gI S a i) : HshM z fa A := by
  obtain ⟨⟨h1, h2, h3⟩, h4, h5, h6⟩ := h
  have q : ∀ a i, 2023 ≤ a → a ≤ 2026 → gI z a i = gI S a i := fun a i q1 q2 => e a i (Or.inl (Or.inr ⟨q1, q2⟩))
  refine ⟨⟨(e _ _ (Or.inl (Or.inl ⟨rfl, rfl⟩))).trans h1, (e _ _ (Or.inr ⟨rfl, rfl⟩)).trans h2, h3⟩, h4, fun i hi => ?_, fun h hh => ?_⟩
  · rw [q _ _ (by omega) (by omega), q _ _ (by omega) (by omega), q _ _ (by omega) (by omega)]; exact h5 i hi
  · rw [q _ _ (by omega) (by omega)]; exact h6 h hh
theorem HshM.ch (h : HshM S fa A) {P : Nat → Nat → Prop} (g : ChW P S z) (e : ∀ a i, P a i → ¬ (2023 ≤ a ∧ a ≤ 2026) ∧ ¬ (a = 2000 ∧ (i = 37 ∨ i = 38))) : HshM z fa A := h.cg (fun a i q => g.1 _ _ (fun w => by have := e _ _ w; unfold PNd at q; omega))
/-- the chain is gone along -/
theorem m_walk (h : HshM S fa A) (ha : -2147483648 ≤ a ∧ a < 2147483648) (hb : -2147483648 ≤ b ∧ b < 2147483648) {X Y : Int} (eX : X = if a < b then a else b) (eY : Y = if a < b then b else a) {r : Int} (hr : r = hfM X Y) :
    WP (lpF (mX23_and_L74 S a b) (lsH hfM 0 fa A r A.length)) (fun o => o = if ixA A (X, Y) < A.length then .inr (2 * ((fa + ixA A (X, Y) : Nat) : Int), S) else .inl ()) := by
  obtain ⟨⟨h1, h2, h3, h4, h5⟩, hU, hN, _⟩ := h
  have wX : w32 (if w32 a < w32 b then a else b) = X := by rw [w32_id ha, w32_id hb, ← eX, w32_id (by rw [eX]; split <;> assumption)]
  have wY : w32 (if w32 a < w32 b then b else a) = Y := by rw [w32_id ha, w32_id hb, ← eY, w32_id (by rw [eY]; split <;> assumption)]
  refine WP_lpF (fun s => ∃ m, m ≤ A.length ∧ s = lsH hfM 0 fa A r m ∧ ∀ i, m ≤ i → i < A.length → ndA A i ≠ (X, Y)) (fun s => s.toNat) ⟨A.length, Nat.le_refl _, rfl, fun i h1 h2 => absurd h1 (by omega)⟩ ?_ (fun s hs => ?_)
  · rcases lsH_at (hf := hfM) (z := 0) (fa := fa) (A := A) (h := r) A.length with ⟨e, _⟩ | ⟨k, k1, e, _⟩
    · rw [e]; decide
    · rw [e]; show (((fa + k : Nat) : Int)).toNat < 1000000000000; omega
  obtain ⟨m, m1, rfl, m3⟩ := hs
  unfold mX23_and_L74
  rcases lsH_at (hf := hfM) (z := 0) (fa := fa) (A := A) (h := r) m with ⟨e, e2⟩ | ⟨k, k1, e, e2, e3⟩
  · rw [e, w32_0, if_neg (by decide)]
    refine WP_some.2 ?_
    show (.inl () : Unit ⊕ (Int × Sto)) = _
    rw [if_neg (fun w => ?_)]
    have g1 := ixA_ok w
    by_cases q : ixA A (X, Y) < m
    · exact e2 _ q (by rw [g1, hr])
    · exact m3 _ (by omega) w g1
  · obtain ⟨n1, n2, n3⟩ := hN k (by omega)
    rw [e, w32_id (by omega), if_pos (by omega), rdI_e (by omega), Int.toNat_natCast, n1, wX, wY]
    have wk1 : w32 (ndA A k).1 = (ndA A k).1 := by rw [← n1, w32_gI]
    have wk2 : w32 (ndA A k).2 = (ndA A k).2 := by rw [← n2, w32_gI]
    rw [wk1]
    by_cases q : ndA A k = (X, Y)
    · obtain ⟨u1, u2⟩ := ixA_un hU (show k < A.length by omega) q
      rw [if_pos (by rw [q]), rdI_e (by omega), Int.toNat_natCast, n2, wk2, if_pos (by rw [q]), bX_some, if_pos rfl]
      refine WP_some.2 ?_
      show (.inr (2 * ((fa + k : Nat) : Int), S) : Unit ⊕ (Int × Sto)) = _
      rw [if_pos u1, u2]
    · have eB : (if (ndA A k).1 = X then rdI 2048 S 2024 ((fa + k : Nat) : Int) fun v4 => if w32 v4 = Y then some true else some false else some false) = some false := by
        by_cases q1 : (ndA A k).1 = X
        · rw [if_pos q1, rdI_e (by omega), Int.toNat_natCast, n2, wk2, if_neg (fun q2 => q (Prod.ext q1 q2))]
        · rw [if_neg q1]
      rw [eB, bX_some, if_neg (by decide), rdI_e (by omega), Int.toNat_natCast, n3]
      rw [e2]
      refine WP_some.2 ⟨⟨k, by omega, rfl, fun i i1 i2 => ?_⟩, ?_⟩
      · by_cases q2 : i = k
        · rw [q2]; exact q
        · by_cases q3 : i < m
          · intro w
            exact e3 i (by omega) q3 (by rw [w, hr])
          · exact m3 i (by omega) i2
      · rcases lsH_at (hf := hfM) (z := 0) (fa := fa) (A := A) (h := r) k with ⟨g, _⟩ | ⟨k2, k3, g, _⟩
        · rw [g]; show (0 : Int).toNat < (((fa + k : Nat) : Int)).toNat; omega
        · rw [g]; omega
/-- an AND -/
theorem m_andP (h : HshM S fa A) (ha : -2147483648 ≤ a ∧ a < 2147483648) (hb : -2147483648 ≤ b ∧ b < 2147483648) :
    WP (mX23_and S a b) (fun y => y.1 = (andP fa A a b).1 ∧ HshM y.2 fa (andP fa A a b).2 ∧ ChW PNd S y.2) := by
  have h0 := h
  obtain ⟨⟨h1, h2, h3, h4, h5⟩, hU, hN, hH⟩ := h
  generalize eX : (if a < b then a else b) = X
  generalize eY : (if a < b then b else a) = Y
  have rX : -2147483648 ≤ X ∧ X < 2147483648 := by rw [← eX]; split <;> assumption
  have rY : -2147483648 ≤ Y ∧ Y < 2147483648 := by rw [← eY]; split <;> assumption
  have eP : andP fa A a b = if X = 0 ∨ X = aXor Y 1 then (0, A) else if X = 1 ∨ X = Y then (Y, A) else if ixA A (X, Y) < A.length then (2 * ((fa + ixA A (X, Y) : Nat) : Int), A) else if 1000 < A.length then (0, A) else (2 * ((fa + A.length : Nat) : Int), A ++ [(X, Y)]) := by
    unfold andP
    rw [eX, eY]
  unfold mX23_and
  rw [eP, w32_id ha, w32_id hb, eX, eY, w32_id rX, w32_id rY, w32_aXor]
  have c1 : (if ¬ X = 0 then if X = aXor Y 1 then some true else some false else some true) = some (decide (X = 0 ∨ X = aXor Y 1)) := by
    by_cases q : X = 0
    · rw [if_neg (fun w => w q), decide_eq_true (Or.inl q)]
    · rw [if_pos q]
      by_cases q2 : X = aXor Y 1
      · rw [if_pos q2, decide_eq_true (Or.inr q2)]
      · rw [if_neg q2, decide_eq_false (fun w => by rcases w with w | w; exact q w; exact q2 w)]
  rw [c1, bX_some]
  by_cases g1 : X = 0 ∨ X = aXor Y 1
  · rw [decide_eq_true g1, if_pos rfl, if_pos g1]
    exact WP_some.2 ⟨rfl, h0, ChW.refl⟩
  rw [decide_eq_false g1, if_neg (by decide), if_neg g1]
  have c2 : (if ¬ X = 1 then if X = Y then some true else some false else some true) = some (decide (X = 1 ∨ X = Y)) := by
    by_cases q : X = 1
    · rw [if_neg (fun w => w q), decide_eq_true (Or.inl q)]
    · rw [if_pos q]
      by_cases q2 : X = Y
      · rw [if_pos q2, decide_eq_true (Or.inr q2)]
      · rw [if_neg q2, decide_eq_false (fun w => by rcases w with w | w; exact q w; exact q2 w)]
  rw [c2, bX_some]
  by_cases g2 : X = 1 ∨ X = Y
  · rw [decide_eq_true g2, if_pos rfl, if_pos g2]
    exact WP_some.2 ⟨rfl, h0, ChW.refl⟩
  rw [decide_eq_false g2, if_neg (by decide), if_neg g2]
  have eh : aAnd (1021 * X + Y) 4095 = hfM X Y := aAnd_4095 _
  have rh := hfM_rng (x := X) (y := Y)
  obtain ⟨hn, ehn⟩ : ∃ k : Nat, hfM X Y = (k : Int) := ⟨(hfM X Y).toNat, by omega⟩
  rw [eh, ehn, rdI_e (by omega), Int.toNat_natCast, hH hn (by omega)]
  refine WP_bE.2 (WP.mono (m_walk h0 ha hb eX.symm eY.symm (r := (hn : Int)) (by rw [ehn])) (fun o ho => ?_))
  subst ho
  by_cases g3 : ixA A (X, Y) < A.length
  · rw [if_pos g3, if_pos g3]
    exact ⟨rfl, h0, ChW.refl⟩
  rw [if_neg g3, if_neg g3]
  show WP _ _
  rw [h1, h2, w32_id (by omega)]
  by_cases g4 : 1000 < A.length
  · rw [if_pos (by omega), if_pos g4]
    exact WP_some.2 ⟨rfl, h0, ChW.refl⟩
  rw [if_neg (by omega), if_neg g4, wrI_e (by omega), Int.toNat_natCast, hI_sI_a (show (2000 : Nat) ≠ 2023 by decide), h1, wrI_e (by omega), Int.toNat_natCast, rdI_e (by omega), Int.toNat_natCast]
  rw [hI_sI_a (show (2025 : Nat) ≠ 2024 by decide), hI_sI_a (show (2025 : Nat) ≠ 2023 by decide), hH hn (by omega)]
  rw [hI_sI_a (show (2000 : Nat) ≠ 2024 by decide), hI_sI_a (show (2000 : Nat) ≠ 2023 by decide), h1, wrI_e (by omega), Int.toNat_natCast]
  rw [hI_sI_a (show (2000 : Nat) ≠ 2026 by decide), hI_sI_a (show (2000 : Nat) ≠ 2024 by decide), hI_sI_a (show (2000 : Nat) ≠ 2023 by decide), h1, wrI_e (by omega), Int.toNat_natCast, wf_eq]
  rw [hI_sI_a (show (2000 : Nat) ≠ 2025 by decide), hI_sI_a (show (2000 : Nat) ≠ 2026 by decide), hI_sI_a (show (2000 : Nat) ≠ 2024 by decide), hI_sI_a (show (2000 : Nat) ≠ 2023 by decide), h1, gI_sI_eq, w32_id (by omega)]
  generalize hP : sI (sI (sI (sI (sI S 2023 (fa + A.length) X) 2024 (fa + A.length) Y) 2026 (fa + A.length) (lsH hfM 0 fa A (hn : Int) A.length)) 2025 hn ((fa + A.length : Nat) : Int)) 2000 37 (((fa + A.length : Nat) : Int) + 1) = P
  have hL : -2147483648 ≤ lsH hfM 0 fa A (hn : Int) A.length ∧ lsH hfM 0 fa A (hn : Int) A.length < 2147483648 := by
    rw [← hH hn (by omega)]; exact gI_rng _ _ _
  have P23 : ∀ i, gI P 2023 i = if i = fa + A.length then X else gI S 2023 i := fun i => by
    rw [← hP]
    by_cases q : i = fa + A.length
    · subst q; simp (disch := omega) only [gI_sIn, gI_sIe]; rw [w32_id rX, if_pos trivial]
    · simp (disch := omega) only [gI_sIn]; rw [if_neg q]
  have P24 : ∀ i, gI P 2024 i = if i = fa + A.length then Y else gI S 2024 i := fun i => by
    rw [← hP]
    by_cases q : i = fa + A.length
    · subst q; simp (disch := omega) only [gI_sIn, gI_sIe]; rw [w32_id rY, if_pos trivial]
    · simp (disch := omega) only [gI_sIn]; rw [if_neg q]
  have P26 : ∀ i, gI P 2026 i = if i = fa + A.length then lsH hfM 0 fa A (hn : Int) A.length else gI S 2026 i := fun i => by
    rw [← hP]
    by_cases q : i = fa + A.length
    · subst q; simp (disch := omega) only [gI_sIn, gI_sIe]; rw [w32_id hL, if_pos trivial]
    · simp (disch := omega) only [gI_sIn]; rw [if_neg q]
  have P25 : ∀ i, gI P 2025 i = if i = hn then ((fa + A.length : Nat) : Int) else gI S 2025 i := fun i => by
    rw [← hP]
    by_cases q : i = hn
    · subst q; simp (disch := omega) only [gI_sIn, gI_sIe]; rw [w32_id (by omega), if_pos trivial]
    · simp (disch := omega) only [gI_sIn]; rw [if_neg q]
  have P37 : gI P 2000 37 = ((fa + A.length : Nat) : Int) + 1 := by rw [← hP, gI_sI_eq, w32_id (by omega)]
  have P38 : gI P 2000 38 = (fa : Int) := by rw [← hP]; simp (disch := omega) only [gI_sIn]; exact h2
  have hl : (A ++ [(X, Y)]).length = A.length + 1 := by rw [List.length_append]; rfl
  refine WP_some.2 ⟨by show 2 * (((fa + A.length : Nat) : Int) + 1) - 2 = 2 * ((fa + A.length : Nat) : Int); omega, ⟨⟨by rw [P37, hl]; omega, P38, h3, h4, by rw [hl]; omega⟩, hU.app g3, fun i hi => ?_, fun h hh => ?_⟩, ?_⟩
  · rw [hl] at hi
    rw [P23, P24, P26, ndA_app]
    by_cases q : i < A.length
    · rw [if_neg (show ¬ fa + i = fa + A.length by omega), if_neg (show ¬ fa + i = fa + A.length by omega), if_neg (show ¬ fa + i = fa + A.length by omega), if_pos q, lsH_app (by omega)]
      exact hN i q
    · have q2 : i = A.length := by omega
      subst q2
      rw [if_pos rfl, if_pos rfl, if_pos rfl, if_neg q, if_pos rfl, lsH_app (Nat.le_refl _)]
      exact ⟨rfl, rfl, by rw [ehn]⟩
  · rw [P25, hl]
    unfold lsH
    rw [ndA_app, if_neg (show ¬ A.length < A.length by omega), if_pos (show A.length = A.length from rfl), lsH_app (Nat.le_refl _)]
    show _ = if hfM X Y = (h : Int) then _ else _
    by_cases q : h = hn
    · rw [if_pos q, if_pos (by rw [ehn, q])]
    · rw [if_neg q, if_neg (by rw [ehn]; omega)]; exact hH h hh
  · rw [← hP]
    refine ((((ChW.refl.sI ?_).sI ?_).sI ?_).sI ?_).sI ?_
    · exact Or.inr (by omega)
    · exact Or.inr (by omega)
    · exact Or.inr (by omega)
    · exact Or.inr (by omega)
    · exact Or.inl ⟨rfl, rfl⟩
end MAN
