/-! the reference cuts the tape -/
def PCt (a i : Nat) : Prop := (2002 ≤ a ∧ a ≤ 2006) ∨ (a = 2000 ∧ i = 3)
def QCt (a _i : Nat) : Prop := a = 2005
def TkS (u : Nat → Int) (n : Nat) (S : Sto) (M : Nat) : Prop := ∀ i, i < M → TkE u n S i (tkB u n i)
section MCT
variable {S z y : Sto} {u : Nat → Int} {n N : Nat}
theorem TkE.cg {T p : Nat} (h : TkE u n S T p) (g : ∀ a, 2002 ≤ a → a ≤ 2006 → gI z a T = gI S a T) (g2 : gL z 2005 T = gL S 2005 T) : TkE u n z T p := by
  obtain ⟨h1, h2, h3, h4⟩ := h
  refine ⟨(g _ (by omega) (by omega)).trans h1, (g _ (by omega) (by omega)).trans h2, fun q => (g _ (by omega) (by omega)).trans (h3 q), fun q => ?_⟩
  unfold NwT at h4 ⊢
  rw [g2, g _ (by omega) (by omega)]
  exact h4 q
theorem ltr_rng {c : Int} (h : ltr c = true) : 65 ≤ c ∧ c < 128 := by have := of_decide_eq_true h; omega
theorem ldg_rng {c : Int} (h : ldg c = true) : 48 ≤ c ∧ c < 128 := by
  unfold ldg at h
  rw [Bool.or_eq_true] at h
  rcases h with q | q
  · have := ltr_rng q; omega
  · have := of_decide_eq_true q; omega
theorem name_rng {p t : Nat} (h : t < wE u n p - p) : 48 ≤ u (p + t) ∧ u (p + t) < 128 := by
  obtain ⟨r1, r2, r3, r4⟩ := rnE_spec (P := ldg) (u := u) (n - p) p
  exact ldg_rng (r3 (p + t) (by omega) (by unfold wE at h; omega))
theorem m_take {p T : Nat} (t : TpM S u n) (hp : p < n) (hT : T ≤ 5000) (gT : gI S 2000 3 = (T : Int)) : WP (mX23_take S (p : Int)) (fun y => y.1 = ((tE u n p : Nat) : Int) ∧ TkE u n y.2 T p ∧ ChL (PTk T) (QTk T) S y.2) := by
  have hn := t.b
  unfold mX23_take
  rw [gT, wrI_e (by omega), wrI_e (by omega), wrL_e (by omega), wrI_e (by omega), Int.toNat_natCast]
  generalize hx : sI (sL (sI (sI S 2003 T (p : Int)) 2004 T 0) 2005 T 0) 2006 T 0 = x
  have cx : ChL (PTk T) (QTk T) S x := by
    rw [← hx]
    exact (((ChL.refl.sI ⟨by omega, by omega, rfl⟩).sI ⟨by omega, by omega, rfl⟩).sL ⟨rfl, rfl⟩).sI ⟨by omega, by omega, rfl⟩
  have tx : TpM x u n := t.ch cx (fun q => by unfold PTk at q; omega) (fun i q => by unfold PTk at q; omega)
  have x3 : gI x 2003 T = (p : Int) := by rw [← hx, hI_sI_a (by decide), gI_sL, hI_sI_a (by decide), gI_sI_eq, w32_id (by omega)]
  have x4 : gI x 2004 T = 0 := by rw [← hx, hI_sI_a (by decide), gI_sL, gI_sI_eq]; rfl
  have x5 : gL x 2005 T = 0 := by rw [← hx, gL_sI, gL_sL, if_pos ⟨rfl, rfl⟩]
  have x6 : gI x 2006 T = 0 := by rw [← hx, gI_sI_eq]; rfl
  have pw : ∀ a i, (a = 2006 ∧ i = T) → PTk T a i := fun a i q => by unfold PTk; omega
  have pv : ∀ a i, (a = 2004 ∧ i = T) → PTk T a i := fun a i q => by unfold PTk; omega
  have qq : ∀ a i, QTk T a i → QTk T a i := fun _ _ q => q
  have hu := t.u p hp
  rw [m_byteAt tx (by omega), bX_some, chA_in hp, m_isLetter (by omega), bX_some, m_isDigit (by omega)]
  simp only [bX_some, w32_b2i, b2i_eq0]
  cases hl : ltr (u p) with
  | true =>
    rw [if_pos (by decide)]
    obtain ⟨k1, k2, k3⟩ := tK_ltr (n := n) hp hl
    have hw := wE_rng (u := u) hp hl
    refine WP_call (m_letters tx hp hT gT hl x5 x6) (fun y hy => ?_)
    obtain ⟨yv, y⟩ := y
    obtain ⟨y1, ⟨y2, y3⟩, y4⟩ := hy
    dsimp only at y1 y2 y3 y4 ⊢
    subst y1
    have cy : ChL (PTk T) (QTk T) S y := cx.tr y4 pw qq
    have hnm : ∀ t, t < wE u n p - p → 1 ≤ u (p + t) ∧ u (p + t) < 128 := fun t ht => by have := name_rng ht; omega
    have hB := fB_lt hnm
    have hwd := wdOf_rng (u := u) (b := p) (e := wE u n p)
    have h8 := hB 8; have h9 := hB 9; have h10 := hB 10; have h11 := hB 11
    have y13 : gI y 2003 T = (p : Int) := by rw [y4.1 _ _ (fun q => by omega)]; exact x3
    have hmid : (if w32 (gI y 2006 T) = 0 then rdL 65537 y 2005 (T : Int) fun v24 => bX (mX23_wordOf v24) fun x25 => some x25 else some 0) = some (wdOf u p (wE u n p)) := by
      rw [y3]
      by_cases c : wE u n p - p ≤ 8
      · have e : w4 (fB u p (wE u n p)) = 0 := by
          unfold w4; rw [(fB_pos hnm).2 c, (fB_pos hnm).2 (show _ ≤ 9 by omega), (fB_pos hnm).2 (show _ ≤ 10 by omega), (fB_pos hnm).2 (show _ ≤ 11 by omega)]
        rw [e, if_pos (by decide), rdL_e (by omega), Int.toNat_natCast, m_wordOf (by omega) hnm c y2]; rfl
      · have e : w4 (fB u p (wE u n p)) ≠ 0 := by
          have : fB u p (wE u n p) 8 ≠ 0 := fun q => c ((fB_pos hnm).1 q)
          unfold w4; omega
        have hlt : w4 (fB u p (wE u n p)) < 2147483648 := by unfold w4; omega
        rw [w32_id (by omega), if_neg (by omega)]
        have : wdOf u p (wE u n p) = 0 := by
          by_cases q : wdOf u p (wE u n p) = 0
          · exact q
          · have := wdOf_len q; omega
        rw [this]
    rw [rdI_e (by omega), Int.toNat_natCast, hmid, bX_some, wrI_e (by omega), Int.toNat_natCast, w32_id (show -2147483648 ≤ ((wE u n p : Nat) : Int) - (p : Int) ∧ ((wE u n p : Nat) : Int) - (p : Int) < 2147483648 by omega)]
    have hk : (if 12 < ((wE u n p : Nat) : Int) - (p : Int) then some (4 : Int) else rdI 65537 (sI y 2004 T (wdOf u p (wE u n p))) 2004 (T : Int) fun v28 => if 0 < w32 v28 then some 6 else some 1) = some (tK u n p) := by
      rw [k3]
      by_cases c : 12 < wE u n p - p
      · rw [if_pos (by omega), if_pos c]
      · rw [if_neg (by omega), if_neg c, rdI_e (by omega), Int.toNat_natCast, gI_sI_eq, w32_w32, w32_id (by omega)]
        by_cases c2 : 0 < wdOf u p (wE u n p)
        · rw [if_pos c2, if_pos c2]
        · rw [if_neg c2, if_neg c2]
    have hkr := tK_rng (u := u) (n := n) (p := p)
    rw [hk, bX_some, wrI_e (by omega), Int.toNat_natCast, w8_id (by omega)]
    refine WP_some.2 ⟨by rw [k1], ⟨?_, ?_, fun _ => ?_, fun _ => ⟨?_, ?_⟩⟩, (cy.sI ⟨by omega, by omega, rfl⟩).sI ⟨by omega, by omega, rfl⟩⟩
    · dsimp only; rw [gI_sI_eq, w32_id (by omega)]
    · dsimp only; rw [hI_sI_a (by decide), hI_sI_a (by decide)]; exact y13
    · dsimp only; rw [hI_sI_a (by decide), gI_sI_eq, w32_id (by omega), k2]
    · dsimp only; rw [gL_sI, gL_sI, k1]; exact y2
    · dsimp only; rw [hI_sI_a (by decide), hI_sI_a (by decide), k1]; exact y3
  | false =>
    rw [if_neg (by decide)]
    cases hd : dgt (u p) with
    | true =>
      rw [if_pos (by decide)]
      obtain ⟨k1, k2, k3⟩ := tK_dgt (n := n) hp hl hd
      have hw := nE_rng (u := u) hp hd
      refine WP_call (m_digits tx hp hT gT hd x4) (fun y hy => ?_)
      obtain ⟨yv, y⟩ := y
      obtain ⟨y1, y2, y4⟩ := hy
      dsimp only at y1 y2 y4 ⊢
      subst y1
      have cy : ChL (PTk T) (QTk T) S y := cx.tr y4 pv qq
      have y13 : gI y 2003 T = (p : Int) := by rw [y4.1 _ _ (fun q => by omega)]; exact x3
      have hk : (if 6 < w32 (((nE u n p : Nat) : Int) - (p : Int)) then (4 : Int) else 2) = tK u n p := by
        rw [k3, w32_id (by omega)]
        by_cases c : 6 < nE u n p - p
        · rw [if_pos (by omega), if_pos c]
        · rw [if_neg (by omega), if_neg c]
      have hkr := tK_rng (u := u) (n := n) (p := p)
      rw [hk, wrI_e (by omega), Int.toNat_natCast, w8_id (by omega)]
      refine WP_some.2 ⟨by rw [k1], ⟨?_, ?_, fun q => ?_, fun q => ?_⟩, cy.sI ⟨by omega, by omega, rfl⟩⟩
      · dsimp only; rw [gI_sI_eq, w32_id (by omega)]
      · dsimp only; rw [hI_sI_a (by decide)]; exact y13
      · dsimp only; rw [hI_sI_a (by decide), k2]
        refine y2 ?_
        by_cases c : 6 < nE u n p - p
        · rw [if_pos c] at k3; exact absurd k3 q
        · omega
      · rw [k3] at q; split at q <;> omega
    | false =>
      rw [if_neg (by decide)]
      obtain ⟨k1, k2, k3⟩ := tK_oth (n := n) hp hl hd
      have hc := chA_rng (n := n) t.u (p := p + 1)
      rw [show (p : Int) + 1 = ((p + 1 : Nat) : Int) by omega, m_byteAt tx (by omega), m_isSign (by omega)]
      simp only [bX_some, w32_id hc, w32_id (show -2147483648 ≤ u p ∧ u p < 2147483648 by omega), w32_b2i, b2i_eq0]
      have m37 : (bX (if u p = 60 then (if chA u n (p + 1) = 45 then some true else some false) else some false) fun b => if b = true then some (1 : Int) else some 0) = some (b2i (isAr u n p)) := by
        unfold isAr b2i
        by_cases q1 : u p = 60 <;> by_cases q2 : chA u n (p + 1) = 45 <;> simp [q1, q2, bX_some]
      have m39 : (bX (if u p = 61 then (if chA u n (p + 1) = 61 then some true else some false) else some false) fun b => if b = true then some (1 : Int) else some 0) = some (b2i (isEq u n p)) := by
        unfold isEq b2i
        by_cases q1 : u p = 61 <;> by_cases q2 : chA u n (p + 1) = 61 <;> simp [q1, q2, bX_some]
      rw [m37, bX_some, m39, bX_some]
      simp only [w32_b2i, b2i_eq0]
      have hkr := tK_rng (u := u) (n := n) (p := p)
      have mk : (bX (if isAr u n p = false then (if ¬ sgn (u p) = false then some true else some false) else some true) fun b => if b = true then some (3 : Int) else some 4) = some (tK u n p) := by
        rw [k3]
        cases isAr u n p <;> cases sgn (u p) <;> rfl
      have mv : (if ¬ isAr u n p = false then some (256 : Int) else if ¬ isEq u n p = false then some 257 else some (u p)) = some (tV u n p) := by
        rw [k2]
        cases isAr u n p <;> cases isEq u n p <;> rfl
      have me : (bX (if isAr u n p = false then (if ¬ isEq u n p = false then some true else some false) else some true) fun b => if b = true then some (2 : Int) else some 1) = some (((tE u n p : Nat) : Int) - (p : Int)) := by
        rw [k1]
        cases isAr u n p <;> cases isEq u n p <;> simp [bX_some] <;> omega
      have hvr : -1000 ≤ tV u n p ∧ tV u n p ≤ 1000 := by
        rw [k2]; split
        · omega
        · split <;> omega
      rw [mk, bX_some, wrI_e (by omega), Int.toNat_natCast, mv, bX_some, wrI_e (by omega), Int.toNat_natCast, me, bX_some, w8_id (by omega)]
      refine WP_some.2 ⟨by dsimp only; omega, ⟨?_, ?_, fun _ => ?_, fun q => ?_⟩, (cx.sI ⟨by omega, by omega, rfl⟩).sI ⟨by omega, by omega, rfl⟩⟩
      · dsimp only; rw [hI_sI_a (by decide), gI_sI_eq, w32_id (by omega)]
      · dsimp only; rw [hI_sI_a (by decide), hI_sI_a (by decide)]; exact x3
      · dsimp only; rw [gI_sI_eq, w32_id (by omega)]
      · rw [k3] at q; split at q <;> omega
theorem m_cutTape (t : TpM S u n) (hN : LstT u n N) (hNn : N ≤ n) : WP (mX23_cutTape S) (fun y => TkS u n y (N + 1) ∧ ChL PCt QCt S y) := by
  have hn := t.b
  unfold mX23_cutTape
  rw [wf_eq]
  have c1 : ChL PCt QCt S (sI S 2000 3 0) := ChL.refl.sI (Or.inr ⟨rfl, rfl⟩)
  have t1 : TpM (sI S 2000 3 0) u n := t.ch c1 (fun q => by unfold PCt at q; omega) (fun i q => by unfold PCt at q; omega)
  have hs0 : mX23_skip (sI S 2000 3 0) 0 = some ((skE u n 0 : Nat) : Int) := m_skip t1 (p := 0) (by omega)
  rw [hs0, bX_some]
  have hpt : ∀ {T : Nat} a i, PTk T a i → PCt a i := fun a i q => by unfold PTk at q; unfold PCt; omega
  have hqt : ∀ {T : Nat} a i, QTk T a i → QCt a i := fun a i q => q.1
  obtain ⟨M, hM⟩ : ∃ M, M = if tkK u n N = 4 then N + 1 else N := ⟨_, rfl⟩
  have hM1 : N ≤ M ∧ M ≤ N + 1 := by rw [hM]; split <;> omega
  have h45 := hN.2
  refine WP_call (R := fun y => gI y 2000 3 = (M : Int) ∧ TkS u n y M ∧ ChL PCt QCt S y) ?_ (fun y hy => ?_)
  · refine WP_cnt M (fun j s => s.1 = ((tkB u n j : Nat) : Int) ∧ s.2.1 = (if j = N + 1 then 1 else 0) ∧ gI s.2.2 2000 3 = (j : Int) ∧ TkS u n s.2.2 j ∧ ChL PCt QCt S s.2.2) (by show _ < 1000000000000; omega) ⟨rfl, rfl, by show gI (sI S 2000 3 _) 2000 3 = _; rw [gI_sI_eq]; rfl, fun i hi => absurd hi (by omega), c1⟩ (fun j s hj hs => ?_) (fun s hs => ?_)
    · obtain ⟨s1, s2, s3⟩ := s
      obtain ⟨a1, a2, a3, a4, a5⟩ := hs
      dsimp only at a1 a2 a3 a4 a5
      rw [if_neg (by omega)] at a2
      subst a1; subst a2
      have ts : TpM s3 u n := t.ch a5 (fun q => by unfold PCt at q; omega) (fun i q => by unfold PCt at q; omega)
      have hlt : tkB u n j < n := by
        by_cases e : j < N
        · exact hN.lt e
        · have e : j = N := by omega
          have e4 : tkK u n N = 4 := by
            by_cases q : tkK u n N = 4
            · exact q
            · rw [if_neg q] at hM; omega
          have : ¬ n ≤ tkB u n j := fun g => by
            have := (tK_5 (u := u)).2 g
            rw [e] at this
            have e4 : tK u n (tkB u n N) = 4 := e4
            omega
          omega
      unfold mX23_cutTape_L13
      dsimp only
      rw [ts.n, w32_id (by omega), w32_id (by omega), if_pos (by omega), w32_0, if_pos rfl, bX_some, if_pos rfl]
      refine WP_call (m_take ts hlt (by omega) a3) (fun x hx => ?_)
      obtain ⟨xv, x⟩ := x
      obtain ⟨x1, x2, x3⟩ := hx
      dsimp only at x1 x2 x3 ⊢
      subst x1
      have cx : ChL PCt QCt S x := a5.tr x3 hpt hqt
      have tx : TpM x u n := t.ch cx (fun q => by unfold PCt at q; omega) (fun i q => by unfold PCt at q; omega)
      have x03 : gI x 2000 3 = (j : Int) := by rw [x3.1 _ _ (fun q => by unfold PTk at q; omega)]; exact a3
      have hE := (tE_rng (u := u) hlt).2
      rw [m_skip tx hE, bX_some, x03, rdI_e (by omega), Int.toNat_natCast, wf_eq]
      refine WP_some.2 ⟨rfl, ?_, ?_, fun i hi => ?_, cx.sI (Or.inr ⟨rfl, rfl⟩)⟩
      · dsimp only
        rw [w32_gI, x2.1]
        by_cases e : j = N
        · have e4 : tkK u n N = 4 := by
            by_cases q : tkK u n N = 4
            · exact q
            · rw [if_neg q] at hM; omega
          rw [if_pos (show j + 1 = N + 1 by omega), e]; exact if_pos e4
        · rw [if_neg (show ¬ j + 1 = N + 1 by omega)]; exact if_neg (hN.1 j (by omega)).1
      · dsimp only; rw [gI_sI_eq, w32_id (by omega)]; omega
      · by_cases e : i = j
        · subst e
          exact x2.cg (fun a _ _ => hI_sI_a (by omega)) (gL_sI _ _ _ _ _ _)
        · exact (a4 i (by omega)).cg (fun a h1 h2 => by rw [hI_sI_a (by omega), x3.1 _ _ (fun q => e q.2.2)]) (by rw [gL_sI, x3.2.1 _ _ (fun q => e q.2)])
    · obtain ⟨s1, s2, s3⟩ := s
      obtain ⟨a1, a2, a3, a4, a5⟩ := hs
      dsimp only at a1 a2 a3 a4 a5
      subst a1; subst a2
      have ts : TpM s3 u n := t.ch a5 (fun q => by unfold PCt at q; omega) (fun i q => by unfold PCt at q; omega)
      have hle := tkB_le (u := u) (n := n) M
      unfold mX23_cutTape_L13
      dsimp only
      rw [ts.n, w32_id (by omega), w32_id (by omega)]
      by_cases e : tkK u n N = 4
      · rw [if_pos e] at hM
        rw [if_pos hM]
        by_cases c : tkB u n M < n
        · rw [if_pos (by omega), if_neg (by decide), bX_some, if_neg (by decide)]
          exact WP_some.2 ⟨a3, a4, a5⟩
        · rw [if_neg (by omega), bX_some, if_neg (by decide)]
          exact WP_some.2 ⟨a3, a4, a5⟩
      · rw [if_neg e] at hM
        have e5 : tK u n (tkB u n N) = 5 := by rcases h45 with q | q; exact absurd q e; exact q
        have := tK_5.1 e5
        rw [← hM] at this
        rw [if_neg (by omega), bX_some, if_neg (by decide)]
        exact WP_some.2 ⟨a3, a4, a5⟩
  · obtain ⟨y1, y2, y3⟩ := hy
    have ty : TpM y u n := t.ch y3 (fun q => by unfold PCt at q; omega) (fun i q => by unfold PCt at q; omega)
    rw [y1, wrI_e (by omega), Int.toNat_natCast, hI_sI_a (by decide), y1, hI_sI_a (by decide), ty.n, wrI_e (by omega), Int.toNat_natCast, hI_sI_a (by decide), hI_sI_a (by decide), y1, wrI_e (by omega), Int.toNat_natCast]
    refine WP_some.2 ⟨fun i hi => ?_, ((y3.sI (Or.inl (by omega))).sI (Or.inl (by omega))).sI (Or.inl (by omega))⟩
    by_cases e : i = M
    · have hM2 : M = N := by omega
      have e5 : tK u n (tkB u n N) = 5 := by
        rcases h45 with q | q
        · rw [if_pos q] at hM; omega
        · exact q
      have hge := tK_5.1 e5
      have hle := tkB_le (u := u) (n := n) N
      subst e
      rw [hM2]
      refine ⟨?_, ?_, fun _ => ?_, fun q => by omega⟩
      · rw [hI_sI_a (by decide), hI_sI_a (by decide), gI_sI_eq, e5]; rfl
      · rw [hI_sI_a (by decide), gI_sI_eq, w32_id (by omega)]; omega
      · rw [gI_sI_eq]; unfold tV; rw [if_pos hge]; rfl
    · exact (y2 i (by omega)).cg (fun a h1 h2 => by rw [hI_sI_i e, hI_sI_i e, hI_sI_i e]) (by rw [gL_sI, gL_sI, gL_sI])
end MCT
