/-! the reference joins values -/
def R32 (x : Int) : Prop := -2147483648 ≤ x ∧ x < 2147483648
theorem R32.x {x y : Int} : R32 (aXor x y) := aRng
theorem R32.w {x : Int} (h : R32 x) : w32 x = x := w32_id h
section MJN
variable {S x z y : Sto} {fa : Nat} {A : Nds} {a b c d : Int}
theorem andP_r (hA : A.length ≤ 1001) (hf : fa ≤ 13) (ha : R32 a) (hb : R32 b) : R32 (andP fa A a b).1 := by
  unfold andP
  dsimp only
  have hY : R32 (if a < b then b else a) := by split <;> assumption
  generalize (if a < b then a else b) = X
  generalize (if a < b then b else a) = Y at hY
  unfold R32 at *
  split
  · exact ⟨by show _ ≤ (0 : Int); omega, by show (0 : Int) < _; omega⟩
  · split
    · exact hY
    · have h1 := ixA_le (A := A) (p := (X, Y))
      split
      · show _ ≤ 2 * ((fa + _ : Nat) : Int) ∧ 2 * ((fa + _ : Nat) : Int) < _
        omega
      · split
        · exact ⟨by show _ ≤ (0 : Int); omega, by show (0 : Int) < _; omega⟩
        · show _ ≤ 2 * ((fa + _ : Nat) : Int) ∧ 2 * ((fa + _ : Nat) : Int) < _
          omega
theorem HshM.l (h : HshM S fa A) : A.length ≤ 1001 := h.1.2.2.2.2
theorem HshM.f (h : HshM S fa A) : fa ≤ 13 := h.1.2.2.2.1
theorem m_orP (h : HshM S fa A) (ha : R32 a) (hb : R32 b) : WP (mX23_or S a b) (fun y => y.1 = (orP fa A a b).1 ∧ R32 y.1 ∧ HshM y.2 fa (orP fa A a b).2 ∧ ChW PNd S y.2) := by
  unfold mX23_or
  refine WP_call (m_andP h (a := aXor a 1) (b := aXor b 1) R32.x R32.x) (fun y hy => WP_some.2 ⟨?_, R32.x, hy.2.1, hy.2.2⟩)
  rw [hy.1]; rfl
theorem PNd_i : ∀ a i, PNd a i → PNd a i := fun _ _ q => q
theorem m_xorP (h : HshM S fa A) (ha : R32 a) (hb : R32 b) : WP (mX23_xor S a b) (fun y => y.1 = (xorP fa A a b).1 ∧ R32 y.1 ∧ HshM y.2 fa (xorP fa A a b).2 ∧ ChW PNd S y.2) := by
  unfold mX23_xor
  refine WP_call (m_andP h (a := a) (b := aXor b 1) ha R32.x) (fun x1 h1 => ?_)
  obtain ⟨a1, a2, a3⟩ := h1
  refine WP_call (m_andP a2 (a := aXor a 1) (b := b) R32.x hb) (fun x2 h2 => ?_)
  obtain ⟨b1, b2, b3⟩ := h2
  have r1 : R32 x1.1 := by rw [a1]; exact andP_r h.l h.f ha R32.x
  have r2 : R32 x2.1 := by rw [b1]; exact andP_r a2.l h.f R32.x hb
  refine WP_call (m_orP b2 r1 r2) (fun x3 h3 => WP_some.2 ?_)
  obtain ⟨d1, d2, d3, d4⟩ := h3
  rw [a1, b1] at d1 d3
  exact ⟨d1, d2, d3, (a3.tr b3 PNd_i).tr d4 PNd_i⟩
/-- one bit -/
def mBt (p1 : Int) (S : Sto) (v3 v4 cr sm k : Int) : Option (Int × Int × Int × Sto) := if w32 p1 = 38 then bX (mX23_and S v3 v4) fun x5 => some (cr, sm, x5.1, x5.2) else if w32 p1 = 124 then bX (mX23_or S v3 v4) fun x6 => some (cr, sm, x6.1, x6.2) else if w32 p1 = 94 then bX (mX23_xor S v3 v4) fun x7 => some (cr, sm, x7.1, x7.2) else if w32 p1 = 43 then bX (mX23_xor S v3 v4) fun x8 => bX (mX23_xor x8.2 x8.1 cr) fun x9 => bX (mX23_and x9.2 v3 v4) fun x10 => bX (mX23_and x10.2 x8.1 cr) fun x11 => bX (mX23_or x11.2 x10.1 x11.1) fun x12 => some (x12.1, sm, x9.1, x12.2) else bX (mX23_xor S v3 v4) fun x13 => bX (if w32 k = 0 then some (aXor 1 x13.1, x13.2) else bX (mX23_and x13.2 sm (aXor 1 x13.1)) fun x14 => some (x14.1, x14.2)) fun y15 => some (cr, y15.1, 0, y15.2)
theorem join_eq {v1 p2 p3 p1 : Int} {s2 : Int × Int × Int × Sto} : mX23_join_L17 v1 p2 p3 p1 s2 = if w32 s2.2.2.1 < w32 v1 then rdI 8192 s2.2.2.2 2022 ((8 * p2) + s2.2.2.1) fun v3 => rdI 8192 s2.2.2.2 2022 ((8 * p3) + s2.2.2.1) fun v4 => bX (mBt p1 s2.2.2.2 v3 v4 s2.1 s2.2.1 s2.2.2.1) fun y16 => wrI 8192 y16.2.2.2 2022 ((8 * p2) + s2.2.2.1) y16.2.2.1 fun S17 => some (Sum.inl (y16.1, y16.2.1, s2.2.2.1 + 1, S17)) else some (Sum.inr (s2.2.1, s2.2.2.2)) := rfl
theorem m_bit (hc : c = 38 ∨ c = 124 ∨ c = 94 ∨ c = 43 ∨ c = 257) {s : JnS} (h : HshM S fa s.1) {v3 v4 : Int} (h3 : R32 v3) (h4 : R32 v4) (hcr : R32 s.2.1) (hsm : R32 s.2.2.1) {k : Nat} (hk : k ≤ 100) :
    WP (mBt c S v3 v4 s.2.1 s.2.2.1 (k : Int)) (fun y => y.1 = (bitP fa c k v3 v4 s).2.1 ∧ y.2.1 = (bitP fa c k v3 v4 s).2.2.1 ∧ (bitP fa c k v3 v4 s).2.2.2 = upF s.2.2.2 k y.2.2.1 ∧ HshM y.2.2.2 fa (bitP fa c k v3 v4 s).1 ∧ ChW PNd S y.2.2.2 ∧ R32 y.1 ∧ R32 y.2.1 ∧ R32 y.2.2.1) := by
  unfold mBt bitP
  rw [w32_id (x := c) (by omega), w32_id (x := (k : Int)) (by omega)]
  dsimp only
  by_cases g1 : c = 38
  · rw [if_pos g1, if_pos g1]
    refine WP_call (m_andP h h3 h4) (fun y hy => WP_some.2 ⟨rfl, rfl, by rw [hy.1], hy.2.1, hy.2.2, hcr, hsm, ?_⟩)
    show R32 y.1
    rw [hy.1]; exact andP_r h.l h.f h3 h4
  rw [if_neg g1, if_neg g1]
  by_cases g2 : c = 124
  · rw [if_pos g2, if_pos g2]
    exact WP_call (m_orP h h3 h4) (fun y hy => WP_some.2 ⟨rfl, rfl, by rw [hy.1], hy.2.2.1, hy.2.2.2, hcr, hsm, hy.2.1⟩)
  rw [if_neg g2, if_neg g2]
  by_cases g3 : c = 94
  · rw [if_pos g3, if_pos g3]
    exact WP_call (m_xorP h h3 h4) (fun y hy => WP_some.2 ⟨rfl, rfl, by rw [hy.1], hy.2.2.1, hy.2.2.2, hcr, hsm, hy.2.1⟩)
  rw [if_neg g3, if_neg g3]
  by_cases g4 : c = 43
  · rw [if_pos g4, if_pos g4]
    refine WP_call (m_xorP h h3 h4) (fun x8 h8 => ?_)
    obtain ⟨a1, a2, a3, a4⟩ := h8
    refine WP_call (m_xorP a3 a2 hcr) (fun x9 h9 => ?_)
    obtain ⟨b1, b2, b3, b4⟩ := h9
    refine WP_call (m_andP b3 h3 h4) (fun x10 h10 => ?_)
    obtain ⟨d1, d2, d3⟩ := h10
    have d4 : R32 x10.1 := by rw [d1]; exact andP_r b3.l h.f h3 h4
    refine WP_call (m_andP d2 a2 hcr) (fun x11 h11 => ?_)
    obtain ⟨e1, e2, e3⟩ := h11
    have e4 : R32 x11.1 := by rw [e1]; exact andP_r d2.l h.f a2 hcr
    refine WP_call (m_orP e2 d4 e4) (fun x12 h12 => WP_some.2 ?_)
    obtain ⟨f1, f2, f3, f4⟩ := h12
    rw [e1, d1, a1] at f1 f3
    rw [a1] at b1
    refine ⟨f1, rfl, by rw [b1], f3, (((a4.tr b4 PNd_i).tr d3 PNd_i).tr e3 PNd_i).tr f4 PNd_i, f2, hsm, b2⟩
  rw [if_neg g4, if_neg g4]
  refine WP_call (m_xorP h h3 h4) (fun x13 h13 => ?_)
  obtain ⟨a1, a2, a3, a4⟩ := h13
  by_cases g5 : k = 0
  · rw [if_pos (show (k : Int) = 0 by omega), bX_some, if_pos g5]
    exact WP_some.2 ⟨rfl, by rw [a1], rfl, a3, a4, hcr, R32.x, ⟨by show _ ≤ (0 : Int); omega, by show (0 : Int) < _; omega⟩⟩
  · rw [if_neg (show ¬ (k : Int) = 0 by omega), if_neg g5]
    refine WP_bX.2 (WP_bX.2 ((m_andP a3 hsm (b := aXor 1 x13.1) R32.x).mono (fun x14 h14 => WP_some.2 (WP_some.2 ?_))))
    obtain ⟨b1, b2, b3⟩ := h14
    have b4 : R32 x14.1 := by rw [b1]; exact andP_r a3.l h.f hsm R32.x
    rw [a1] at b1 b2
    exact ⟨rfl, b1, rfl, b2, a4.tr b3 PNd_i, hcr, b4, ⟨by show _ ≤ (0 : Int); omega, by show (0 : Int) < _; omega⟩⟩
def PJn (p a i : Nat) : Prop := PNd a i ∨ (a = 2022 ∧ 8 * p ≤ i ∧ i < 8 * p + 8)
/-- two values become one -/
theorem m_join (hc : c = 38 ∨ c = 124 ∨ c = 94 ∨ c = 43 ∨ c = 257) (h : HshM S fa A) {p q : Nat} (hp : p ≤ 1000) (hq : q ≤ 1000) (hpq : p ≠ q) {w : Int} (hw : gI S 2021 p = w) (hw8 : 1 ≤ w ∧ w ≤ 8) :
    WP (mX23_join S c (p : Int) (q : Int)) (fun y => ChW (PJn p) S y ∧ HshM y fa (joP fa c A w.toNat (fun i => gI S 2022 (8 * p + i)) (fun i => gI S 2022 (8 * q + i))).1 ∧ ∀ t, t < w.toNat → gI y 2022 (8 * p + t) = (joP fa c A w.toNat (fun i => gI S 2022 (8 * p + i)) (fun i => gI S 2022 (8 * q + i))).2 t) := by
  have r0 : R32 0 := ⟨by omega, by omega⟩
  have r1 : R32 1 := ⟨by omega, by omega⟩
  obtain ⟨W, eW⟩ : ∃ W : Nat, w = (W : Int) := ⟨w.toNat, by omega⟩
  subst eW
  rw [Int.toNat_natCast]
  generalize hF : (fun i => gI S 2022 (8 * p + i)) = F
  generalize hG : (fun i => gI S 2022 (8 * q + i)) = G
  unfold mX23_join
  rw [rdI_e (by omega), Int.toNat_natCast, hw]
  refine WP_call (R := fun y => ChW (PJn p) S y.2 ∧ y.1 = (jnP fa c A F G W).2.2.1 ∧ R32 y.1 ∧ HshM y.2 fa (jnP fa c A F G W).1 ∧ ∀ t, t < W → gI y.2 2022 (8 * p + t) = (jnP fa c A F G W).2.2.2 t) ?_ (fun y hy => ?_)
  · refine WP_cnt W (fun i s => s.2.2.1 = (i : Int) ∧ s.1 = (jnP fa c A F G i).2.1 ∧ s.2.1 = (jnP fa c A F G i).2.2.1 ∧ R32 s.1 ∧ R32 s.2.1 ∧ HshM s.2.2.2 fa (jnP fa c A F G i).1 ∧ (∀ t, t < i → gI s.2.2.2 2022 (8 * p + t) = (jnP fa c A F G i).2.2.2 t) ∧ ChW (fun a j => PNd a j ∨ (a = 2022 ∧ 8 * p ≤ j ∧ j < 8 * p + i)) S s.2.2.2) (by unfold cFU; omega) ⟨rfl, rfl, rfl, r0, r1, h, fun t ht => absurd ht (by omega), ChW.refl⟩ (fun i s hi hs => ?_) (fun s hs => ?_)
    · obtain ⟨sc, ss, sk, st⟩ := s
      obtain ⟨s1, s2, s3, s4, s5, s6, s7, s8⟩ := hs
      dsimp only at s1 s2 s3 s4 s5 s6 s7 s8
      subst s1
      subst s2
      subst s3
      have ei : ((8 : Int) * (p : Int) + (i : Int)) = ((8 * p + i : Nat) : Int) := by omega
      have ej : ((8 : Int) * (q : Int) + (i : Int)) = ((8 * q + i : Nat) : Int) := by omega
      have x1 : gI st 2022 (8 * p + i) = F i := by rw [s8.1 _ _ (fun w => by unfold PNd at w; omega), ← hF]
      have x2 : gI st 2022 (8 * q + i) = G i := by rw [s8.1 _ _ (fun w => by unfold PNd at w; omega), ← hG]
      rw [join_eq]
      dsimp only
      rw [w32_id (x := (i : Int)) (by omega), w32_id (x := (W : Int)) (by omega), if_pos (by omega), ei, rdI_e (by omega), Int.toNat_natCast, ej, rdI_e (by omega), Int.toNat_natCast, x1, x2]
      have rF : R32 (F i) := by rw [← x1]; exact gI_rng _ _ _
      have rG : R32 (G i) := by rw [← x2]; exact gI_rng _ _ _
      refine WP_call (m_bit hc s6 rF rG s4 s5 (k := i) (by omega)) (fun y hy => ?_)
      obtain ⟨y1, y2, y3, y4, y5, y6, y7, y8⟩ := hy
      rw [wrI_e (by omega), Int.toNat_natCast]
      have cy : ChW (fun a j => PNd a j ∨ (a = 2022 ∧ 8 * p ≤ j ∧ j < 8 * p + (i + 1))) S (sI y.2.2.2 2022 (8 * p + i) y.2.2.1) := (((ChW.refl.tr s8 (fun a j w => by rcases w with w | w; exact Or.inl w; exact Or.inr ⟨w.1, w.2.1, by omega⟩)).tr y5 (fun a j w => Or.inl w))).sI (Or.inr ⟨rfl, by omega, by omega⟩)
      refine WP_some.2 ⟨by show (i : Int) + 1 = _; omega, y1, y2, y6, y7, ?_, fun t ht => ?_, cy⟩
      · exact y4.cg (fun a j w => hI_sI_a (by unfold PNd at w; omega))
      · show gI (sI y.2.2.2 2022 (8 * p + i) y.2.2.1) 2022 (8 * p + t) = (bitP fa c i (F i) (G i) (jnP fa c A F G i)).2.2.2 t
        rw [y3, hI_sI]
        unfold upF
        by_cases e : t = i
        · rw [if_pos ⟨rfl, by omega⟩, if_pos e, y8.w]
        · rw [if_neg (fun w => by omega), if_neg e, y5.1 _ _ (fun w => by unfold PNd at w; omega)]
          exact s7 t (by omega)
    · obtain ⟨sc, ss, sk, st⟩ := s
      obtain ⟨s1, s2, s3, s4, s5, s6, s7, s8⟩ := hs
      dsimp only at s1 s2 s3 s4 s5 s6 s7 s8
      subst s1
      rw [join_eq]
      dsimp only
      rw [if_neg (by omega)]
      exact WP_some.2 ⟨ChW.refl.tr s8 (fun a j w => by rcases w with w | w; exact Or.inl w; exact Or.inr ⟨w.1, w.2.1, by omega⟩), s3, s5, s6, s7⟩
  · obtain ⟨y1, y2, y3, y4, y5⟩ := hy
    have e0 : ((8 : Int) * (p : Int)) = ((8 * p : Nat) : Int) := by omega
    rw [w32_id (x := c) (by omega)]
    unfold joP
    by_cases g : c = 257
    · rw [if_pos g, bX_some, e0, wrI_e (by omega), Int.toNat_natCast, if_pos g]
      refine WP_some.2 ⟨y1.sI (Or.inr ⟨rfl, by omega, by omega⟩), y4.cg (fun a j w => hI_sI_a (by unfold PNd at w; omega)), fun t ht => ?_⟩
      show gI (sI y.2 2022 (8 * p) y.1) 2022 (8 * p + t) = upF _ 0 _ t
      unfold upF
      rw [hI_sI]
      by_cases e : t = 0
      · rw [if_pos ⟨rfl, by omega⟩, if_pos e, y3.w, y2]
      · rw [if_neg (fun w => by omega), if_neg e]; exact y5 t ht
    · rw [if_neg g, e0, rdI_e (by omega), Int.toNat_natCast, bX_some, wrI_e (by omega), Int.toNat_natCast, if_neg g]
      refine WP_some.2 ⟨y1.sI (Or.inr ⟨rfl, by omega, by omega⟩), y4.cg (fun a j w => hI_sI_a (by unfold PNd at w; omega)), fun t ht => ?_⟩
      show gI (sI y.2 2022 (8 * p) (gI y.2 2022 (8 * p))) 2022 (8 * p + t) = _
      rw [hI_sI]
      by_cases e : t = 0
      · rw [if_pos ⟨rfl, by omega⟩, w32_gI, e]
        have := y5 0 (by omega)
        rw [Nat.add_zero] at this
        exact this
      · rw [if_neg (fun w => by omega)]; exact y5 t ht
/-- a choice -/
theorem m_choice (h : HshM S fa A) {p : Nat} (hp : p ≤ 1000) {w : Int} (hw : gI S 2021 (p + 1) = w) (hw8 : 1 ≤ w ∧ w ≤ 8) :
    WP (mX23_choice S (p : Int)) (fun y => ChW (PJn p) S y ∧ HshM y fa (cnP fa A (gI S 2022 (8 * p)) (fun i => gI S 2022 (8 * (p + 1) + i)) (fun i => gI S 2022 (8 * (p + 2) + i)) w.toNat).1 ∧ ∀ t, t < w.toNat → gI y 2022 (8 * p + t) = (cnP fa A (gI S 2022 (8 * p)) (fun i => gI S 2022 (8 * (p + 1) + i)) (fun i => gI S 2022 (8 * (p + 2) + i)) w.toNat).2 t) := by
  obtain ⟨W, eW⟩ : ∃ W : Nat, w = (W : Int) := ⟨w.toNat, by omega⟩
  subst eW
  rw [Int.toNat_natCast]
  generalize hF : (fun i => gI S 2022 (8 * (p + 1) + i)) = F
  generalize hG : (fun i => gI S 2022 (8 * (p + 2) + i)) = G
  have rB : R32 (gI S 2022 (8 * p)) := gI_rng _ _ _
  obtain ⟨B, hB⟩ : ∃ B, gI S 2022 (8 * p) = B := ⟨_, rfl⟩
  rw [hB] at rB ⊢
  have e0 : ((8 : Int) * (p : Int)) = ((8 * p : Nat) : Int) := by omega
  unfold mX23_choice
  rw [e0, rdI_e (by omega), Int.toNat_natCast, hB]
  refine WP_bX.2 (WP_cnt W (fun i s => s.1 = (i : Int) ∧ HshM s.2 fa (cnP fa A B F G i).1 ∧ (∀ t, t < i → gI s.2 2022 (8 * p + t) = (cnP fa A B F G i).2 t) ∧ ChW (fun a j => PNd a j ∨ (a = 2022 ∧ 8 * p ≤ j ∧ j < 8 * p + i)) S s.2) (by unfold cFU; omega) ⟨rfl, h, fun t ht => absurd ht (by omega), ChW.refl⟩ (fun i s hi hs => ?_) (fun s hs => ?_))
  · obtain ⟨sk, st⟩ := s
    obtain ⟨s1, s2, s3, s4⟩ := hs
    dsimp only at s1 s2 s3 s4
    subst s1
    have ep : ((p : Int) + 1) = ((p + 1 : Nat) : Int) := by omega
    have e1 : (((8 * p : Nat) : Int) + 8 + (i : Int)) = ((8 * (p + 1) + i : Nat) : Int) := by omega
    have e2 : (((8 * p : Nat) : Int) + 16 + (i : Int)) = ((8 * (p + 2) + i : Nat) : Int) := by omega
    have e3 : (((8 * p : Nat) : Int) + (i : Int)) = ((8 * p + i : Nat) : Int) := by omega
    have x1 : gI st 2022 (8 * (p + 1) + i) = F i := by rw [s4.1 _ _ (fun w => by unfold PNd at w; omega), ← hF]
    have x2 : gI st 2022 (8 * (p + 2) + i) = G i := by rw [s4.1 _ _ (fun w => by unfold PNd at w; omega), ← hG]
    have rF : R32 (F i) := by rw [← x1]; exact gI_rng _ _ _
    have rG : R32 (G i) := by rw [← x2]; exact gI_rng _ _ _
    unfold mX23_choice_L12
    dsimp only
    rw [ep, rdI_e (by omega), Int.toNat_natCast, s4.1 2021 _ (fun w => by unfold PNd at w; omega), hw, w32_id (x := (i : Int)) (by omega), w32_id (x := (W : Int)) (by omega), if_pos (by omega), e0, e1, rdI_e (by omega), Int.toNat_natCast, x1]
    refine WP_call (m_andP s2 rB rF) (fun x5 h5 => ?_)
    obtain ⟨a1, a2, a3⟩ := h5
    rw [e2, rdI_e (by omega), Int.toNat_natCast, a3.1 2022 _ (fun w => by unfold PNd at w; omega), x2]
    refine WP_call (m_andP a2 (a := aXor B 1) R32.x rG) (fun x7 h7 => ?_)
    obtain ⟨b1, b2, b3⟩ := h7
    have r1 : R32 x5.1 := by rw [a1]; exact andP_r s2.l h.f rB rF
    have r2 : R32 x7.1 := by rw [b1]; exact andP_r a2.l h.f R32.x rG
    refine WP_call (m_orP b2 r1 r2) (fun x8 h8 => ?_)
    obtain ⟨d1, d2, d3, d4⟩ := h8
    rw [a1, b1] at d1 d3
    rw [e3, wrI_e (by omega), Int.toNat_natCast]
    have cy : ChW PNd st x8.2 := (a3.tr b3 PNd_i).tr d4 PNd_i
    refine WP_some.2 ⟨by show (i : Int) + 1 = _; omega, ?_, fun t ht => ?_, (((ChW.refl.tr s4 (fun a j w => by rcases w with w | w; exact Or.inl w; exact Or.inr ⟨w.1, w.2.1, by omega⟩)).tr cy (fun a j w => Or.inl w))).sI (Or.inr ⟨rfl, by omega, by omega⟩)⟩
    · exact d3.cg (fun a j w => hI_sI_a (by unfold PNd at w; omega))
    · show gI (sI x8.2 2022 (8 * p + i) x8.1) 2022 (8 * p + t) = upF (cnP fa A B F G i).2 i (choP fa (cnP fa A B F G i).1 B (F i) (G i)).1 t
      rw [hI_sI]
      unfold upF
      by_cases e : t = i
      · rw [if_pos ⟨rfl, by omega⟩, if_pos e, d2.w, d1]; rfl
      · rw [if_neg (fun w => by omega), if_neg e, cy.1 _ _ (fun w => by unfold PNd at w; omega)]
        exact s3 t (by omega)
  · obtain ⟨sk, st⟩ := s
    obtain ⟨s1, s2, s3, s4⟩ := hs
    dsimp only at s1 s2 s3 s4
    subst s1
    have ep : ((p : Int) + 1) = ((p + 1 : Nat) : Int) := by omega
    unfold mX23_choice_L12
    dsimp only
    rw [ep, rdI_e (by omega), Int.toNat_natCast, s4.1 2021 _ (fun w => by unfold PNd at w; omega), hw, if_neg (by omega)]
    exact WP_some.2 (WP_some.2 ⟨ChW.refl.tr s4 (fun a j w => by rcases w with w | w; exact Or.inl w; exact Or.inr ⟨w.1, w.2.1, by omega⟩), s2, s3⟩)
end MJN
