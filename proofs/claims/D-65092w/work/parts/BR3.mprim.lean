/-! the reference's reader over tokens -/
def MsQ (u : Nat → Int) (n N : Nat) (S : Sto) : Qq → Prop
  | .inl j => gI S 2000 10 = 0 ∧ gI S 2000 9 = (j : Int) ∧ j ≤ N ∧ tkK u n j ≠ 4
  | .inr e => gI S 2000 10 = e.1 ∧ e.1 ≠ 0 ∧ gI S 2000 11 = e.2 ∧ ∃ j : Nat, j ≤ N ∧ gI S 2000 9 = (j : Int)
def PG9 (a i : Nat) : Prop := a = 2000 ∧ 9 ≤ i ∧ i ≤ 11
/-- the tokens are there -/
def MTk (u : Nat → Int) (n N : Nat) (S : Sto) : Prop := TkS u n S (N + 1) ∧ (∀ i, i < n → 0 ≤ u i ∧ u i < 256) ∧ n ≤ 4000 ∧ N ≤ n ∧ LstT u n N
theorem MTk.s {u : Nat → Int} {n N : Nat} {S : Sto} (h : MTk u n N S) : TkS u n S (N + 1) := h.1
theorem MTk.u {u : Nat → Int} {n N : Nat} {S : Sto} (h : MTk u n N S) : ∀ i, i < n → 0 ≤ u i ∧ u i < 256 := h.2.1
theorem MTk.b {u : Nat → Int} {n N : Nat} {S : Sto} (h : MTk u n N S) : n ≤ 4000 := h.2.2.1
theorem MTk.e {u : Nat → Int} {n N : Nat} {S : Sto} (h : MTk u n N S) : N ≤ n := h.2.2.2.1
theorem MTk.l {u : Nat → Int} {n N : Nat} {S : Sto} (h : MTk u n N S) : LstT u n N := h.2.2.2.2
section MPR
variable {S z y : Sto} {u : Nat → Int} {n N : Nat} {q : Qq} {ps : List Nat}
theorem MTk.ch (h : MTk u n N S) {P : Nat → Nat → Prop} (g : ChW P S z) (e : ∀ a i, 2002 ≤ a → a ≤ 2006 → ¬ P a i) : MTk u n N z :=
  ⟨fun i hi => (h.s i hi).cg (fun a h1 h2 => g.1 _ _ (e a i h1 h2)) (g.2.1 _ _), h.u, h.b, h.e, h.l⟩
theorem MsQ.cg (h : MsQ u n N S q) (g : ∀ i, 9 ≤ i → i ≤ 11 → gI z 2000 i = gI S 2000 i) : MsQ u n N z q := by
  cases q with
  | inl j => exact ⟨(g 10 (by omega) (by omega)).trans h.1, (g 9 (by omega) (by omega)).trans h.2.1, h.2.2⟩
  | inr e => obtain ⟨h1, h2, h3, j, h4, h5⟩ := h; exact ⟨(g 10 (by omega) (by omega)).trans h1, h2, (g 11 (by omega) (by omega)).trans h3, j, h4, (g 9 (by omega) (by omega)).trans h5⟩
theorem MsQ.ch (h : MsQ u n N S q) {P : Nat → Nat → Prop} (g : ChW P S z) (e : ∀ i, 9 ≤ i → i ≤ 11 → ¬ P 2000 i) : MsQ u n N z q := h.cg (fun i h1 h2 => g.1 _ _ (e i h1 h2))
theorem MsQ.ix (h : MsQ u n N S q) : ∃ j : Nat, j ≤ N ∧ gI S 2000 9 = (j : Int) ∧ ∀ i, q = .inl i → i = j := by
  cases q with
  | inl j => exact ⟨j, h.2.2.1, h.2.1, fun i e => by injection e with e; exact e.symm⟩
  | inr e => obtain ⟨h1, h2, h3, j, h4, h5⟩ := h; exact ⟨j, h4, h5, fun i e => by cases e⟩
theorem MTk.k (h : MTk u n N S) {j : Nat} (hj : j ≤ N) {τ : Type} {f : Int → Option τ} : rdI 65537 S 2002 (j : Int) f = f (tkK u n j) := by
  have := h.b; have := h.e
  rw [rdI_e (by omega), Int.toNat_natCast, (h.s j (by omega)).1]; rfl
theorem MTk.p (h : MTk u n N S) {j : Nat} (hj : j ≤ N) {τ : Type} {f : Int → Option τ} : rdI 65537 S 2003 (j : Int) f = f (tkB u n j : Int) := by
  have := h.b; have := h.e
  rw [rdI_e (by omega), Int.toNat_natCast, (h.s j (by omega)).2.1]
theorem MTk.v (h : MTk u n N S) {j : Nat} (hj : j ≤ N) (h4 : tkK u n j ≠ 4) {τ : Type} {f : Int → Option τ} : rdI 65537 S 2004 (j : Int) f = f (tkV u n j) := by
  have := h.b; have := h.e
  rw [rdI_e (by omega), Int.toNat_natCast, (h.s j (by omega)).2.2.1 h4]; rfl
theorem tkK_id (j : Nat) : w32 (tkK u n j) = tkK u n j := by
  have := tK_rng (u := u) (n := n) (p := tkB u n j)
  unfold tkK; exact w32_id (by omega)
theorem m_isRight (h : MsQ u n N S q) : mX23_isRight S = some (b2i (okQ q)) := by
  unfold mX23_isRight
  cases q with
  | inl j => rw [h.1, if_pos (by decide)]; rfl
  | inr e => rw [w32_gI, h.1, if_neg h.2.1]; rfl
theorem m_isAt (t : MTk u n N S) {j : Nat} (hj : j ≤ N) (h9 : gI S 2000 9 = (j : Int)) {c : Int} (hc : 0 ≤ c ∧ c < 1000) : mX23_isAt S c = some (b2i (isS u n c j)) := by
  unfold mX23_isAt
  rw [h9, t.k hj, tkK_id]
  unfold isS
  by_cases k : tkK u n j = 3
  · have hv : 0 ≤ tkV u n j ∧ tkV u n j ≤ 257 := by
      have := tK_3 t.u (show tK u n (tkB u n j) = 3 from k)
      exact ⟨this.2.1, this.2.2.1⟩
    rw [if_pos k, t.v hj (by omega), w32_id (by omega), w32_id (by omega)]
    by_cases e : tkV u n j = c
    · rw [if_pos e, decide_eq_true ⟨k, e⟩]; rfl
    · rw [if_neg e, decide_eq_false (fun z => e z.2)]; rfl
  · rw [if_neg k, decide_eq_false (fun z => k z.1)]; rfl
theorem m_isWord (t : MTk u n N S) {j : Nat} (hj : j ≤ N) (h9 : gI S 2000 9 = (j : Int)) {w : Int} (hw : 0 ≤ w ∧ w < 1000) : mX23_isWord S w = some (b2i (decide (tkK u n j = 6 ∧ tkV u n j = w))) := by
  unfold mX23_isWord
  rw [h9, t.k hj, tkK_id]
  by_cases k : tkK u n j = 6
  · have hv : 0 ≤ tkV u n j ∧ tkV u n j ≤ 7 := by
      have h1 := (tK_1 (Or.inr (show tK u n (tkB u n j) = 6 from k))).2.2.2.2.1
      unfold tkV; rw [h1]; exact wdOf_rng
    rw [if_pos k, t.v hj (by omega), w32_id (by omega), w32_id (by omega)]
    by_cases e : tkV u n j = w
    · rw [if_pos e, decide_eq_true ⟨k, e⟩]; rfl
    · rw [if_neg e, decide_eq_false (fun z => e z.2)]; rfl
  · rw [if_neg k, decide_eq_false (fun z => k z.1)]; rfl
def PF10 (a i : Nat) : Prop := a = 2000 ∧ (i = 10 ∨ i = 11)
theorem PF10_G9 : ∀ a i, PF10 a i → PG9 a i := fun a i q => by unfold PF10 at q; unfold PG9; omega
theorem PG9_tk : ∀ a i, 2002 ≤ a → a ≤ 2006 → ¬ PG9 a i := fun a i h1 h2 q => by unfold PG9 at q; omega
theorem PF10_tk : ∀ a i, 2002 ≤ a → a ≤ 2006 → ¬ PF10 a i := fun a i h1 h2 q => by unfold PF10 at q; omega
/-- a fault at a token: the one of now (or one at which the reader stood when it was right) -/
theorem m_flawAt (t : MTk u n N S) (h : MsQ u n N S q) {i : Nat} (hi : i ≤ N) (h4 : (∃ j, q = .inl j) → tkK u n i ≠ 4) {c : Int} (hc : 1 ≤ c ∧ c ≤ 1000) : WP (mX23_flaw S c (i : Int)) (fun y => MsQ u n N y (bq q (fun _ => .inr (c, (tkB u n i : Int)))) ∧ ChW PF10 S y) := by
  have := t.b; have := t.e
  have hb := tkB_le (u := u) (n := n) i
  unfold mX23_flaw
  cases q with
  | inl j =>
    obtain ⟨h1, h2, h3, _⟩ := h
    rw [h1, if_pos (by decide), t.k hi, tkK_id, if_neg (h4 ⟨j, rfl⟩), wf_eq]
    have cz : ChW PF10 S (sI S 2000 10 c) := ChW.refl.sI ⟨rfl, Or.inl rfl⟩
    rw [(t.ch cz PF10_tk).p hi, wf_eq, bX_some]
    refine WP_some.2 ⟨⟨?_, ?_, ?_, j, h3, ?_⟩, cz.sI ⟨rfl, Or.inr rfl⟩⟩
    · rw [hI_sI_i (by decide), gI_sI_eq, w32_id (by omega)]
    · show c ≠ 0; omega
    · rw [gI_sI_eq, w32_id (by omega)]
    · rw [hI_sI_i (by decide), hI_sI_i (by decide)]; exact h2
  | inr e =>
    rw [w32_gI, h.1, if_neg h.2.1, bX_some]
    exact WP_some.2 ⟨h, ChW.refl⟩
theorem m_flaw (t : MTk u n N S) (h : MsQ u n N S q) {c : Int} (hc : 1 ≤ c ∧ c ≤ 1000) : WP (mX23_flaw S c (gI S 2000 9)) (fun y => MsQ u n N y (bq q (flT u n c)) ∧ ChW PF10 S y) := by
  obtain ⟨j, h1, h2, h3⟩ := h.ix
  rw [h2]
  refine (m_flawAt t h h1 (fun g => ?_) hc).mono (fun y hy => ⟨?_, hy.2⟩)
  · obtain ⟨i, hi⟩ := g
    subst hi
    have := h3 i rfl
    subst this
    exact h.2.2.2
  · have hy1 := hy.1
    cases q with
    | inl i => have := h3 i rfl; subst this; exact hy1
    | inr e => exact hy1
/-- on -/
theorem m_go (t : MTk u n N S) (h : MsQ u n N S q) (hq : ∀ j, q = .inl j → j < N) : WP (mX23_go S) (fun y => MsQ u n N y (bq q (nxT u n)) ∧ ChW PG9 S y) := by
  have hb := t.b; have he := t.e
  unfold mX23_go
  cases q with
  | inr e =>
    rw [w32_gI, h.1, if_neg h.2.1, bX_some]
    exact WP_some.2 ⟨h, ChW.refl⟩
  | inl j =>
    have hj := hq j rfl
    obtain ⟨h1, h2, h3, _⟩ := h
    rw [h1, if_pos (by decide), wf_eq, h2]
    generalize hx : sI S 2000 9 ((j : Int) + 1) = x
    have cx : ChW PG9 S x := by rw [← hx]; exact ChW.refl.sI ⟨rfl, by omega, by omega⟩
    have tx := t.ch cx PG9_tk
    have x9 : gI x 2000 9 = ((j + 1 : Nat) : Int) := by rw [← hx, gI_sI_eq, w32_id (by omega)]; omega
    have x10 : gI x 2000 10 = 0 := by rw [← hx, hI_sI_i (by decide)]; exact h1
    unfold mX23_readNext
    rw [x9, tx.k (by omega), tkK_id]
    show WP (bX (bX (bX (if tkK u n (j + 1) = 4 then _ else _) _) _) _) _
    by_cases e : tkK u n (j + 1) = 4
    · rw [if_pos e]
      have hbn := tkB_le (u := u) (n := n) (j + 1)
      have c2 : ChW PF10 x (sI x 2000 10 1) := ChW.refl.sI ⟨rfl, Or.inl rfl⟩
      have ef : mX23_flaw x 1 ((j + 1 : Nat) : Int) = some (sI (sI x 2000 10 1) 2000 11 (tkB u n (j + 1) : Int)) := by
        unfold mX23_flaw
        rw [x10, if_pos (by decide), tx.k (by omega), tkK_id, if_pos e, wf_eq, (tx.ch c2 PF10_tk).p (by omega), wf_eq, bX_some]
      rw [ef, bX_some, bX_some, bX_some, bX_some]
      refine WP_some.2 ⟨?_, (cx.sI ⟨rfl, by omega, by omega⟩).sI ⟨rfl, by omega, by omega⟩⟩
      show MsQ u n N _ (nxT u n j)
      unfold nxT
      rw [if_pos e]
      refine ⟨?_, (show (1 : Int) ≠ 0 by decide), ?_, j + 1, by omega, ?_⟩
      · rw [hI_sI_i (by decide), gI_sI_eq]; rfl
      · rw [gI_sI_eq, w32_id (by omega)]
      · rw [hI_sI_i (by decide), hI_sI_i (by decide)]; exact x9
    · rw [if_neg e, bX_some, bX_some, bX_some]
      refine WP_some.2 ⟨?_, cx⟩
      show MsQ u n N x (nxT u n j)
      unfold nxT
      rw [if_neg e]
      exact ⟨x10, x9, by omega, e⟩
theorem MTk.g9 (h : MTk u n N S) (g : ChW PG9 S z) : MTk u n N z := h.ch g PG9_tk
theorem m_sign (t : MTk u n N S) (h : MsQ u n N S q) {c : Int} (hc : 0 ≤ c ∧ c < 1000) : WP (mX23_sign S c) (fun y => MsQ u n N y (tkT u n c q) ∧ ChW PG9 S y) := by
  obtain ⟨j, h1, h2, h3⟩ := h.ix
  unfold mX23_sign
  rw [m_isAt t h1 h2 hc, bX_some, bIf]
  by_cases e : isS u n c j = true
  · rw [if_pos e]
    have hlt := t.l.le (i := j) (by rw [isS_K e]; decide) h1
    refine WP_bX.2 (WP_call (m_go t h (fun i hi => by have := h3 i hi; omega)) (fun y hy => WP_some.2 (WP_some.2 ⟨?_, hy.2⟩)))
    have hy1 := hy.1
    cases q with
    | inr f => exact hy1
    | inl i =>
      have := h3 i rfl; subst this
      unfold tkT bq; dsimp only; rw [if_pos e]; exact hy1
  · rw [if_neg e]
    refine WP_bX.2 (WP_call (m_flaw t h (by omega)) (fun y hy => WP_some.2 (WP_some.2 ⟨?_, ChW.refl.tr hy.2 PF10_G9⟩)))
    have hy1 := hy.1
    cases q with
    | inr f => exact hy1
    | inl i =>
      have := h3 i rfl; subst this
      unfold tkT bq; dsimp only; rw [if_neg e]; exact hy1
def duT (u : Nat → Int) (n : Nat) (k : Int) (q : Qq) : Qq := bq q (fun j => if tkK u n j = k then .inl j else flT u n 2 j)
theorem m_due (t : MTk u n N S) (h : MsQ u n N S q) {k : Int} (hk : 0 ≤ k ∧ k ≤ 10) : WP (mX23_due S k) (fun y => MsQ u n N y.2 (duT u n k q) ∧ ChW PF10 S y.2 ∧ y.1 = gI S 2000 9 ∧ gI y.2 2000 9 = gI S 2000 9) := by
  obtain ⟨j, h1, h2, h3⟩ := h.ix
  unfold mX23_due
  rw [h2, t.k h1, tkK_id, w32_id (by omega)]
  by_cases e : tkK u n j = k
  · rw [if_neg (fun g => g e), bX_some, h2]
    refine WP_some.2 ⟨?_, ChW.refl, rfl, h2⟩
    cases q with
    | inr f => exact h
    | inl i => have := h3 i rfl; subst this; unfold duT bq; dsimp only; rw [if_pos e]; exact h
  · rw [if_pos e]
    have hfl := m_flaw t h (c := 2) (by omega)
    rw [h2] at hfl
    refine WP_bX.2 (WP_call hfl (fun y hy => WP_some.2 ?_))
    have e9 : gI y 2000 9 = (j : Int) := by rw [hy.2.1 _ _ (fun q => by unfold PF10 at q; omega)]; exact h2
    refine WP_some.2 ⟨?_, hy.2, e9, e9⟩
    have hy1 := hy.1
    cases q with
    | inr f => exact hy1
    | inl i => have := h3 i rfl; subst this; unfold duT bq; dsimp only; rw [if_neg e]; exact hy1
/-- two names -/
theorem nm_bytes {i : Nat} (h : tkK u n i = 1) : ∀ t, t < tkE u n i - tkB u n i → 1 ≤ u (tkB u n i + t) ∧ u (tkB u n i + t) < 128 := by
  obtain ⟨h1, h2, h3, h4, h5, h6, h7⟩ := tK_1 (Or.inl (show tK u n (tkB u n i) = 1 from h))
  intro t ht
  unfold tkE at ht
  rw [h3] at ht
  have := name_rng ht
  omega
theorem smN_iff {i j : Nat} (hi : tkK u n i = 1) (hj : tkK u n j = 1) : smNm u n i j ↔ ∀ t, t < 12 → fB u (tkB u n i) (tkE u n i) t = fB u (tkB u n j) (tkE u n j) t := by
  have b1 := nm_bytes hi
  have b2 := nm_bytes hj
  have l1 := nm_len hi
  have l2 := nm_len hj
  constructor
  · intro g t _
    unfold fB
    rw [g.1]
    by_cases c : t < tkE u n j - tkB u n j
    · rw [if_pos c, if_pos c, g.2 t (by rw [g.1]; exact c)]
    · rw [if_neg c, if_neg c]
  · intro g
    have hlen : tkE u n i - tkB u n i = tkE u n j - tkB u n j := by
      rcases Nat.lt_trichotomy (tkE u n i - tkB u n i) (tkE u n j - tkB u n j) with c | c | c
      · have h1 := g (tkE u n i - tkB u n i) (by omega)
        rw [(fB_pos b1).2 (Nat.le_refl _)] at h1
        have := (fB_pos b2).1 h1.symm; omega
      · exact c
      · have h1 := g (tkE u n j - tkB u n j) (by omega)
        rw [(fB_pos b2).2 (Nat.le_refl _)] at h1
        have := (fB_pos b1).1 h1; omega
    refine ⟨hlen, fun t ht => ?_⟩
    have h1 := g t (by omega)
    unfold fB at h1
    rw [if_pos ht, if_pos (by omega)] at h1
    have := b1 t ht; have := b2 t (by omega); omega
theorem m_isSame (t : MTk u n N S) {i j : Nat} (hi : i ≤ N) (hj : j ≤ N) (ki : tkK u n i = 1) (kj : tkK u n j = 1) : mX23_isSame S (i : Int) (j : Int) = some (b2i (smB u n i j)) := by
  have := t.b; have := t.e
  obtain ⟨p1, w1⟩ := (t.s i (by omega)).2.2.2 ki
  obtain ⟨p2, w2⟩ := (t.s j (by omega)).2.2.2 kj
  have f1 := fun t => fB_lt (nm_bytes ki) t
  have f2 := fun t => fB_lt (nm_bytes kj) t
  have p1 : isPk (gL S 2005 i) (fB u (tkB u n i) (tkE u n i)) := p1
  have p2 : isPk (gL S 2005 j) (fB u (tkB u n j) (tkE u n j)) := p2
  have w1 : gI S 2006 i = (w4 (fB u (tkB u n i) (tkE u n i)) : Int) := w1
  have w2 : gI S 2006 j = (w4 (fB u (tkB u n j) (tkE u n j)) : Int) := w2
  unfold mX23_isSame
  rw [rdL_e (by omega), rdL_e (by omega), Int.toNat_natCast, Int.toNat_natCast]
  have e8 := p1.eq p2 (fun t => by have := f1 t; omega) (fun t => by have := f2 t; omega)
  have h8 := f1 8; have h9 := f1 9; have h10 := f1 10; have h11 := f1 11
  have g8 := f2 8; have g9 := f2 9; have g10 := f2 10; have g11 := f2 11
  have key : (w32 (lCmp (gL S 2005 i) (gL S 2005 j)) = 0 ∧ gI S 2006 i = gI S 2006 j) ↔ smNm u n i j := by
    rw [smN_iff ki kj, lCmp_eq0, e8, w1, w2]
    constructor
    · rintro ⟨c1, c2⟩ t ht
      by_cases c : t < 8
      · exact c1 t c
      · have c2 : w4 (fB u (tkB u n i) (tkE u n i)) = w4 (fB u (tkB u n j) (tkE u n j)) := by omega
        unfold w4 at c2
        have : t = 8 ∨ t = 9 ∨ t = 10 ∨ t = 11 := by omega
        rcases this with e | e | e | e <;> subst e <;> omega
    · intro c
      refine ⟨fun t ht => c t (by omega), ?_⟩
      unfold w4
      rw [c 8 (by omega), c 9 (by omega), c 10 (by omega), c 11 (by omega)]
  by_cases c1 : w32 (lCmp (gL S 2005 i) (gL S 2005 j)) = 0
  · rw [if_pos c1, rdI_e (by omega), rdI_e (by omega), Int.toNat_natCast, Int.toNat_natCast, w32_gI, w32_gI]
    by_cases c2 : gI S 2006 i = gI S 2006 j
    · rw [if_pos c2, smB_t (key.1 ⟨c1, c2⟩)]; rfl
    · rw [if_neg c2, smB_f (fun q => c2 (key.2 q).2)]; rfl
  · rw [if_neg c1, smB_f (fun q => c1 (key.2 q).1)]; rfl
end MPR
