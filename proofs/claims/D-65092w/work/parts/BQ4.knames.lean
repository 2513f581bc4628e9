/-! the class's names -/
/-- a name is among those held -/
def inNm (u : Nat → Int) (n : Nat) (ps : List Nat) (j : Nat) : Bool := ps.any (fun i => smB u n i j)
/-- the first of the names held that is the same, or -1 -/
def FdN (u : Nat → Int) (n : Nat) (ps : List Nat) (j : Nat) (r : Int) : Prop := (r = -1 ∧ inNm u n ps j = false) ∨ (∃ i : Nat, i < ps.length ∧ r = (i : Int) ∧ smNm u n (ps.getD i 0) j ∧ inNm u n ps j = true)
def NmE (u : Nat → Int) (n : Nat) (S : Sto) (a i x : Nat) : Prop := gI S (a + 2) i = ((tkE u n x - tkB u n x : Nat) : Int) ∧ ∀ t, t < tkE u n x - tkB u n x → gI S (a + 1) (12 * i + t) = rw8 (u (tkB u n x + t))
def NmK (u : Nat → Int) (n : Nat) (S : Sto) (a : Nat) (ps : List Nat) : Prop := gI S a 2 = (ps.length : Int) ∧ (∀ i, i < ps.length → NmE u n S a i (ps.getD i 0)) ∧ (∀ i, i < ps.length → tkK u n (ps.getD i 0) = 1)
theorem NmK.c {u : Nat → Int} {n : Nat} {S : Sto} {a : Nat} {ps : List Nat} (h : NmK u n S a ps) : gI S a 2 = (ps.length : Int) := h.1
theorem NmK.e {u : Nat → Int} {n : Nat} {S : Sto} {a : Nat} {ps : List Nat} (h : NmK u n S a ps) : ∀ i, i < ps.length → NmE u n S a i (ps.getD i 0) := h.2.1
theorem NmK.k {u : Nat → Int} {n : Nat} {S : Sto} {a : Nat} {ps : List Nat} (h : NmK u n S a ps) : ∀ i, i < ps.length → tkK u n (ps.getD i 0) = 1 := h.2.2
theorem getD_app {ps : List Nat} {j i : Nat} (h : i < ps.length) : (ps ++ [j]).getD i 0 = ps.getD i 0 := by
  rw [List.getD_eq_getElem?_getD, List.getD_eq_getElem?_getD, List.getElem?_append_left h]
theorem getD_last {ps : List Nat} {j : Nat} : (ps ++ [j]).getD ps.length 0 = j := by
  rw [List.getD_eq_getElem?_getD, List.getElem?_append_right (Nat.le_refl _), Nat.sub_self]; rfl
theorem inN_iff {u : Nat → Int} {n : Nat} {ps : List Nat} {j : Nat} : inNm u n ps j = true ↔ ∃ i, i < ps.length ∧ smNm u n (ps.getD i 0) j := by
  unfold inNm
  rw [List.any_eq_true]
  constructor
  · rintro ⟨x, hx, h⟩
    obtain ⟨i, hi, rfl⟩ := List.getElem_of_mem hx
    refine ⟨i, hi, ?_⟩
    rw [List.getD_eq_getElem?_getD, List.getElem?_eq_getElem hi, Option.getD_some]
    exact smB_iff.1 h
  · rintro ⟨i, hi, h⟩
    refine ⟨ps[i], List.getElem_mem hi, smB_iff.2 ?_⟩
    rw [List.getD_eq_getElem?_getD, List.getElem?_eq_getElem hi, Option.getD_some] at h
    exact h
section KNM
variable {S S' : Sto} {a0 a : Nat} {u : Nat → Int} {n : Nat} {ps : List Nat} {j N : Nat}
theorem NmE.cg {i x : Nat} (h : NmE u n S a i x) (g1 : gI S' (a + 2) i = gI S (a + 2) i) (g2 : ∀ t, gI S' (a + 1) t = gI S (a + 1) t) : NmE u n S' a i x := ⟨g1.trans h.1, fun t ht => (g2 _).trans (h.2 t ht)⟩
theorem NmK.ch (h : NmK u n S a ps) {P : Nat → Nat → Prop} (g : ChW P S S') (e1 : ¬ P a 2) (e2 : ∀ i, ¬ P (a + 1) i) (e3 : ∀ i, ¬ P (a + 2) i) : NmK u n S' a ps :=
  ⟨(g.1 _ _ e1).trans h.c, fun i hi => (h.e i hi).cg (g.1 _ _ (e3 i)) (fun t => g.1 _ _ (e2 t)), h.k⟩
theorem nm_len {x : Nat} (h : tkK u n x = 1) : 1 ≤ tkE u n x - tkB u n x ∧ tkE u n x - tkB u n x ≤ 12 ∧ tkE u n x ≤ n ∧ tkB u n x < n := by
  obtain ⟨h1, h2, h3, h4, h5, h6, h7⟩ := tK_1 (Or.inl h)
  have := tE_rng (u := u) h1
  unfold tkE; omega
theorem k_same (t : TpK S a0 u n) (h4 : gI S a0 4 = (tkB u n j : Nat)) (hj : tkK u n j = 1) {i x : Nat} (hx : tkK u n x = 1) (hi : i < N) (hN : N ≤ 1000) (e1 : aN (kK (a + 1)) = 12 * N) (e2 : aN (kK (a + 2)) = N) (hE : NmE u n S a i x) : WP (lpF (mX4_find_L37 a S (i : Int) a0) ((if ((tkE u n x - tkB u n x : Nat) : Int) = ((tkE u n j - tkB u n j : Nat) : Int) then 1 else 0), 0)) (fun r => r = b2i (smB u n x j)) := by
  have hn := t.b
  have l1 := nm_len hj
  have l2 := nm_len hx
  obtain ⟨E1, E2⟩ := hE
  generalize hl : tkE u n x - tkB u n x = l at *
  refine WP_cnt l (fun k s => s.2 = (k : Int) ∧ ((s.1 = 1 ∧ tkE u n j - tkB u n j = l ∧ ∀ t, t < k → u (tkB u n x + t) = u (tkB u n j + t)) ∨ (s.1 = 0 ∧ ¬ smNm u n x j))) (by show l < 1000000000000; omega) ⟨rfl, ?_⟩ (fun k s hk hs => ?_) (fun s hs => ?_)
  · by_cases g : tkE u n j - tkB u n j = l
    · exact Or.inl ⟨if_pos (by omega), g, fun t ht => absurd ht (by omega)⟩
    · exact Or.inr ⟨if_neg (by omega), fun q => g (by have := q.1; omega)⟩
  · obtain ⟨s1, s2⟩ := s
    obtain ⟨h1, h2⟩ := hs
    dsimp only at h1 h2
    subst h1
    unfold mX4_find_L37
    dsimp only
    rw [e2, e1, rdI_e (by omega), Int.toNat_natCast, E1, w32_id (by omega), w32_id (by omega), if_pos (by omega)]
    rcases h2 with ⟨h2, h3, h6⟩ | ⟨h2, h3⟩
    · subst h2
      have hr1 := rw8_rng (t.u (tkB u n x + k) (by omega))
      have hr2 := rw8_rng (t.u (tkB u n j + k) (by omega))
      rw [w32_1, if_pos (by decide)]
      rw [bX_some, if_pos rfl]
      rw [rdI_e (by omega), show (12 * (i : Int) + (k : Int)).toNat = 12 * i + k by omega, E2 k hk, gk_tp t.r, h4, rdI_e (by omega), show ((tkB u n j : Int) + (k : Int)).toNat = tkB u n j + k by omega, t.t _ (by omega), w32_id (by omega), w32_id (by omega)]
      have hq : (rw8 (u (tkB u n x + k)) = rw8 (u (tkB u n j + k))) ↔ (u (tkB u n x + k) = u (tkB u n j + k)) := by rw [rw8_inj (t.u _ (by omega)) (t.u _ (by omega))]
      refine WP_some.2 ⟨by dsimp only; omega, ?_⟩
      dsimp only
      by_cases g : u (tkB u n x + k) = u (tkB u n j + k)
      · refine Or.inl ⟨if_pos (hq.2 g), h3, fun t ht => ?_⟩
        by_cases g2 : t = k
        · rw [g2]; exact g
        · exact h6 t (by omega)
      · exact Or.inr ⟨if_neg (fun z => g (hq.1 z)), fun q => g (q.2 k (by omega))⟩
    · subst h2
      rw [w32_0, if_neg (by decide)]
      refine WP_some.2 ?_
      show (0 : Int) = _
      rw [smB_f h3]; rfl
  · obtain ⟨s1, s2⟩ := s
    obtain ⟨h1, h2⟩ := hs
    dsimp only at h1 h2
    subst h1
    unfold mX4_find_L37
    dsimp only
    rw [e2, rdI_e (by omega), Int.toNat_natCast, E1, w32_id (by omega), w32_id (by omega), if_neg (by omega)]
    refine WP_some.2 ?_
    show s1 = _
    rcases h2 with ⟨h2, h3, h6⟩ | ⟨h2, h3⟩
    · rw [h2, smB_t (show smNm u n x j from ⟨by omega, fun t ht => h6 t (by omega)⟩)]; rfl
    · rw [h2, smB_f h3]; rfl
theorem k_findN (t : TpK S a0 u n) (h : ScQ u n S a0 (.inl j)) (hj : tkK u n j = 1) (nm : NmK u n S a ps) (hp : ps.length ≤ N) (hN : N ≤ 1000) (e1 : aN (kK (a + 1)) = 12 * N) (e2 : aN (kK (a + 2)) = N) : WP (mX4_find S a a0) (FdN u n ps j) := by
  have hn := t.b
  have l1 := nm_len hj
  have h4 : gI S a0 4 = (tkB u n j : Nat) := h.2.2.1
  have h5 : gI S a0 5 = (tkE u n j : Nat) := h.2.2.2.1
  unfold mX4_find
  refine WP_bE.2 ?_
  refine WP_cnt ps.length (fun k s => s = (k : Int) ∧ ∀ i, i < k → ¬ smNm u n (ps.getD i 0) j) (by show ps.length < 1000000000000; omega) ⟨rfl, fun i hi => absurd hi (by omega)⟩ (fun k s hk hs => ?_) (fun s hs => ?_)
  · obtain ⟨h1, h2⟩ := hs
    subst h1
    have hE := nm.e k hk
    unfold mX4_find_L2
    rw [nm.c, w32_id (by omega), w32_id (by omega), if_pos (by omega), e2, rdI_e (by omega), Int.toNat_natCast, hE.1, h4, h5]
    rw [w32_id (by have := nm_len (nm.k k hk); omega), show (tkE u n j : Int) - (tkB u n j : Int) = ((tkE u n j - tkB u n j : Nat) : Int) by omega, w32_id (by omega)]
    refine WP_call (k_same t h4 hj (nm.k k hk) (N := N) (by omega) hN e1 e2 hE) (fun r hr => ?_)
    rw [hr, w32_b2i]
    by_cases g : smNm u n (ps.getD k 0) j
    · rw [smB_t g, if_pos (by decide)]
      refine WP_some.2 ?_
      exact Or.inr ⟨k, hk, rfl, g, inN_iff.2 ⟨k, hk, g⟩⟩
    · rw [smB_f g, if_neg (by decide)]
      refine WP_some.2 ⟨by omega, fun i hi => ?_⟩
      by_cases g2 : i = k
      · rw [g2]; exact g
      · exact h2 i (by omega)
  · obtain ⟨h1, h2⟩ := hs
    subst h1
    unfold mX4_find_L2
    rw [nm.c, w32_id (by omega), if_neg (by omega)]
    refine WP_some.2 ?_
    show WP (some (-1 : Int)) _
    refine WP_some.2 (Or.inl ⟨rfl, bool_f (fun q => ?_)⟩)
    obtain ⟨i, hi, g⟩ := inN_iff.1 q
    exact h2 i hi g
def PNm (a : Nat) (b _i : Nat) : Prop := b = a + 1 ∨ b = a + 2
/-- the name of now is held behind the others; the count is not yet told -/
theorem k_holdN (t : TpK S a0 u n) (h : ScQ u n S a0 (.inl j)) (hj : tkK u n j = 1) (nm : NmK u n S a ps) (hp : ps.length < N) (hN : N ≤ 1000) (e1 : aN (kK (a + 1)) = 12 * N) (e2 : aN (kK (a + 2)) = N) (ha : a0 ≠ a + 1 ∧ a0 ≠ a + 2 ∧ a + 1 ≠ 2 ∧ a + 2 ≠ 2) : WP (mX4_hold S a a0) (fun y => (∀ i, i < ps.length → NmE u n y a i (ps.getD i 0)) ∧ NmE u n y a ps.length j ∧ ChW (PNm a) S y) := by
  have hn := t.b
  have l1 := nm_len hj
  have h4 : gI S a0 4 = (tkB u n j : Nat) := h.2.2.1
  have h5 : gI S a0 5 = (tkE u n j : Nat) := h.2.2.2.1
  unfold mX4_hold
  rw [nm.c, e2, wrI_e (by omega), Int.toNat_natCast, h4, h5, show (tkE u n j : Int) - (tkB u n j : Int) = ((tkE u n j - tkB u n j : Nat) : Int) by omega]
  generalize hl : tkE u n j - tkB u n j = l at *
  refine WP_call (R := fun y => (∀ i, i < ps.length → NmE u n y a i (ps.getD i 0)) ∧ NmE u n y a ps.length j ∧ ChW (PNm a) S y) ?_ (fun y hy => WP_some.2 hy)
  refine WP_cnt l (fun k s => s.1 = (k : Int) ∧ ChW (PNm a) S s.2 ∧ gI s.2 (a + 2) ps.length = (l : Int) ∧ (∀ i, i < ps.length → gI s.2 (a + 2) i = gI S (a + 2) i) ∧ (∀ x, x < 12 * ps.length → gI s.2 (a + 1) x = gI S (a + 1) x) ∧ ∀ t, t < k → gI s.2 (a + 1) (12 * ps.length + t) = rw8 (u (tkB u n j + t))) (by show l < 1000000000000; omega) ⟨rfl, ChW.refl.sI (Or.inr rfl), ?_, fun i hi => ?_, fun x _ => ?_, fun t ht => absurd ht (by omega)⟩ (fun k s hk hs => ?_) (fun s hs => ?_)
  · show gI (sI S (a + 2) ps.length _) _ _ = _; rw [gI_sI_eq, w32_id (by omega)]
  · show gI (sI S (a + 2) ps.length _) _ _ = _; rw [hI_sI_i (by omega)]
  · show gI (sI S (a + 2) ps.length _) _ _ = _; rw [hI_sI_a (by omega)]
  · obtain ⟨h1, h2, h3, h6, h7, h8⟩ := hs
    obtain ⟨s1, s2⟩ := s
    dsimp only at h1 h2 h3 h6 h7 h8
    subst h1
    have ts : TpK s2 a0 u n := t.ch h2 (fun q => by unfold PNm at q; omega) (fun i q => by unfold PNm at q; omega)
    have c4 : gI s2 a0 4 = (tkB u n j : Nat) := by rw [h2.1 _ _ (fun q => by unfold PNm at q; omega)]; exact h4
    have cc : gI s2 a 2 = (ps.length : Int) := by rw [h2.1 _ _ (fun q => by unfold PNm at q; omega)]; exact nm.c
    have hr := rw8_rng (t.u (tkB u n j + k) (by omega))
    unfold mX4_hold_L20
    dsimp only
    rw [cc, e2, e1, rdI_e (by omega), Int.toNat_natCast, h3, w32_id (by omega), w32_id (by omega), if_pos (by omega), gk_tp ts.r, c4, rdI_e (by omega), show ((tkB u n j : Int) + (k : Int)).toNat = tkB u n j + k by omega, ts.t _ (by omega), wrI_e (by omega), show (12 * (ps.length : Int) + (k : Int)).toNat = 12 * ps.length + k by omega, w8_id (by omega)]
    refine WP_some.2 ⟨by dsimp only; omega, h2.sI (Or.inl rfl), ?_, fun i hi => ?_, fun x hx => ?_, fun t ht => ?_⟩
    · dsimp only; rw [hI_sI_a (by omega)]; exact h3
    · dsimp only; rw [hI_sI_a (by omega)]; exact h6 i hi
    · dsimp only; rw [hI_sI_i (by omega)]; exact h7 x hx
    · dsimp only
      by_cases g : t = k
      · subst g; rw [gI_sI_eq, w32_id (by omega)]
      · rw [hI_sI_i (by omega)]; exact h8 t (by omega)
  · obtain ⟨h1, h2, h3, h6, h7, h8⟩ := hs
    obtain ⟨s1, s2⟩ := s
    dsimp only at h1 h2 h3 h6 h7 h8
    subst h1
    have cc : gI s2 a 2 = (ps.length : Int) := by rw [h2.1 _ _ (fun q => by unfold PNm at q; omega)]; exact nm.c
    unfold mX4_hold_L20
    dsimp only
    rw [cc, e2, rdI_e (by omega), Int.toNat_natCast, h3, w32_id (by omega), if_neg (by omega)]
    refine WP_some.2 ⟨fun i hi => ⟨?_, fun t ht => ?_⟩, ⟨?_, fun t ht => ?_⟩, h2⟩
    · rw [h6 i hi]; exact (nm.e i hi).1
    · rw [h7 _ (by have := nm_len (nm.k i hi); omega)]; exact (nm.e i hi).2 t ht
    · rw [h3, hl]
    · exact h8 t (by omega)
theorem NmK.put {y : Sto} (hj : tkK u n j = 1) (nm : NmK u n S a ps) (h1 : ∀ i, i < ps.length → NmE u n y a i (ps.getD i 0)) (h2 : NmE u n y a ps.length j) (hc : gI y a 2 = ((ps.length + 1 : Nat) : Int)) : NmK u n y a (ps ++ [j]) := by
  refine ⟨by rw [hc, List.length_append]; rfl, fun i hi => ?_, fun i hi => ?_⟩
  · rw [List.length_append] at hi
    have hi : i < ps.length + 1 := hi
    by_cases g : i = ps.length
    · subst g; rw [getD_last]; exact h2
    · rw [getD_app (by omega)]; exact h1 i (by omega)
  · rw [List.length_append] at hi
    have hi : i < ps.length + 1 := hi
    by_cases g : i = ps.length
    · subst g; rw [getD_last]; exact hj
    · rw [getD_app (by omega)]; exact nm.k i (by omega)
end KNM
