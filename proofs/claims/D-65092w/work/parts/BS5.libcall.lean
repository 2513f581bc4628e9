/-! library: the call -/
def RowOkL (r : Row4) : Prop := 1 ≤ r.1 ∧ r.1 ≤ 3 ∧ 0 ≤ r.2.1 ∧ r.2.1 < 2 ^ (2 ^ r.1.toNat) ∧ 1 ≤ r.2.2.1 ∧ r.2.2.1 ≤ 1000 ∧ 1 ≤ r.2.2.2 ∧ r.2.2.2 ≤ 100
def lbB (rs : List Row4) : Lib := fun f i => if f = 0 then (rs.length : Int) else if f = 1 then (rs.getD i (0, 0, 0, 0)).1 else if f = 2 then (rs.getD i (0, 0, 0, 0)).2.1 else if f = 3 then (rs.getD i (0, 0, 0, 0)).2.2.1 else (rs.getD i (0, 0, 0, 0)).2.2.2
section LBC
variable {S z y : Sto} {u : Nat → Int} {n N c k : Nat} {cs : List Nat} {rs : List Row4} {j : Nat} {f : Int × Int}
theorem CellR.rowok {j' : Nat} {r : Row4} (hL : LstT u n N) (h : CellR u n cs j (.inl (j', r))) (hj : j ≤ N) : RowOkL r := by
  obtain ⟨h1, h2, h3, h4, h5, ⟨m, m1, m2, m3, m4, m5⟩, h6⟩ := h.le hL hj
  have e : r.1.toNat = m := by omega
  refine ⟨by omega, by omega, m4, ?_, h6⟩
  rw [e]
  have : ((2 ^ (2 ^ m) : Nat) : Int) = 2 ^ (2 ^ m) := by push_cast; rfl
  omega
theorem LibR.wf (hL : LstT u n N) {res : List Row4 ⊕ (Int × Int)} (h : LibR u n cs rs j res) : j ≤ N → (∀ i, i < rs.length → RowOkL (rs.getD i (0, 0, 0, 0))) → ∀ rs', res = .inl rs' → 1 ≤ rs'.length ∧ ∀ i, i < rs'.length → RowOkL (rs'.getD i (0, 0, 0, 0)) := by
  have app : ∀ {rs : List Row4} {r : Row4}, (∀ i, i < rs.length → RowOkL (rs.getD i (0, 0, 0, 0))) → RowOkL r → ∀ i, i < (rs ++ [r]).length → RowOkL ((rs ++ [r]).getD i (0, 0, 0, 0)) := fun {rs r} g1 g2 i hi => by
    rw [List.length_append] at hi
    simp only [List.length] at hi
    by_cases q : i < rs.length
    · rw [getD_appR q]; exact g1 i q
    · have e : i = rs.length := by omega
      subst e
      rw [getD_lastR]; exact g2
  refine h (fun _ rs j res => j ≤ N → (∀ i, i < rs.length → RowOkL (rs.getD i (0, 0, 0, 0))) → ∀ rs', res = .inl rs' → 1 ≤ rs'.length ∧ ∀ i, i < rs'.length → RowOkL (rs'.getD i (0, 0, 0, 0))) ⟨?_, ?_, ?_⟩
  · intro cs rs j f _ _ _ rs' e; cases e
  · intro cs rs j j' r h1 h2 hj hr rs' e
    injection e with e; subst e
    exact ⟨by rw [List.length_append]; simp only [List.length]; omega, app hr (h1.rowok hL hj)⟩
  · intro cs rs j j' r res h1 h2 ih hj hr rs' e
    exact ih (h1.le hL hj).2.1 (app hr (h1.rowok hL hj)) rs' e
theorem LibAll.wf (h : LibAll u n (.inl rs)) : 1 ≤ rs.length ∧ ∀ i, i < rs.length → RowOkL (rs.getD i (0, 0, 0, 0)) := by
  obtain ⟨N, hNn, hN⟩ := LstT.ex (u := u) (n := n)
  rcases h with ⟨_, h⟩ | ⟨_, h⟩
  · cases h
  · exact h.wf hN (by omega) (fun i hi => absurd hi (by show ¬ i < 0; omega)) _ rfl
theorem lbB_w (h1 : 1 ≤ rs.length) (h2 : rs.length ≤ 12) (h3 : ∀ i, i < rs.length → RowOkL (rs.getD i (0, 0, 0, 0))) : WFL (lbB rs) := by
  have e0 : lbB rs 0 0 = (rs.length : Int) := rfl
  have en : liN (lbB rs) = rs.length := by unfold liN; rw [e0]; omega
  refine ⟨by rw [e0]; omega, fun i hi => ?_⟩
  rw [en] at hi
  exact h3 i hi
/-- rows are kept for good -/
theorem m_keepRows (hk : k < 3) (h83 : gI S 2000 83 = (cs.length : Int)) (hc : cs.length ≤ 12) :
    WP (lpF (mX23_library_L145 (k : Int)) (0, S)) (fun y => ChW (fun a i => 2068 ≤ a ∧ a ≤ 2071 ∧ 12 * k ≤ i ∧ i < 12 * k + 12) S y ∧ ∀ i, i < cs.length → gI y 2068 (12 * k + i) = gI S 2062 i ∧ gI y 2069 (12 * k + i) = gI S 2063 i ∧ gI y 2070 (12 * k + i) = gI S 2064 i ∧ gI y 2071 (12 * k + i) = gI S 2065 i) := by
  refine WP_cnt cs.length (fun m s => s.1 = (m : Int) ∧ ChW (fun a i => 2068 ≤ a ∧ a ≤ 2071 ∧ 12 * k ≤ i ∧ i < 12 * k + 12) S s.2 ∧ ∀ i, i < m → gI s.2 2068 (12 * k + i) = gI S 2062 i ∧ gI s.2 2069 (12 * k + i) = gI S 2063 i ∧ gI s.2 2070 (12 * k + i) = gI S 2064 i ∧ gI s.2 2071 (12 * k + i) = gI S 2065 i) (by show _ < 1000000000000; omega) ⟨rfl, ChW.refl, fun i hi => absurd hi (by omega)⟩ (fun m s hm hs => ?_) (fun s hs => ?_)
  · obtain ⟨s1, s2⟩ := s
    obtain ⟨a1, a2, a3⟩ := hs
    dsimp only at a1 a2 a3
    subst a1
    have o : ∀ a, a < 2068 → ∀ i, gI s2 a i = gI S a i := fun a h i => a2.1 _ _ (by omega)
    unfold mX23_library_L145
    dsimp only
    rw [o _ (by omega), h83, w32_id (by omega), w32_id (by omega), if_pos (by omega)]
    have ei : 12 * (k : Int) + (m : Int) = ((12 * k + m : Nat) : Int) := by omega
    rw [ei]
    rw [rdI_e (by omega), wrI_e (by omega), rdI_e (by omega), wrI_e (by omega), rdI_e (by omega), wrI_e (by omega), rdI_e (by omega), wrI_e (by omega)]
    simp only [Int.toNat_natCast]
    generalize hx : sI (sI (sI (sI s2 2068 (12 * k + m) (gI s2 2062 m)) 2069 (12 * k + m) _) 2070 (12 * k + m) _) 2071 (12 * k + m) _ = x
    refine WP_some.2 ⟨by dsimp only; omega, ?_, fun i hi => ?_⟩
    · dsimp only
      rw [← hx]
      exact (((a2.sI ⟨by omega, by omega, by omega, by omega⟩).sI ⟨by omega, by omega, by omega, by omega⟩).sI ⟨by omega, by omega, by omega, by omega⟩).sI ⟨by omega, by omega, by omega, by omega⟩
    · dsimp only
      by_cases g : i = m
      · subst g
        rw [← hx]
        simp (disch := omega) only [hI_sI_a, gI_sI_eq, w32_gI, o]
        exact ⟨trivial, trivial, trivial, trivial⟩
      · have := a3 i (by omega)
        rw [← hx]
        simp (disch := omega) only [hI_sI_i]
        exact this
  · obtain ⟨s1, s2⟩ := s
    obtain ⟨a1, a2, a3⟩ := hs
    dsimp only at a1 a2 a3
    subst a1
    have o : ∀ a, a < 2068 → ∀ i, gI s2 a i = gI S a i := fun a h i => a2.1 _ _ (by omega)
    unfold mX23_library_L145
    dsimp only
    rw [o _ (by omega), h83, w32_id (by omega), if_neg (by omega)]
    exact WP_some.2 ⟨a2, a3⟩
/-- the invariant with a library in a free place, the tape empty -/
theorem Inv.putLb {S' : Sto} (h : Inv c S) (hk : k < 3) (e : ∀ a i, kept a i = true → ¬ (328 + 5 * k ≤ a ∧ a ≤ 328 + 5 * k + 4) → ¬ ((a = 433 ∨ a = 2066 ∨ a = 2067) ∧ i = k) → ¬ (2068 ≤ a ∧ a ≤ 2071 ∧ 12 * k ≤ i ∧ i < 12 * k + 12) → a ≠ 1 → ¬ (a = 2000 ∧ (i = 2 ∨ i = 79)) → gI S' a i = gI S a i)
    (eL : ∀ a i, (a = 365 ∨ a = 387 ∨ a = 409 ∨ a = 431) ∨ a = 2175 → gL S' a i = gL S a i) (h1 : nC S' ≤ nC S + 10) (h2 : nS S' ≤ nS S + 20000) (t1 : gI S' 1 1 = 0) (t2 : gI S' 2000 2 = 0) (ft : gI S' 1 2 = gI S' 2000 79) (hn : InvL S' k) : Inv (c + 1) S' := by
  obtain ⟨g1, g2, g3, g4, g5, g6, g7⟩ := h
  have e' : ∀ a i, kept a i = true → (a < 328 ∨ 342 < a) → a ≠ 433 → ¬ (2066 ≤ a ∧ a ≤ 2071) → a ≠ 1 → ¬ (a = 2000 ∧ (i = 2 ∨ i = 79)) → gI S' a i = gI S a i := fun a i q q1 q2 q3 q4 q5 => e a i q (by omega) (by omega) (by omega) q4 q5
  refine ⟨HeapOk.up g1 h1 h2, ⟨0, by omega, t1, t2, fun i hi => absurd hi (by omega)⟩, ⟨ft, g3.2.cg (Nat.le_succ _) (fun a i q => ?_)⟩, ?_, fun f hf => ?_, fun f hf => ?_, fun f hf => ?_⟩
  · have := keptN_rng q
    exact e' a i (keptN_kept q) (by omega) (by omega) (by omega) (by omega) (by omega)
  · exact g4.cg (e' _ _ (kept_rng (by omega)) (by omega) (by omega) (by omega) (by omega) (by omega)) (e' _ _ (kept_rng (by omega)) (by omega) (by omega) (by omega) (by omega) (by omega)) (fun i => e' _ _ (kept_rng (by omega)) (by omega) (by omega) (by omega) (by omega) (by omega)) (fun i => e _ _ (kept_rng (by omega)) (by omega) (by omega) (by omega) (by omega) (by omega))
  · exact (g5 f hf).cg (e' _ _ (kept_rng (by omega)) (by omega) (by omega) (by omega) (by omega) (by omega)) (e' _ _ (kept_rng (by omega)) (by omega) (by omega) (by omega) (by omega) (by omega)) (fun a i l1 l2 => e' _ _ (kept_rng (by omega)) (by omega) (by omega) (by omega) (by omega) (by omega)) (fun a i l1 l2 _ _ => e' _ _ (kept_rng (by omega)) (by omega) (by omega) (by omega) (by omega) (by omega))
  · by_cases q : f = k
    · subst q; exact hn
    · exact (g6 f hf).cg (e _ _ (kept_rng (by omega)) (by omega) (by omega) (by omega) (by omega) (by omega)) (e _ _ (kept_rng (by omega)) (by omega) (by omega) (by omega) (by omega) (by omega)) (fun a i l1 l2 => e _ _ (kept_rng (by omega)) (by omega) (by omega) (by omega) (by omega) (by omega)) (e _ _ (kept_rng (by omega)) (by omega) (by omega) (by omega) (by omega) (by omega)) (fun a i l1 l2 l3 l4 => e _ _ (kept_rng (by omega)) (by omega) (by omega) (by omega) (by omega) (by omega))
  · exact (g7 f hf).cg (e' _ _ (kept_rng (by omega)) (by omega) (by omega) (by omega) (by omega) (by omega)) (e' _ _ (kept_rng (by omega)) (by omega) (by omega) (by omega) (by omega) (by omega)) (fun a i l1 l2 => e' _ _ (kept_rng (by omega)) (by omega) (by omega) (by omega) (by omega) (by omega)) (fun i => eL _ _ (by omega)) (fun a i l => e' _ _ (ownC_kept l) (by have := l.1; omega) (by have := l.1; omega) (by have := l.1; omega) (by have := l.1; omega) (by have := l.1; omega)) (fun i l => eL _ _ (by omega))
def PLf (k a i : Nat) : Prop := PLm a i ∨ (a = 2000 ∧ (i = 0 ∨ i = 2 ∨ i = 79)) ∨ ((a = 2066 ∨ a = 2067) ∧ i = k) ∨ (2068 ≤ a ∧ a ≤ 2071 ∧ 12 * k ≤ i ∧ i < 12 * k + 12)
theorem PLf_n {a i : Nat} (q : PLf k a i) : (a = 2000 ∧ (i = 3 ∨ (9 ≤ i ∧ i ≤ 11) ∨ i = 32 ∨ i = 33 ∨ i = 34 ∨ i = 80 ∨ i = 83 ∨ i = 27 ∨ i = 0 ∨ i = 2 ∨ i = 79)) ∨ (2002 ≤ a ∧ a ≤ 2006) ∨ (2019 ≤ a ∧ a ≤ 2022) ∨ (2060 ≤ a ∧ a ≤ 2065) ∨ ((a = 2066 ∨ a = 2067) ∧ i = k) ∨ (2068 ≤ a ∧ a ≤ 2071 ∧ 12 * k ≤ i ∧ i < 12 * k + 12) := by
  rcases q with q | q | q | q
  · rcases q with q | q | q
    · unfold PCt at q; omega
    · have := PTc_n q; omega
    · omega
  · omega
  · omega
  · omega
def mLi (k : Nat) (res : List Row4 ⊕ (Int × Int)) (y : Int × Sto) : Prop := match res with
  | .inl rs => y.1 = (k : Int) ∧ gI y.2 2066 k = 1 ∧ gI y.2 2000 79 = 0 ∧ RefL y.2 k (lbB rs) ∧ rs.length ≤ 12
  | .inr f => y.1 = -1 - f.2 ∧ gI y.2 2066 k = 0 ∧ gI y.2 2000 79 = f.1
theorem m_library (hk : k < 3) (t : TpM S u n) (hf : mX23_free S 2066 3 = some (k : Int)) (h66 : gI S 2066 k = 0) {res : List Row4 ⊕ (Int × Int)} (hR : LibAll u n res) :
    WP (mX23_library S) (fun y => ChL (PLf k) QCt S y.2 ∧ gI y.2 2000 0 = 0 ∧ gI y.2 2000 2 = 0 ∧ mLi k res y) := by
  unfold mX23_library
  rw [hf, bX_some, w32_id (x := (k : Int)) (by omega), if_neg (show ¬ (k : Int) = -1 by omega), wf_eq, gI_sI_eq, if_neg (by decide)]
  generalize h2 : sI S 2000 0 0 = S2
  have c0 : ChL (PLf k) QCt S S2 := by rw [← h2]; exact ChL.refl.sI (Or.inr (Or.inl ⟨rfl, Or.inl rfl⟩))
  have cw0 : ChW (fun a i => a = 2000 ∧ i = 0) S S2 := by rw [← h2]; exact ChW.refl.sI ⟨rfl, rfl⟩
  have t2 : TpM S2 u n := t.ch (ChL.ofW (Q := QCt) cw0) (fun q => by omega) (fun i q => by omega)
  have s20 : gI S2 2000 0 = 0 := by rw [← h2, gI_sI_eq]; rfl
  have s66 : gI S2 2066 k = 0 := by rw [← h2, hI_sI_a (by decide)]; exact h66
  refine m_libRead (K := fun y14 => wf y14 2000 2 0 fun S15 => wf S15 2000 79 (gI S15 2000 10) fun S16 => bX (mX23_isRight S16) fun x17 => if w32 x17 = 0 then some ((-1) - (gI S16 2000 11), S16) else wrI 3 S16 2066 (k : Int) 1 fun S18 => wrI 3 S18 2067 (k : Int) (gI S18 2000 83) fun S19 => bX (lpF (mX23_library_L145 (k : Int)) (0, S19)) fun y29 => some ((k : Int), y29)) t2 hR (fun y N cy hlo => ?_)
  have nPLm : ∀ {a i : Nat}, PLm a i → (a = 2000 ∧ (i = 3 ∨ (9 ≤ i ∧ i ≤ 11) ∨ i = 32 ∨ i = 33 ∨ i = 34 ∨ i = 80 ∨ i = 83 ∨ i = 27)) ∨ (2002 ≤ a ∧ a ≤ 2006) ∨ (2019 ≤ a ∧ a ≤ 2022) ∨ (2060 ≤ a ∧ a ≤ 2065) := fun q => by
    rcases q with q | q | q
    · unfold PCt at q; omega
    · have := PTc_n q; omega
    · omega
  have y0 : gI y 2000 0 = 0 := (cy.1 _ _ (fun q => by have := nPLm q; omega)).trans s20
  have y66 : gI y 2066 k = 0 := (cy.1 _ _ (fun q => by have := nPLm q; omega)).trans s66
  have cy1 : ChL (PLf k) QCt S y := c0.tr cy (fun a i q => Or.inl q) (fun _ _ q => q)
  rw [wf_eq, wf_eq, hI_sI_i (by decide)]
  generalize hx : sI (sI y 2000 2 0) 2000 79 (gI y 2000 10) = x
  have cx0 : ChW (fun a i => a = 2000 ∧ (i = 2 ∨ i = 79)) y x := by rw [← hx]; exact (ChW.refl.sI ⟨rfl, Or.inl rfl⟩).sI ⟨rfl, Or.inr rfl⟩
  have cx : ChL (PLf k) QCt S x := cy1.tr (ChL.ofW (Q := QCt) cx0) (fun a i q => Or.inr (Or.inl ⟨q.1, Or.inr q.2⟩)) (fun _ _ q => q)
  have x2 : gI x 2000 2 = 0 := by rw [← hx, hI_sI_i (by decide), gI_sI_eq]; rfl
  have x79 : gI x 2000 79 = gI y 2000 10 := by rw [← hx, gI_sI_eq, w32_gI]
  have x0 : gI x 2000 0 = 0 := (cx0.1 _ _ (by omega)).trans y0
  have x66 : gI x 2066 k = 0 := (cx0.1 _ _ (by omega)).trans y66
  cases res with
  | inr f =>
    have hy : MsQ u n N y (.inr f) := hlo
    have qx : MsQ u n N x (.inr f) := hy.ch cx0 (fun i _ _ q => by omega)
    rw [m_isRight qx, bX_some]
    show WP (if w32 (b2i false) = 0 then _ else _) _
    rw [if_pos (by decide)]
    refine WP_some.2 ⟨cx, x0, x2, ?_, x66, ?_⟩
    · show -1 - gI x 2000 11 = _
      rw [qx.2.2.1]
    · rw [x79]; exact hy.1
  | inl rs =>
    obtain ⟨⟨j, hj⟩, cs, m1, m2, m3, m4⟩ := hlo
    have qx : MsQ u n N x (.inl j) := hj.ch cx0 (fun i _ _ q => by omega)
    rw [m_isRight qx, bX_some]
    show WP (if w32 (b2i true) = 0 then _ else _) _
    have x83 : gI x 2000 83 = (cs.length : Int) := (cx0.1 _ _ (by omega)).trans m1.c
    rw [if_neg (by decide), wrI_e (by omega), Int.toNat_natCast, hI_sI_a (by decide), x83, wrI_e (by omega), Int.toNat_natCast]
    generalize hv : sI (sI x 2066 k 1) 2067 k (cs.length : Int) = v
    have cv0 : ChW (fun a i => (a = 2066 ∨ a = 2067) ∧ i = k) x v := by rw [← hv]; exact (ChW.refl.sI ⟨Or.inl rfl, rfl⟩).sI ⟨Or.inr rfl, rfl⟩
    have cv : ChL (PLf k) QCt S v := cx.tr (ChL.ofW (Q := QCt) cv0) (fun a i q => Or.inr (Or.inr (Or.inl q))) (fun _ _ q => q)
    have v66 : gI v 2066 k = 1 := by rw [← hv, hI_sI_a (by decide), gI_sI_eq]; rfl
    have v67 : gI v 2067 k = (cs.length : Int) := by rw [← hv, gI_sI_eq, w32_id (by omega)]
    have v83 : gI v 2000 83 = (cs.length : Int) := (cv0.1 _ _ (by omega)).trans x83
    refine WP_call (m_keepRows (cs := cs) hk v83 (by omega)) (fun z hz => WP_some.2 ?_)
    obtain ⟨z1, z2⟩ := hz
    have z10 : gI y 2000 10 = 0 := hj.1
    refine ⟨cv.tr (ChL.ofW (Q := QCt) z1) (fun a i q => Or.inr (Or.inr (Or.inr q))) (fun _ _ q => q), (z1.1 _ _ (by omega)).trans ((cv0.1 _ _ (by omega)).trans x0), (z1.1 _ _ (by omega)).trans ((cv0.1 _ _ (by omega)).trans x2), rfl, (z1.1 _ _ (by omega)).trans v66, ?_, ⟨?_, fun i hi => ?_⟩, by omega⟩
    · rw [z1.1 _ _ (by omega), cv0.1 _ _ (by omega), x79]; exact z10
    · rw [z1.1 _ _ (by omega), v67, m2]; rfl
    · have en : liN (lbB rs) = rs.length := by
        unfold liN
        show ((rs.length : Int)).toNat = _
        omega
      rw [en] at hi
      obtain ⟨r1, r2, r3, r4⟩ := z2 i (by omega)
      obtain ⟨s1, s2, s3, s4⟩ := m4 i hi
      have o : ∀ a, 2062 ≤ a → a ≤ 2065 → gI v a i = gI y a i := fun a l1 l2 => (cv0.1 _ _ (by omega)).trans (cx0.1 _ _ (by omega))
      exact ⟨r1.trans ((o _ (by omega) (by omega)).trans s1), r2.trans ((o _ (by omega) (by omega)).trans s2), r3.trans ((o _ (by omega) (by omega)).trans s3), r4.trans ((o _ (by omega) (by omega)).trans s4)⟩
theorem rw8_mod {v : Int} (h : -128 ≤ v ∧ v < 128) : rw8 (v % 256) = v := by unfold rw8; split <;> omega
theorem L3 (h : Inv c S) (hc : c < 64) : WP (mL_3 S) (Inv (c + 1)) := by
  have rx := h.1.x hc
  have e433 : aN (kK 433) = 3 := rfl
  have e2066 : aN (kK 2066) = 3 := rfl
  have hC : ∀ k, k < 3 → gI S 2066 k = gI S 433 k := fun k hk => (h.2.2.2.2.2.1 k hk).2.1
  have hfr : WP (mX1_free S 433) (FrQ (fun i => gI S 433 i) 3) := k_freeQ e433 (by omega)
  obtain ⟨y, hy, fy⟩ := hfr
  have mfr : ∀ S1, (∀ k, k < 3 → gI S1 2066 k = gI S 2066 k) → mX23_free S1 2066 3 = some y := fun S1 e => m_free_as (N := 3) e2066 (by omega) (fun k hk => (e k hk).trans (hC k hk)) fy
  unfold mL_3 mX0_library
  rcases fy with ⟨y1, y2⟩ | ⟨k, hk, y1, y2, y3⟩
  · subst y1
    refine L_modF (m1 := fun S1 => mX23_library S1) 1 4 h hc ?_ rfl (by omega) (fun S1 eS => ?_)
    · unfold mX1_library; rw [hy, bX_some, if_neg (by decide), roomX_0 rx]; rfl
    · unfold mX23_library
      rw [mfr S1 (fun k _ => eS _ _), bX_some, if_pos (by decide), wf_eq, gI_sI_eq, if_pos (by decide)]
  · subst y1
    obtain ⟨n, n1, n2, n3, n4⟩ := h.2.1
    obtain ⟨u, hu⟩ : ∃ u : Nat → Int, u = fun i => gI S 2 i % 256 := ⟨_, rfl⟩
    have ur : ∀ i, i < n → 0 ≤ u i ∧ u i < 256 := fun i hi => by rw [hu]; dsimp only; omega
    have ut : ∀ i, i < n → gI S 2 i = rw8 (u i) := fun i hi => by rw [hu]; exact (rw8_mod (n4 i hi).2).symm
    have um : ∀ i, i < n → gI S 2001 i % 256 = u i := fun i hi => by rw [hu]; dsimp only; rw [(n4 i hi).1]
    have thf : gI S 433 k = 0 := y2
    have mtf : gI S 2066 k = 0 := (hC k hk).trans thf
    refine L_modS (m1 := fun S1 => mX23_library S1) ?_
    unfold mX1_library
    rw [hy, bX_some, w32_id (x := (k : Int)) (by omega), if_pos (by omega), roomX_1, bT_inl, rdA_n hk (by omega), n2]
    refine WP_call (k_read3 (L := 328 + 5 * k) ⟨k, hk, rfl⟩ ur ut (by omega)) (fun x4 hx => ?_)
    obtain ⟨cx, hres⟩ := hx
    rw [wf_eq, wf_eq]
    generalize hw : sI (sI x4.2 1 1 0) 1 2 (gI (sI x4.2 1 1 0) 185 8) = w
    have wx : ∀ a i, a ≠ 1 → gI w a i = gI x4.2 a i := fun a i q => by rw [← hw, hI_sI_a q, hI_sI_a q]
    have wS : ∀ a i, ¬ PRd (328 + 5 * k) a i → a ≠ 1 → gI w a i = gI S a i := fun a i q1 q2 => by rw [wx a i q2, cx.1 a i q1, gI_sR, gI_sR]
    have wL : ∀ a i, gL w a i = gL S a i := fun a i => by rw [← hw, gL_sI, gL_sI, cx.2.1, gL_sR, gL_sR]
    have wC : nC w = nC S := by rw [← hw]; exact cx.2.2.2.1
    have wN : nS w = nS S := by rw [← hw]; exact cx.2.2.2.2
    have w11 : gI w 1 1 = 0 := by rw [← hw, hI_sI_i (by decide), gI_sI_eq]; rfl
    have w12 : gI w 1 2 = gI x4.2 185 8 := by rw [← hw, gI_sI_eq, w32_gI, hI_sI_a (by decide)]
    -- the reference, and the invariant behind it
    have fin : ∀ {S1 : Sto} {z : Int × Sto}, (∀ a i, ¬ (a = 433 ∧ i = k) → gI S1 a i = gI w a i) → (∀ a i, a ≠ 2178 → gL S1 a i = gL w a i) → nC S1 = nC w → nS S1 = nS w → ChL (PLf k) QCt S1 z.2 → gI z.2 2000 2 = 0 → gI z.2 2000 79 = gI x4.2 185 8 → InvL z.2 k → Inv (c + 1) z.2 := fun {S1 z} q1 q2 q3 q4 q5 q6 q7 q8 => by
      have fr : ∀ a i, ¬ PLf k a i → ¬ (a = 433 ∧ i = k) → gI z.2 a i = gI w a i := fun a i g1 g2 => (q5.1 a i g1).trans (q1 a i g2)
      refine h.putLb hk (fun a i g g1 g2 g3 g4 g5 => ?_) (fun a i g => ?_) ?_ ?_ ?_ q6 ?_ q8
      · have nk : ¬ PRd (328 + 5 * k) a i := fun q => by
          rcases q with q | q | q
          · obtain ⟨rfl, _, _⟩ := q; exact absurd (kept_lab g) (by decide)
          · have h0 : a = 186 ∨ a = 187 ∨ a = 188 ∨ a = 189 ∨ a = 190 ∨ a = 191 := by omega
            rcases h0 with rfl | rfl | rfl | rfl | rfl | rfl <;> exact absurd (kept_lab g) (by decide)
          · omega
        have nf : ¬ PLf k a i := fun q => by
          rcases PLf_n q with q | q | q | q | q | q
          · obtain ⟨rfl, q⟩ := q
            have h0 : i = 3 ∨ i = 9 ∨ i = 10 ∨ i = 11 ∨ i = 32 ∨ i = 33 ∨ i = 34 ∨ i = 80 ∨ i = 83 ∨ i = 27 ∨ i = 0 ∨ i = 2 ∨ i = 79 := by omega
            rcases h0 with rfl | rfl | rfl | rfl | rfl | rfl | rfl | rfl | rfl | rfl | rfl | rfl | rfl <;> first | exact absurd g (by decide) | omega
          · have h0 : a = 2002 ∨ a = 2003 ∨ a = 2004 ∨ a = 2005 ∨ a = 2006 := by omega
            rcases h0 with rfl | rfl | rfl | rfl | rfl <;> exact absurd (kept_lab g) (by decide)
          · have h0 : a = 2019 ∨ a = 2020 ∨ a = 2021 ∨ a = 2022 := by omega
            rcases h0 with rfl | rfl | rfl | rfl <;> exact absurd (kept_lab g) (by decide)
          · have h0 : a = 2060 ∨ a = 2061 ∨ a = 2062 ∨ a = 2063 ∨ a = 2064 ∨ a = 2065 := by omega
            rcases h0 with rfl | rfl | rfl | rfl | rfl | rfl <;> exact absurd (kept_lab g) (by decide)
          · omega
          · omega
        rw [fr a i nf (by omega), wS a i nk g4]
      · rw [q5.2.1 _ _ (fun q => by unfold QCt at q; omega), q2 _ _ (by omega), wL]
      · rw [q5.2.2.2.1, q3, wC]; omega
      · rw [q5.2.2.2.2, q4, wN]; omega
      · rw [fr _ _ (fun q => by have := PLf_n q; omega) (by omega)]; exact w11
      · rw [fr _ _ (fun q => by have := PLf_n q; omega) (by omega), w12, q7]
    have tm : ∀ {S1 : Sto}, (∀ a i, ¬ (a = 433 ∧ i = k) → gI S1 a i = gI w a i) → TpM S1 u n ∧ mX23_free S1 2066 3 = some (k : Int) ∧ gI S1 2066 k = 0 := fun {S1} q => by
      have e : ∀ a i, 2000 ≤ a → gI S1 a i = gI S a i := fun a i l => (q a i (by omega)).trans (wS a i (fun z => by unfold PRd at z; omega) (by omega))
      exact ⟨⟨(e _ _ (by omega)).trans n3, fun i hi => by rw [e _ _ (by omega)]; exact um i hi, by omega⟩, mfr S1 (fun j _ => e _ _ (by omega)), (e _ _ (by omega)).trans mtf⟩
    rcases hres with ⟨rs, r1, r2, r3, r4⟩ | ⟨f, r1, r2, r3, r4⟩
    · rw [r2, if_neg (by decide), wrI_e (by omega), Int.toNat_natCast]
      refine WP_some.2 ?_
      show WP (mX23_library (sL (sI w 433 k 1) 2178 0 (i2l (k : Int)))) _
      obtain ⟨S1, hS1⟩ : ∃ S1, sL (sI w 433 k 1) 2178 0 (i2l (k : Int)) = S1 := ⟨_, rfl⟩
      rw [hS1]
      have e1 : ∀ a i, ¬ (a = 433 ∧ i = k) → gI S1 a i = gI w a i := fun a i q => by
        rw [← hS1]
        show gI (sI w 433 k 1) a i = _
        rw [hI_sI, if_neg q]
      have f433 : gI S1 433 k = 1 := by
        rw [← hS1]
        show gI (sI w 433 k 1) 433 k = _
        rw [gI_sI_eq]; rfl
      obtain ⟨t1, t2, t3⟩ := tm e1
      refine (m_library hk t1 t2 t3 r1).mono (fun z hz => ?_)
      obtain ⟨z1, z2, z3, z4, z5, z6, z7, z8⟩ := hz
      have wf := LibAll.wf r1
      have z433 : gI z.2 433 k = 1 := (z1.1 _ _ (fun q => by have := PLf_n q; omega)).trans f433
      have cl : ∀ a i, 328 + 5 * k ≤ a → a ≤ 328 + 5 * k + 4 → gI z.2 a i = gI x4.2 a i := fun a i l1 l2 => (z1.1 _ _ (fun q => by have := PLf_n q; omega)).trans ((e1 _ _ (by omega)).trans (wx _ _ (by omega)))
      refine ⟨z4, z2, ?_, fin (S1 := S1) (z := z) e1 (fun a i g => ?_) ?_ ?_ z1 z3 (z6.trans r4.symm) ⟨Or.inr z433, z5.trans z433.symm, fun _ => ⟨lbB rs, lbB_w wf.1 z8 wf.2, RepL.cg (S := x4.2) ⟨r3.1, fun i hi => ?_⟩ cl, z7⟩⟩⟩
      · rw [z1.2.1 _ _ (fun q => by unfold QCt at q; omega), ← hS1, gL_sLe ⟨rfl, rfl⟩]
      · rw [← hS1, gL_sLn (.inl g)]; rfl
      · rw [← hS1]; rfl
      · rw [← hS1]; rfl
      · have en : liN (lbB rs) = rs.length := by
          unfold liN
          show ((rs.length : Int)).toNat = _
          omega
        rw [en] at hi
        exact r3.2 i hi
    · rw [r2, if_pos (by decide)]
      refine WP_some.2 ?_
      have w9 : gI w 185 9 = f.2 := (wx _ _ (by omega)).trans r4
      show WP (mX23_library (sL w 2178 0 (i2l ((-1) - gI w 185 9)))) _
      obtain ⟨S1, hS1⟩ : ∃ S1, sL w 2178 0 (i2l ((-1) - gI w 185 9)) = S1 := ⟨_, rfl⟩
      rw [hS1]
      have e1 : ∀ a i, gI S1 a i = gI w a i := fun a i => by rw [← hS1]; rfl
      obtain ⟨t1, t2, t3⟩ := tm (fun a i _ => e1 a i)
      refine (m_library hk t1 t2 t3 r1).mono (fun z hz => ?_)
      obtain ⟨z1, z2, z3, z4, z5, z6⟩ := hz
      have z433 : gI z.2 433 k = 0 := (z1.1 _ _ (fun q => by have := PLf_n q; omega)).trans ((e1 _ _).trans ((wS _ _ (fun z => by unfold PRd at z; omega) (by omega)).trans thf))
      refine ⟨by show z.1 = (-1) - gI w 185 9; rw [w9]; exact z4, z2, ?_, fin (S1 := S1) (z := z) (fun a i _ => e1 a i) (fun a i g => ?_) ?_ ?_ z1 z3 (z6.trans r3.symm) ⟨Or.inl z433, z5.trans z433.symm, fun ht => ?_⟩⟩
      · rw [z1.2.1 _ _ (fun q => by unfold QCt at q; omega), ← hS1, gL_sLe ⟨rfl, rfl⟩]
      · rw [← hS1, gL_sLn (.inl g)]
      · rw [← hS1]; rfl
      · rw [← hS1]; rfl
      · unfold thL at ht; rw [z433] at ht; exact absurd ht (by decide)
end LBC
