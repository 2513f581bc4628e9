/-! the reference's search: the loops -/
section MSRC
variable {dif : Nat → Nat → Nat → Bool} {ta tb : Nat → Nat → Nat} {o1 o2 : Nat → Nat → Int} {nin N A B a0 b0 : Nat} {S : Sto} {s : Bst} {k : Nat}
/-- one place of the queue: differences and what comes, input by input -/
theorem m_qplace (T : TabMO S nin A B N dif ta tb o1 o2) (o : BOk A B N s) (q : Mq S s) (hk : k < s.1) (h4 : s.1 ≤ 4096) (hAB : A * B ≤ 4096) {n : Int} {S8 : Sto} :
    WP (lpF (mX23_search_L101 (nin : Int) ((cdM (s.2.1 k) : Nat) : Int) ((cdM (s.2.1 k) : Nat) : Int) (n, (k : Int), S8)) ((s.1 : Int), 0, S)) (WE (fun y => y.1 = ((bIn ta tb k N s).1 : Int) ∧ Mq y.2 (bIn ta tb k N s) ∧ fdN (dif (s.2.1 k).1 (s.2.1 k).2) N = none ∧ gI y.2 2000 95 = gI S 2000 95 ∧ ∀ a i, 2073 ≤ a → a ≤ 2076 → gI y.2 a i = gI S a i)
      (fun t => ∃ i x, t = .inr (.inr ((dep s.2.2.1 k : Int) + 1, x)) ∧ fdN (dif (s.2.1 k).1 (s.2.1 k).2) N = some i ∧ (gI x 2000 95) = (dep s.2.2.1 k : Int) + 1 ∧ ∀ j, j ≤ dep s.2.2.1 k → (gI x 2072 j) = (wit s.2.2.1 s.2.2.2 k i j : Int))) := by
  obtain ⟨t1, t2, t3, hN, hA, hB, hAN, hBN, hnin, hB1, hA1⟩ := T
  have hp := o.2.1 k hk
  have hN0 : 1 ≤ N := by rw [hN]; exact Nat.one_le_two_pow
  have hN4 : N ≤ 4096 := Nat.le_trans (Nat.le_mul_of_pos_left N hA1) hAN
  have hc := cdM_lt hA hB hp.1 hp.2
  have el : aAnd ((cdM (s.2.1 k) : Nat) : Int) 63 = ((s.2.1 k).1 : Int) := by
    rw [aAnd_63]; have : cdM (s.2.1 k) % 64 = (s.2.1 k).1 := by unfold cdM; omega
    omega
  have eh : aShr ((cdM (s.2.1 k) : Nat) : Int) 6 = ((s.2.1 k).2 : Int) := by
    rw [aShr_6, w32_id (by omega)]; have : cdM (s.2.1 k) / 64 = (s.2.1 k).2 := by unfold cdM; omega
    omega
  have hsh := aShl1 (k := nin) (by omega)
  rw [← hN] at hsh
  refine WP_cnt N (fun i z => z.1 = ((bIn ta tb k i s).1 : Int) ∧ z.2.1 = (i : Int) ∧ Mq z.2.2 (bIn ta tb k i s) ∧ (∀ i', i' < i → dif (s.2.1 k).1 (s.2.1 k).2 i' = false) ∧ gI z.2.2 2000 95 = gI S 2000 95 ∧ ∀ a i, 2073 ≤ a → a ≤ 2076 → gI z.2.2 a i = gI S a i) (by unfold cFU; omega) ⟨rfl, rfl, q, fun i h => absurd h (Nat.not_lt_zero _), rfl, fun _ _ _ _ => rfl⟩ (fun i z hi hI => ?_) (fun z hI => ?_)
  · obtain ⟨b1, b2, b3, b0, b5, b4⟩ := hI
    have u1 := t1 (s.2.1 k).1 i hp.1 hi
    have u2 := t2 (s.2.1 k).2 i hp.2 hi
    have u3 := t3 (s.2.1 k).1 (s.2.1 k).2 i hp.1 hp.2 hi
    have x1 := mul_lt_of hp.1 hi
    have x2 := mul_lt_of hp.2 hi
    have y1 := idx_or' (a := (s.2.1 k).1) hN hnin hi (by omega)
    have y2 := idx_or' (a := (s.2.1 k).2) hN hnin hi (by omega)
    have v1 : gI z.2.2 2073 ((s.2.1 k).1 * N + i) = o1 (s.2.1 k).1 i := (b4 _ _ (by omega) (by omega)).trans u1.1
    have v2 : gI z.2.2 2074 ((s.2.1 k).1 * N + i) = (ta (s.2.1 k).1 i : Int) := (b4 _ _ (by omega) (by omega)).trans u1.2.1
    have v3 : gI z.2.2 2075 ((s.2.1 k).2 * N + i) = o2 (s.2.1 k).2 i := (b4 _ _ (by omega) (by omega)).trans u2.1
    have v4 : gI z.2.2 2076 ((s.2.1 k).2 * N + i) = (tb (s.2.1 k).2 i : Int) := (b4 _ _ (by omega) (by omega)).trans u2.2.1
    have oi : BOk A B N (bIn ta tb k i s) := bIn_ok (fun a i x y => (t1 a i x y).2.2) (fun b i x y => (t2 b i x y).2.2) o hk (by omega)
    have kold := bIn_old (ta := ta) (tb := tb) (k := k) (n := i) (s := s) hk
    have ci := bOk_le oi
    obtain ⟨p, hpe⟩ : ∃ p : Nat × Nat, p = (ta (s.2.1 k).1 i, tb (s.2.1 k).2 i) := ⟨_, rfl⟩
    have p1 : p.1 < A := by rw [hpe]; exact u1.2.2
    have p2 : p.2 < B := by rw [hpe]; exact u2.2.2
    have pc := cdM_lt hA hB p1 p2
    have ep : bIn ta tb k (i + 1) s = bAdd (bIn ta tb k i s) p k i := by rw [hpe]; rfl
    have eco : aOr (ta (s.2.1 k).1 i : Int) (aShl (tb (s.2.1 k).2 i : Int) 6) = ((cdM p : Nat) : Int) := by
      have e1 : tb (s.2.1 k).2 i = p.2 := by rw [hpe]
      have e2 : ta (s.2.1 k).1 i = p.1 := by rw [hpe]
      have e3 := idx_or' (a := p.2) (i := p.1) (n := 6) (N := 64) rfl (by omega) (by omega) (by omega)
      rw [e1, e2]
      show aOr (p.1 : Int) (aShl (p.2 : Int) ((6 : Nat) : Int)) = _
      rw [e3]
      unfold cdM
      omega
    have hs := b3.has oi hA p1 pc
    have hqp : ∀ j, 0 < j → j < s.1 → s.2.2.1 j < j := fun j j0 j1 => (o.2.2.2 j j0 j1).1
    have hqpi : ∀ j, 0 < j → j < (bIn ta tb k i s).1 → (bIn ta tb k i s).2.2.1 j < j := fun j j0 j1 => (oi.2.2.2 j j0 j1).1
    have dcg : dep (bIn ta tb k i s).2.2.1 k = dep s.2.2.1 k := dep_cg hqp (fun j j0 j1 => (bIn_old (ta := ta) (tb := tb) (k := k) (n := i) (s := s) j1).2.2.1) k hk
    have wcg : ∀ j, j ≤ dep s.2.2.1 k → wit (bIn ta tb k i s).2.2.1 (bIn ta tb k i s).2.2.2 k i j = wit s.2.2.1 s.2.2.2 k i j := fun j hj => wit_cg hqp (fun j j0 j1 => (bIn_old (ta := ta) (tb := tb) (k := k) (n := i) (s := s) j1).2.2) k i j hk hj
    by_cases hd : dif (s.2.1 k).1 (s.2.1 k).2 i = true
    · have hne : ¬ w32 (o1 (s.2.1 k).1 i) = w32 (o2 (s.2.1 k).2 i) := fun g => by rw [u3.1 g] at hd; exact (nomatch hd)
      simp (disch := omega) only [mX23_search_L101, b2, hsh, el, eh, y1, y2, WP_ite, WP_some, WP_none, WE_inl, WE_inr, wf, wfL, wfR, rdI_e, rdZ_e, rdL_e, wrI_e, wrL_e, bX_some, bE_inl, bE_inr, bT_inl, bT_inr, bX_ite, ite_someI, ite_someL, ite_someB, tt_eq, iteb, gz_01, gz_b2i, w32_id, w32_gI, w32_bz, Int.toNat_natCast, Int.reduceToNat, Int.toNat_add, Int.toNat_mul, Int.ofNat_lt, Int.ofNat_le, Int.natCast_inj, v1, v3, hne, not_false_eq_true, if_true]
      refine ⟨fun _ => ?_, fun g => absurd hi (by omega)⟩
      refine WP_call (m_tell (n := (bIn ta tb k i s).1) (qp := (bIn ta tb k i s).2.2.1) (qi := (bIn ta tb k i s).2.2.2) (by omega) (by omega) hqpi (by omega) (fun j j0 j1 => by have := (oi.2.2.2 j j0 j1).2; omega) b3.2.1 b3.2.2.2.2) (fun x hx => ?_)
      rw [dcg] at hx
      refine WP_some.2 ⟨i, x.2, by rw [hx.1], fdN_some hi hd b0, hx.2.1, fun j hj => by rw [hx.2.2 j hj, wcg j hj]⟩
    · have heq : w32 (o1 (s.2.1 k).1 i) = w32 (o2 (s.2.1 k).2 i) := u3.2 (by simpa using hd)
      simp (disch := omega) only [mX23_search_L101, b1, b2, hsh, el, eh, y1, y2, WP_ite, WP_some, WP_none, WE_inl, WE_inr, wf, wfL, wfR, rdI_e, rdZ_e, rdL_e, wrI_e, wrL_e, bX_some, bE_inl, bE_inr, bT_inl, bT_inr, bX_ite, ite_someI, ite_someL, ite_someB, tt_eq, iteb, gz_01, gz_b2i, w32_id, w32_gI, w32_bz, Int.toNat_natCast, Int.reduceToNat, Int.toNat_add, Int.toNat_mul, Int.ofNat_lt, Int.ofNat_le, Int.natCast_inj, v1, v2, v3, v4, heq, not_true_eq_false, if_false, eco, hs]
      refine ⟨fun _ => ?_, fun g => absurd hi (by omega)⟩
      have hb0 : ∀ i', i' < i + 1 → dif (s.2.1 k).1 (s.2.1 k).2 i' = false := fun i' hi' => by
        by_cases e : i' = i
        · subst e; simpa using hd
        · exact b0 i' (by omega)
      rw [ep]
      by_cases hh : bHasN (bIn ta tb k i s).2.1 p (bIn ta tb k i s).1 = true
      · have ea : bAdd (bIn ta tb k i s) p k i = bIn ta tb k i s := if_pos hh
        rw [ea, if_pos hh, if_neg (by decide), bX_some, WP_some, WE_inl]
        exact ⟨rfl, by show (i : Int) + 1 = _; omega, b3, hb0, b5, b4⟩
      · have ne : (bIn ta tb k i s).1 < A * B := by
          have oa := bAdd_ok (k := k) (i := i) oi ⟨p1, p2⟩ (by omega) hi
          have := bOk_le oa
          have ea : (bAdd (bIn ta tb k i s) p k i).1 = (bIn ta tb k i s).1 + 1 := by unfold bAdd; rw [if_neg hh]
          omega
        have ea : (bAdd (bIn ta tb k i s) p k i).1 = (bIn ta tb k i s).1 + 1 := by unfold bAdd; rw [if_neg hh]
        rw [if_neg hh, if_pos (by decide)]
        have e80 : gI (sI (sI (sI (sI z.2.2 2081 (cdM p) 1) 2077 (bIn ta tb k i s).1 (cdM p : Int)) 2078 (bIn ta tb k i s).1 (k : Int)) 2079 (bIn ta tb k i s).1 (i : Int)) 2080 k = (dep (bIn ta tb k i s).2.2.1 k : Int) := by
          rw [hI_sI_a (by omega), hI_sI_a (by omega), hI_sI_a (by omega), hI_sI_a (by omega)]; exact b3.2.2.2.2 k (by omega)
        simp (disch := omega) only [WP_ite, WP_some, WP_none, WE_inl, WE_inr, wf, wfL, wfR, rdI_e, rdZ_e, rdL_e, wrI_e, wrL_e, bX_some, bE_inl, bE_inr, bT_inl, bT_inr, bX_ite, ite_someI, ite_someL, ite_someB, tt_eq, iteb, gz_01, gz_b2i, w32_id, w32_gI, w32_bz, Int.toNat_natCast, Int.reduceToNat, Int.toNat_add, Int.toNat_mul, Int.ofNat_lt, Int.ofNat_le, Int.natCast_inj, e80]
        rw [ea]
        refine ⟨by omega, by omega, b3.add oi (by omega) (by omega) (by omega) pc hh, hb0, ?_, fun a j g1 g2 => ?_⟩
        · rw [hI_sI_a (by omega), hI_sI_a (by omega), hI_sI_a (by omega), hI_sI_a (by omega), hI_sI_a (by omega)]; exact b5
        · rw [hI_sI_a (by omega), hI_sI_a (by omega), hI_sI_a (by omega), hI_sI_a (by omega), hI_sI_a (by omega)]; exact b4 a j g1 g2
  · obtain ⟨b1, b2, b3, b0, b5, b4⟩ := hI
    simp (disch := omega) only [mX23_search_L101, b1, b2, hsh, WP_ite, WP_some, WP_none, WE_inl, WE_inr, wf, wfL, wfR, rdI_e, rdZ_e, rdL_e, wrI_e, wrL_e, bX_some, bE_inl, bE_inr, bT_inl, bT_inr, bX_ite, ite_someI, ite_someL, ite_someB, tt_eq, iteb, gz_01, gz_b2i, w32_id, w32_gI, w32_bz, Int.toNat_natCast, Int.reduceToNat, Int.toNat_add, Int.toNat_mul, Int.ofNat_lt, Int.ofNat_le, Int.natCast_inj]
    exact ⟨fun g => absurd g (by omega), fun _ => ⟨trivial, b3, fdN_none.2 b0, b5, b4⟩⟩
theorem m_search (T : TabMO S nin A B N dif ta tb o1 o2) (h0 : a0 < A ∧ b0 < B) (hAB : A * B ≤ 4096) :
    WP (mX23_search S (nin : Int) (a0 : Int) (b0 : Int)) (fun x => BRes dif ta tb N a0 b0 x.1 ((gI x.2 2000 95)) (fun j => (gI x.2 2072 j))) := by
  have T0 := T
  obtain ⟨t1, t2, t3, hN, hA, hB, hAN, hBN, hnin, hB1, hA1⟩ := T
  have hta : ∀ a i, a < A → i < N → ta a i < A := fun a i x y => (t1 a i x y).2.2
  have htb : ∀ b i, b < B → i < N → tb b i < B := fun b i x y => (t2 b i x y).2.2
  have hc0 := cdM_lt (p := (a0, b0)) hA hB h0.1 h0.2
  unfold mX23_search
  rw [wf_eq]
  refine WP_call (R := fun S' => gI S' 2000 95 = 0 ∧ (∀ e, e < 4096 → gI S' 2081 e = 0) ∧ ∀ a i, 2073 ≤ a → a ≤ 2076 → gI S' a i = gI S a i) ?_ (fun S1 g1 => ?_)
  · refine WP_cnt 4096 (fun i z => z.1 = (i : Int) ∧ gI z.2 2000 95 = 0 ∧ (∀ e, e < i → gI z.2 2081 e = 0) ∧ ∀ a i, 2073 ≤ a → a ≤ 2076 → gI z.2 a i = gI S a i) (by decide) ⟨rfl, by show gI (sI S 2000 95 0) 2000 95 = 0; rw [hI_sI]; rfl, fun e h => absurd h (Nat.not_lt_zero _), fun a i g g' => hI_sI_a (by omega)⟩ (fun i z hi hI => ?_) (fun z hI => ?_)
    · obtain ⟨b1, b2, b3, b4⟩ := hI
      simp (disch := omega) only [mX23_search_L8, b1, WP_ite, WP_some, WP_none, WE_inl, WE_inr, wf, wfL, wfR, rdI_e, rdZ_e, rdL_e, wrI_e, wrL_e, bX_some, bE_inl, bE_inr, bT_inl, bT_inr, bX_ite, ite_someI, ite_someL, ite_someB, tt_eq, iteb, gz_01, gz_b2i, w32_id, w32_gI, w32_bz, Int.toNat_natCast, Int.reduceToNat, Int.toNat_add, Int.toNat_mul, Int.ofNat_lt, Int.ofNat_le, Int.natCast_inj]
      refine ⟨fun _ => ⟨by omega, ?_, fun e he => ?_, fun a j g g' => ?_⟩, fun g => by omega⟩
      · rw [hI_sI_a (by omega)]; exact b2
      · rw [hI_sI]
        by_cases q : e = i
        · rw [if_pos ⟨rfl, q⟩]; rfl
        · rw [if_neg (fun g => q g.2)]; exact b3 e (by omega)
      · rw [hI_sI_a (by omega)]; exact b4 a j g g'
    · obtain ⟨b1, b2, b3, b4⟩ := hI
      simp (disch := omega) only [mX23_search_L8, b1, WP_ite, WP_some, WP_none, WE_inl, WE_inr, wf, wfL, wfR, rdI_e, rdZ_e, rdL_e, wrI_e, wrL_e, bX_some, bE_inl, bE_inr, bT_inl, bT_inr, bX_ite, ite_someI, ite_someL, ite_someB, tt_eq, iteb, gz_01, gz_b2i, w32_id, w32_gI, w32_bz, Int.toNat_natCast, Int.reduceToNat, Int.toNat_add, Int.toNat_mul, Int.ofNat_lt, Int.ofNat_le, Int.natCast_inj]
      exact ⟨fun g => by omega, fun _ => ⟨b2, b3, b4⟩⟩
  · have eco : aOr (a0 : Int) (aShl (b0 : Int) 6) = ((cdM (a0, b0) : Nat) : Int) := by
      have e3 := idx_or' (a := b0) (i := a0) (n := 6) (N := 64) rfl (by omega) (by omega) (by omega)
      show aOr (a0 : Int) (aShl (b0 : Int) ((6 : Nat) : Int)) = _
      rw [e3]
      show ((b0 * 64 + a0 : Nat) : Int) = ((a0 + 64 * b0 : Nat) : Int)
      omega
    have e193 : gI (sI (sI S1 2077 0 ((cdM (a0, b0) : Nat) : Int)) 2080 0 0) 2077 0 = ((cdM (a0, b0) : Nat) : Int) := by rw [hI_sI_a (by omega), hI_sI, if_pos ⟨rfl, rfl⟩, w32_id (by omega)]
    rw [eco, wrI_e (by omega), wrI_e (by omega), rdI_e (by omega)]
    rw [show (0 : Int).toNat = 0 from rfl, e193, wrI_e (by omega), Int.toNat_natCast]
    refine WP_bE.2 ?_
    have q0 : Mq (sI (sI (sI S1 2077 0 ((cdM (a0, b0) : Nat) : Int)) 2080 0 0) 2081 (cdM (a0, b0)) 1) (bRun ta tb N a0 b0 0) := by
      refine ⟨fun j hj => ?_, fun j j0 hj => ?_, fun j hj => ?_, fun x hx hj => ?_, fun j hj => ?_⟩
      · have hj : j < 1 := hj
        have : j = 0 := by omega
        subst this
        rw [hI_sI_a (by omega)]; exact e193
      · have hj : j < 1 := hj
        omega
      · show gI _ 2081 (cdM (a0, b0)) = 1
        rw [hI_sI, if_pos ⟨rfl, rfl⟩]; rfl
      · have := hj 0 (by show 0 < 1; omega)
        have this : cdM (a0, b0) ≠ x := this
        rw [hI_sI, if_neg (fun g => this g.2.symm), hI_sI_a (by omega), hI_sI_a (by omega)]; exact g1.2.1 x hx
      · have hj : j < 1 := hj
        have : j = 0 := by omega
        subst this
        rw [hI_sI_a (by omega), hI_sI, if_pos ⟨rfl, rfl⟩]; rfl
    refine WP_lpF (fun z => ∃ k : Nat, z.2.1 = (k : Int) ∧ z.1 = ((bRun ta tb N a0 b0 k).1 : Int) ∧ k ≤ 4096 ∧ Mq z.2.2 (bRun ta tb N a0 b0 k) ∧ (∀ k', k' < k → k' < (bRun ta tb N a0 b0 k').1 ∧ fdN (dif ((bRun ta tb N a0 b0 k').2.1 k').1 ((bRun ta tb N a0 b0 k').2.1 k').2) N = none) ∧ gI z.2.2 2000 95 = 0 ∧ ∀ a i, 2073 ≤ a → a ≤ 2076 → gI z.2.2 a i = gI S a i) (fun z => 5000 - z.2.1.toNat) ⟨0, rfl, rfl, by omega, q0, fun k' h => absurd h (Nat.not_lt_zero _), ?_, fun a i g g' => ?_⟩ (by show 5000 - _ < _; unfold cFU; omega) (fun z hz => ?_)
    · show gI (sI (sI (sI S1 2077 0 _) 2080 0 0) 2081 _ 1) 2000 95 = 0
      rw [hI_sI_a (by omega), hI_sI_a (by omega), hI_sI_a (by omega)]; exact g1.1
    · show gI (sI (sI (sI S1 2077 0 _) 2080 0 0) 2081 _ 1) a i = _
      rw [hI_sI_a (by omega), hI_sI_a (by omega), hI_sI_a (by omega)]; exact g1.2.2 a i g g'
    · obtain ⟨k, b1, b2, bk, b3, b4, b6, b5⟩ := hz
      have o := bRun_ok (a0 := a0) (b0 := b0) hta htb h0 k (fun k' hk' => (b4 k' hk').1)
      have hcnt := bOk_le o
      have T1 := T0.mv b5
      unfold mX23_search_L67
      rw [b1, b2, w32_id (by omega), w32_id (by omega), WP_ite]
      refine ⟨fun g => ?_, fun g => ?_⟩
      · have hk : k < (bRun ta tb N a0 b0 k).1 := by omega
        have e1 := b3.1 k hk
        rw [rdI_e (by omega), Int.toNat_natCast, e1, rdI_e (by omega), Int.toNat_natCast, e1]
        have ez : z = (((bRun ta tb N a0 b0 k).1 : Int), (k : Int), z.2.2) := by rw [← b1, ← b2]
        refine WP_bE.2 ?_
        rw [ez]
        refine (m_qplace (n := ((bRun ta tb N a0 b0 k).1 : Int)) (S8 := z.2.2) T1 o b3 hk (by omega) hAB).mono (fun x hx => ?_)
        cases x with
        | inl y =>
          obtain ⟨y1, y2, hf, y3, y4⟩ := hx
          refine WP_some.2 ⟨⟨k + 1, by show (k : Int) + 1 = _; omega, y1, by omega, y2, fun k' hk' => ?_, y3.trans b6, fun a i g' g'' => (y4 a i g' g'').trans (b5 a i g' g'')⟩, ?_⟩
          · by_cases e : k' = k
            · subst e; exact ⟨hk, hf⟩
            · exact b4 k' (by omega)
          · show 5000 - ((k : Int) + 1).toNat < 5000 - ((k : Int)).toNat
            omega
        | inr t =>
          obtain ⟨i, x, rfl, hf, hl, hrow⟩ := hx
          show BRes _ _ _ _ _ _ _ _ _
          exact .inl ⟨k, i, ⟨b4, hk, hf⟩, rfl, hl, hrow⟩
      · have hk : (bRun ta tb N a0 b0 k).1 ≤ k := by omega
        refine WP_some.2 ?_
        show WP (some ((0 : Int), z.2.2)) _
        exact WP_some.2 (.inr ⟨k, ⟨b4, hk⟩, rfl, b6⟩)
end MSRC
