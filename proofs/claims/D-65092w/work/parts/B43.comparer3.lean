/-! the class's Comparer: places that come, the whole search -/
section CEXP
variable {dif : Nat → Nat → Nat → Bool} {ta tb f1 f2 : Nat → Nat → Nat} {nin r N A B : Nat} {S : Sto} {a2 a3 a6 a7 : Nat} {p9 : Int} {s : Bst} {k : Nat}
theorem k_exp (T : TabOk S nin r A B N a2 a3 a6 a7 p9 dif ta tb f1 f2) (o : BOk A B N s) (q : Cq S (cdK r) s) (hk : k < s.1) {n : Int} {S8 : Sto} :
    WP (lpF (mX11_go_L173 (nin : Int) a7 ((cdK r (s.2.1 k) : Nat) : Int) (r : Int) a3 ((cdK r (s.2.1 k) : Nat) : Int) (n, (k : Int), S8)) ((s.1 : Int), 0, S)) (fun y => y.1 = ((bIn ta tb k N s).1 : Int) ∧ Cq y.2 (cdK r) (bIn ta tb k N s) ∧ ∀ a i, (a < 193 ∨ 196 < a) → gI y.2 a i = gI S a i) := by
  have T0 := T
  obtain ⟨t1, t2, t3, t4, t5, hN, hA, hAB, hAN, hBN, hr, hnin, hB⟩ := T
  have hp := o.2.1 k hk
  have hcnt := bOk_le o
  have hN0 : 1 ≤ N := by rw [hN]; exact Nat.one_le_two_pow
  have hA0 : 1 ≤ A := by omega
  have hN4 : N ≤ 4096 := Nat.le_trans (Nat.le_mul_of_pos_left N hA0) hAN
  have hc := cdK_lt (r := r) (B := B) hA hp.1 hp.2
  have ecd : cdK r (s.2.1 k) = (s.2.1 k).2 * A + (s.2.1 k).1 := by unfold cdK; rw [← hA]
  have el := cd_low (b := (s.2.1 k).2) hA hr hp.1
  have eh := cd_high (b := (s.2.1 k).2) hA hr hp.1 (by omega)
  have hsh := aShl1 (k := nin) (by omega)
  rw [← hN] at hsh
  rw [ecd]
  refine WP_cnt N (fun i z => z.1 = ((bIn ta tb k i s).1 : Int) ∧ z.2.1 = (i : Int) ∧ Cq z.2.2 (cdK r) (bIn ta tb k i s) ∧ ∀ a i, (a < 193 ∨ 196 < a) → gI z.2.2 a i = gI S a i) (by unfold cFU; omega) ⟨rfl, rfl, q, fun _ _ _ => rfl⟩ (fun i z hi hI => ?_) (fun z hI => ?_)
  · obtain ⟨b1, b2, b3, b4⟩ := hI
    have u1 := t1 (s.2.1 k).1 i hp.1 hi
    have u2 := t2 (s.2.1 k).2 i hp.2 hi
    have x1 := mul_lt_of hp.1 hi
    have x2 := mul_lt_of hp.2 hi
    have y1 := idx_or (a := (s.2.1 k).1) hN hnin hi (by omega)
    have y2 := idx_or (a := (s.2.1 k).2) hN hnin hi (by omega)
    have g1 : gI z.2.2 a3 ((s.2.1 k).1 * N + i) = (ta (s.2.1 k).1 i : Int) := (b4 _ _ (by omega)).trans u1.2.2.1
    have oi : BOk A B N (bIn ta tb k i s) := bIn_ok (fun a i x y => (t1 a i x y).2.2.2) (fun b i x y => (t2 b i x y).2.1) o hk (by omega)
    have ki := (bIn_old (ta := ta) (tb := tb) (k := k) (n := i) (s := s) hk).1
    have ci := bOk_le oi
    obtain ⟨p, hpe⟩ : ∃ p : Nat × Nat, p = (ta (s.2.1 k).1 i, tb (s.2.1 k).2 i) := ⟨_, rfl⟩
    have p1 : p.1 < A := by rw [hpe]; exact u1.2.2.2
    have p2 : p.2 < B := by rw [hpe]; exact u2.2.1
    have pc := cdK_lt (r := r) (B := B) hA p1 p2
    have ep : bIn ta tb k (i + 1) s = bAdd (bIn ta tb k i s) p k i := by rw [hpe]; rfl
    have eco : aOr (aShl (tb (s.2.1 k).2 i : Int) (r : Int)) (ta (s.2.1 k).1 i : Int) = ((cdK r p : Nat) : Int) := by
      have e1 : tb (s.2.1 k).2 i = p.2 := by rw [hpe]
      have e2 : ta (s.2.1 k).1 i = p.1 := by rw [hpe]
      have e3 : cdK r p = p.2 * A + p.1 := by unfold cdK; rw [← hA]
      rw [e1, e2, idx_or hA (by omega) p1 (by omega), e3]
    have hs := b3.has oi p1 (fun q' hq' e => cdK_inj hA hq' p1 e) (by omega)
    simp (disch := omega) only [mX11_go_L173, b1, b2, hsh, el, eh, y1, y2, WP_ite, WP_some, WP_none, WE_inl, WE_inr, wf, wfL, wfR, rdI_e, rdZ_e, rdL_e, wrI_e, wrL_e, bX_some, bE_inl, bE_inr, bT_inl, bT_inr, bX_ite, ite_someI, ite_someL, ite_someB, tt_eq, iteb, gz_01, gz_b2i, w32_id, w32_gI, w32_bz, Int.toNat_natCast, Int.reduceToNat, Int.toNat_add, Int.toNat_mul, Int.ofNat_lt, Int.ofNat_le, Int.natCast_inj]
    refine ⟨fun _ => ?_, fun g => absurd hi (by omega)⟩
    refine WP_call (R := fun y => y = (tb (s.2.1 k).2 i : Int)) ?_ (fun y hy => ?_)
    · by_cases e7 : a7 = 0
      · rw [if_pos e7]
        have := u2.2.2.2
        rw [if_pos e7] at this
        exact WP_some.2 (by rw [this]; rfl)
      · rw [if_neg e7, gk_eq (t4.2.2.2 e7)]
        have := u2.2.2.2
        rw [if_neg e7] at this
        exact WP_some.2 ((b4 _ _ (by omega)).trans this)
    · subst hy
      simp (disch := omega) only [WP_ite, WP_some, WP_none, WE_inl, WE_inr, wf, wfL, wfR, rdI_e, rdZ_e, rdL_e, wrI_e, wrL_e, bX_some, bE_inl, bE_inr, bT_inl, bT_inr, bX_ite, ite_someI, ite_someL, ite_someB, tt_eq, iteb, gz_01, gz_b2i, w32_id, w32_gI, w32_bz, Int.toNat_natCast, Int.reduceToNat, Int.toNat_add, Int.toNat_mul, Int.ofNat_lt, Int.ofNat_le, Int.natCast_inj, g1, eco, hs]
      rw [ep]
      by_cases hh : bHasN (bIn ta tb k i s).2.1 p (bIn ta tb k i s).1 = true
      · have ea : bAdd (bIn ta tb k i s) p k i = bIn ta tb k i s := if_pos hh
        rw [ea, if_pos hh]
        rw [if_pos (by decide), bX_some, WP_some, WE_inl]
        exact ⟨rfl, by show (i : Int) + 1 = _; omega, b3, b4⟩
      · have ne : (bIn ta tb k i s).1 < A * B := by
          have oa := bAdd_ok (k := k) (i := i) oi ⟨p1, p2⟩ (by omega) hi
          have := bOk_le oa
          have ea : (bAdd (bIn ta tb k i s) p k i).1 = (bIn ta tb k i s).1 + 1 := by unfold bAdd; rw [if_neg hh]
          omega
        have ea : (bAdd (bIn ta tb k i s) p k i).1 = (bIn ta tb k i s).1 + 1 := by unfold bAdd; rw [if_neg hh]
        rw [if_neg hh, if_neg (by decide)]
        simp (disch := omega) only [b1, WP_ite, WP_some, WP_none, WE_inl, WE_inr, wf, wfL, wfR, rdI_e, rdZ_e, rdL_e, wrI_e, wrL_e, bX_some, bE_inl, bE_inr, bT_inl, bT_inr, bX_ite, ite_someI, ite_someL, ite_someB, tt_eq, iteb, gz_01, gz_b2i, w32_id, w32_gI, w32_bz, Int.toNat_natCast, Int.reduceToNat, Int.toNat_add, Int.toNat_mul, Int.ofNat_lt, Int.ofNat_le, Int.natCast_inj]
        rw [ea]
        refine ⟨by omega, by omega, ?_, fun a j g => ?_⟩
        · exact b3.add oi (by omega) (by omega) (by omega) (by omega) hh
        · rw [hI_sI_a (by omega), hI_sI_a (by omega), hI_sI_a (by omega), hI_sI_a (by omega)]; exact b4 a j g
  · obtain ⟨b1, b2, b3, b4⟩ := hI
    simp (disch := omega) only [mX11_go_L173, b1, b2, hsh, WP_ite, WP_some, WP_none, WE_inl, WE_inr, wf, wfL, wfR, rdI_e, rdZ_e, rdL_e, wrI_e, wrL_e, bX_some, bE_inl, bE_inr, bT_inl, bT_inr, bX_ite, ite_someI, ite_someL, ite_someB, tt_eq, iteb, gz_01, gz_b2i, w32_id, w32_gI, w32_bz, Int.toNat_natCast, Int.reduceToNat, Int.toNat_add, Int.toNat_mul, Int.ofNat_lt, Int.ofNat_le, Int.natCast_inj]
    exact ⟨fun g => absurd g (by omega), fun _ => ⟨trivial, b3, b4⟩⟩
end CEXP
theorem bRun_ok {A B N a0 b0 : Nat} {ta tb : Nat → Nat → Nat} (hta : ∀ a i, a < A → i < N → ta a i < A) (htb : ∀ b i, b < B → i < N → tb b i < B) (h0 : a0 < A ∧ b0 < B) : ∀ k, (∀ k', k' < k → k' < (bRun ta tb N a0 b0 k').1) → BOk A B N (bRun ta tb N a0 b0 k) := by
  intro k
  induction k with
  | zero => exact fun _ => ⟨Nat.le_refl _, fun j hj => h0, fun i j hi hj _ => by have hi : i < 1 := hi; have hj : j < 1 := hj; omega, fun j j0 hj => by have hj : j < 1 := hj; omega⟩
  | succ k ih =>
    intro h
    exact bIn_ok hta htb (ih (fun k' hk' => h k' (by omega))) (h k (by omega)) (Nat.le_refl _)
section CWHOLE
variable {dif : Nat → Nat → Nat → Bool} {ta tb f1 f2 : Nat → Nat → Nat} {nin r N A B a0 b0 : Nat} {S : Sto} {a2 a3 a6 a7 : Nat} {p9 : Int}
/-- what a search tells: how many clocks, the witness -/
def BRes (dif : Nat → Nat → Nat → Bool) (ta tb : Nat → Nat → Nat) (N a0 b0 : Nat) (v len : Int) (row : Nat → Int) : Prop :=
  (∃ k i, BHit dif ta tb N a0 b0 k i ∧ v = (dep (bRun ta tb N a0 b0 k).2.2.1 k : Int) + 1 ∧ len = v ∧ ∀ j, j ≤ dep (bRun ta tb N a0 b0 k).2.2.1 k → row j = (wit (bRun ta tb N a0 b0 k).2.2.1 (bRun ta tb N a0 b0 k).2.2.2 k i j : Int)) ∨
  (∃ k, BEnd dif ta tb N a0 b0 k ∧ v = 0 ∧ len = 0)
theorem k_go (T : TabOk S nin r A B N a2 a3 a6 a7 p9 dif ta tb f1 f2) (h0 : a0 < A ∧ b0 < B) :
    WP (mX11_go S (nin : Int) a2 a3 (r : Int) (a0 : Int) a6 a7 (b0 : Int) p9) (fun x => BRes dif ta tb N a0 b0 x.1 ((gI x.2 192 5)) (fun j => (gI x.2 197 j))) := by
  have T0 := T
  obtain ⟨t1, t2, t3, t4, t5, hN, hA, hAB, hAN, hBN, hr, hnin, hB⟩ := T
  have hta : ∀ a i, a < A → i < N → ta a i < A := fun a i x y => (t1 a i x y).2.2.2
  have htb : ∀ b i, b < B → i < N → tb b i < B := fun b i x y => (t2 b i x y).2.1
  have hc0 := cdK_lt (r := r) (B := B) (p := (a0, b0)) hA h0.1 h0.2
  unfold mX11_go
  rw [wf_eq]
  refine WP_call (R := fun S' => gI S' 192 5 = 0 ∧ (∀ e, e < 4096 → gI S' 196 e = 0) ∧ ∀ a i, (a < 192 ∨ 197 < a) → gI S' a i = gI S a i) ?_ (fun S1 g1 => ?_)
  · refine WP_cnt 4096 (fun i z => z.1 = (i : Int) ∧ gI z.2 192 5 = 0 ∧ (∀ e, e < i → gI z.2 196 e = 0) ∧ ∀ a i, (a < 192 ∨ 197 < a) → gI z.2 a i = gI S a i) (by decide) ⟨rfl, by show gI (sI S 192 5 0) 192 5 = 0; rw [hI_sI]; rfl, fun e h => absurd h (Nat.not_lt_zero _), fun a i g => hI_sI_a (by omega)⟩ (fun i z hi hI => ?_) (fun z hI => ?_)
    · obtain ⟨b1, b2, b3, b4⟩ := hI
      simp (disch := omega) only [mX11_go_L8, b1, WP_ite, WP_some, WP_none, WE_inl, WE_inr, wf, wfL, wfR, rdI_e, rdZ_e, rdL_e, wrI_e, wrL_e, bX_some, bE_inl, bE_inr, bT_inl, bT_inr, bX_ite, ite_someI, ite_someL, ite_someB, tt_eq, iteb, gz_01, gz_b2i, w32_id, w32_gI, w32_bz, Int.toNat_natCast, Int.reduceToNat, Int.toNat_add, Int.toNat_mul, Int.ofNat_lt, Int.ofNat_le, Int.natCast_inj]
      refine ⟨fun _ => ⟨by omega, ?_, fun e he => ?_, fun a j g => ?_⟩, fun g => by omega⟩
      · rw [hI_sI_a (by omega)]; exact b2
      · rw [hI_sI]
        by_cases q : e = i
        · rw [if_pos ⟨rfl, q⟩]; rfl
        · rw [if_neg (fun g => q g.2)]; exact b3 e (by omega)
      · rw [hI_sI_a (by omega)]; exact b4 a j g
    · obtain ⟨b1, b2, b3, b4⟩ := hI
      simp (disch := omega) only [mX11_go_L8, b1, WP_ite, WP_some, WP_none, WE_inl, WE_inr, wf, wfL, wfR, rdI_e, rdZ_e, rdL_e, wrI_e, wrL_e, bX_some, bE_inl, bE_inr, bT_inl, bT_inr, bX_ite, ite_someI, ite_someL, ite_someB, tt_eq, iteb, gz_01, gz_b2i, w32_id, w32_gI, w32_bz, Int.toNat_natCast, Int.reduceToNat, Int.toNat_add, Int.toNat_mul, Int.ofNat_lt, Int.ofNat_le, Int.natCast_inj]
      exact ⟨fun g => by omega, fun _ => ⟨b2, b3, b4⟩⟩
  · have eco : aOr (aShl (b0 : Int) (r : Int)) (a0 : Int) = ((cdK r (a0, b0) : Nat) : Int) := by
      have e3 : cdK r (a0, b0) = b0 * A + a0 := by unfold cdK; rw [← hA]
      rw [idx_or hA (by omega) h0.1 (by omega), e3]
    have e193 : gI (sI S1 193 0 ((cdK r (a0, b0) : Nat) : Int)) 193 0 = ((cdK r (a0, b0) : Nat) : Int) := by rw [hI_sI, if_pos ⟨rfl, rfl⟩, w32_id (by omega)]
    rw [eco, wrI_e (by omega), rdI_e (by omega)]
    rw [show (0 : Int).toNat = 0 from rfl, e193, wrI_e (by omega), Int.toNat_natCast]
    refine WP_bE.2 ?_
    have q0 : Cq (sI (sI S1 193 0 ((cdK r (a0, b0) : Nat) : Int)) 196 (cdK r (a0, b0)) 1) (cdK r) (bRun ta tb N a0 b0 0) := by
      refine ⟨fun j hj => ?_, fun j j0 hj => ?_, fun j hj => ?_, fun x hx hj => ?_⟩
      · have hj : j < 1 := hj
        have : j = 0 := by omega
        subst this
        rw [hI_sI_a (by omega)]; exact e193
      · have hj : j < 1 := hj
        omega
      · show gI _ 196 (cdK r (a0, b0)) = 1
        rw [hI_sI, if_pos ⟨rfl, rfl⟩]; rfl
      · have := hj 0 (by show 0 < 1; omega)
        have this : cdK r (a0, b0) ≠ x := this
        rw [hI_sI, if_neg (fun g => this g.2.symm), hI_sI_a (by omega)]; exact g1.2.1 x hx
    refine WP_lpF (fun z => ∃ k : Nat, z.2.1 = (k : Int) ∧ z.1 = ((bRun ta tb N a0 b0 k).1 : Int) ∧ k ≤ 4096 ∧ Cq z.2.2 (cdK r) (bRun ta tb N a0 b0 k) ∧ (∀ k', k' < k → k' < (bRun ta tb N a0 b0 k').1 ∧ fdN (dif ((bRun ta tb N a0 b0 k').2.1 k').1 ((bRun ta tb N a0 b0 k').2.1 k').2) N = none) ∧ gI z.2.2 192 5 = 0 ∧ ∀ a i, (a < 192 ∨ 197 < a) → gI z.2.2 a i = gI S a i) (fun z => 5000 - z.2.1.toNat) ⟨0, rfl, rfl, by omega, q0, fun k' h => absurd h (Nat.not_lt_zero _), ?_, fun a i g => ?_⟩ (by show 5000 - _ < _; unfold cFU; omega) (fun z hz => ?_)
    · show gI (sI (sI S1 193 0 _) 196 _ 1) 192 5 = 0
      rw [hI_sI_a (by omega), hI_sI_a (by omega)]; exact g1.1
    · show gI (sI (sI S1 193 0 _) 196 _ 1) a i = _
      rw [hI_sI_a (by omega), hI_sI_a (by omega)]; exact g1.2.2 a i g
    · obtain ⟨k, b1, b2, bk, b3, b4, b6, b5⟩ := hz
      have o := bRun_ok (a0 := a0) (b0 := b0) hta htb h0 k (fun k' hk' => (b4 k' hk').1)
      have hcnt := bOk_le o
      have T1 := T0.mv b5
      unfold mX11_go_L62
      rw [b1, b2, w32_id (by omega), w32_id (by omega), WP_ite]
      refine ⟨fun g => ?_, fun g => ?_⟩
      · have hk : k < (bRun ta tb N a0 b0 k).1 := by omega
        have e1 := b3.1 k hk
        rw [rdI_e (by omega), Int.toNat_natCast, e1, rdI_e (by omega), Int.toNat_natCast, e1]
        have ez : z = (((bRun ta tb N a0 b0 k).1 : Int), (k : Int), z.2.2) := by rw [← b1, ← b2]
        refine WP_bE.2 ?_
        rw [ez]
        refine (k_chk (n := ((bRun ta tb N a0 b0 k).1 : Int)) (S8 := z.2.2) T1 o b3 hk).mono (fun x hx => ?_)
        cases x with
        | inl S' =>
          obtain ⟨rfl, hf⟩ := hx
          show WP (bX _ _) _
          refine WP_call (k_exp (n := ((bRun ta tb N a0 b0 k).1 : Int)) (S8 := z.2.2) T1 o b3 hk) (fun y hy => ?_)
          refine WP_some.2 ⟨⟨k + 1, by show (k : Int) + 1 = _; omega, hy.1, by omega, hy.2.1, fun k' hk' => ?_, (hy.2.2 192 5 (by omega)).trans b6, fun a i g' => (hy.2.2 a i (by omega)).trans (b5 a i g')⟩, ?_⟩
          · by_cases e : k' = k
            · subst e; exact ⟨hk, hf⟩
            · exact b4 k' (by omega)
          · show 5000 - ((k : Int) + 1).toNat < 5000 - ((k : Int)).toNat
            omega
        | inr t =>
          obtain ⟨i, x, rfl, hf, hl, hrow⟩ := hx
          show BRes _ _ _ _ _ _ _ _ _
          exact .inl ⟨k, i, ⟨b4, hk, hf⟩, rfl, hl, hrow⟩
      · have hk : (bRun ta tb N a0 b0 k).1 ≤ k := by omega
        refine WP_some.2 ?_
        show WP (some ((0 : Int), z.2.2)) _
        exact WP_some.2 (.inr ⟨k, ⟨b4, hk⟩, rfl, b6⟩)
end CWHOLE
