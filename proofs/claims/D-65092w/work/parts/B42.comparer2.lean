/-! the class's Comparer: the search -/
def cdK (r : Nat) (p : Nat × Nat) : Nat := p.2 * 2 ^ r + p.1
theorem cdK_lt {r A B : Nat} {p : Nat × Nat} (hA : A = 2 ^ r) (h1 : p.1 < A) (h2 : p.2 < B) : cdK r p < A * B := by
  have : (p.2 + 1) * A ≤ B * A := Nat.mul_le_mul_right A h2
  rw [Nat.add_mul, Nat.one_mul, Nat.mul_comm B A] at this
  unfold cdK
  rw [← hA]
  omega
theorem cdK_inj {r A : Nat} {p q : Nat × Nat} (hA : A = 2 ^ r) (h1 : p.1 < A) (h2 : q.1 < A) (e : cdK r p = cdK r q) : p = q := by
  unfold cdK at e
  rw [← hA] at e
  have m : p.1 = q.1 := by
    have := congrArg (· % A) e
    simpa [Nat.mul_add_mod_self_right, Nat.mod_eq_of_lt h1, Nat.mod_eq_of_lt h2] using this
  rw [m] at e
  have e2 : p.2 * A = q.2 * A := by omega
  exact Prod.ext m (Nat.eq_of_mul_eq_mul_right (by omega) e2)
theorem mul_lt_of {a A i N : Nat} (ha : a < A) (hi : i < N) : a * N + i < A * N := by
  have : (a + 1) * N ≤ A * N := Nat.mul_le_mul_right N ha
  rw [Nat.add_mul, Nat.one_mul] at this
  omega
/-- the place of a state and an input -/
theorem idx_or {a i n N : Nat} (hN : N = 2 ^ n) (hn : n ≤ 12) (hi : i < N) (h : a * N + i < 2147483648) : aOr (aShl (a : Int) (n : Int)) (i : Int) = ((a * N + i : Nat) : Int) := by
  subst hN
  rw [aShl_nat (by omega) (by omega), aOr_nat (by omega) (by omega), or_shl hi]
theorem idx_or' {a i n N : Nat} (hN : N = 2 ^ n) (hn : n ≤ 12) (hi : i < N) (h : a * N + i < 2147483648) : aOr (i : Int) (aShl (a : Int) (n : Int)) = ((a * N + i : Nat) : Int) := by rw [aOr_comm, idx_or hN hn hi h]
theorem cd_low {r A a b : Nat} (hA : A = 2 ^ r) (hr : r ≤ 6) (ha : a < A) : aAnd ((b * A + a : Nat) : Int) (aShl 1 (r : Int) - 1) = (a : Int) := by
  rw [aShl1 (by omega), aAnd_mask _ (by omega)]
  have : (b * A + a) % A = a := by rw [Nat.mul_add_mod_self_right, Nat.mod_eq_of_lt ha]
  rw [← hA]
  omega
theorem cd_high {r A a b : Nat} (hA : A = 2 ^ r) (hr : r ≤ 6) (ha : a < A) (h : b * A + a < 2147483648) : aShr ((b * A + a : Nat) : Int) (r : Int) = (b : Int) := by
  rw [aShr_nat (by omega) h, ← hA]
  have : (b * A + a) / A = b := by
    rw [Nat.mul_comm, Nat.mul_add_div (by omega), Nat.div_eq_of_lt ha, Nat.add_zero]
  rw [this]
theorem Cq.has {S : Sto} {cd : Nat × Nat → Nat} {s : Bst} {A B N : Nat} {p : Nat × Nat} (h : Cq S cd s) (o : BOk A B N s) (hp : p.1 < A) (hi : ∀ q : Nat × Nat, q.1 < A → cd q = cd p → q = p) (hc : cd p < 4096) : gI S 196 (cd p) = if bHasN s.2.1 p s.1 = true then 1 else 0 := by
  by_cases q : bHasN s.2.1 p s.1 = true
  · rw [if_pos q]
    obtain ⟨j, h1, h2⟩ := bHasN_iff.1 q
    have := h.2.2.1 j h1
    rwa [h2] at this
  · rw [if_neg q]
    exact h.2.2.2 _ hc (fun j hj e => q (bHasN_iff.2 ⟨j, hj, hi _ (o.2.1 j hj).1 e⟩))
theorem Cq.add {S : Sto} {cd : Nat × Nat → Nat} {s : Bst} {A B N : Nat} {p : Nat × Nat} {k i : Nat} (h : Cq S cd s) (o : BOk A B N s) (hn : s.1 < 4096) (hk : k < 4096) (hi : i < 4096) (hc : cd p < 4096) (q : ¬ bHasN s.2.1 p s.1 = true) :
    Cq (sI (sI (sI (sI S 196 (cd p) 1) 193 s.1 (cd p : Int)) 194 s.1 (k : Int)) 195 s.1 (i : Int)) cd (bAdd s p k i) := by
  obtain ⟨h1, h2, h3, h4⟩ := h
  have e : bAdd s p k i = (s.1 + 1, updN s.2.1 s.1 p, updN s.2.2.1 s.1 k, updN s.2.2.2 s.1 i) := if_neg q
  rw [e]
  refine ⟨fun j hj => ?_, fun j j0 hj => ?_, fun j hj => ?_, fun x hx hj => ?_⟩
  · have hj : j < s.1 + 1 := hj
    show gI _ 193 j = (cd (updN s.2.1 s.1 p j) : Int)
    rw [hI_sI_a (by omega), hI_sI_a (by omega), hI_sI]
    by_cases ej : j = s.1
    · rw [if_pos ⟨rfl, ej⟩, ej, updN_eq, w32_id (by omega)]
    · rw [if_neg (fun g => ej g.2), updN_ne ej, hI_sI_a (by omega)]; exact h1 j (by omega)
  · have hj : j < s.1 + 1 := hj
    show gI _ 194 j = ((updN s.2.2.1 s.1 k j : Nat) : Int) ∧ gI _ 195 j = ((updN s.2.2.2 s.1 i j : Nat) : Int)
    have g1 := h2 j j0
    refine ⟨?_, ?_⟩
    · rw [hI_sI_a (by omega), hI_sI]
      by_cases ej : j = s.1
      · rw [if_pos ⟨rfl, ej⟩, ej, updN_eq, w32_id (by omega)]
      · rw [if_neg (fun g => ej g.2), updN_ne ej, hI_sI_a (by omega), hI_sI_a (by omega)]; exact (g1 (by omega)).1
    · rw [hI_sI]
      by_cases ej : j = s.1
      · rw [if_pos ⟨rfl, ej⟩, ej, updN_eq, w32_id (by omega)]
      · rw [if_neg (fun g => ej g.2), updN_ne ej, hI_sI_a (by omega), hI_sI_a (by omega), hI_sI_a (by omega)]; exact (g1 (by omega)).2
  · have hj : j < s.1 + 1 := hj
    show gI _ 196 (cd (updN s.2.1 s.1 p j)) = 1
    rw [hI_sI_a (by omega), hI_sI_a (by omega), hI_sI_a (by omega), hI_sI]
    by_cases ej : j = s.1
    · rw [ej, updN_eq, if_pos ⟨rfl, rfl⟩]; rfl
    · rw [updN_ne ej]
      split
      · rfl
      · exact h3 j (by omega)
  · have hj : ∀ j, j < s.1 + 1 → cd (updN s.2.1 s.1 p j) ≠ x := hj
    rw [hI_sI_a (by omega), hI_sI_a (by omega), hI_sI_a (by omega), hI_sI, if_neg]
    · exact h4 x hx (fun j j1 => by have := hj j (by omega); rwa [updN_ne (by omega)] at this)
    · intro g
      have := hj s.1 (by omega)
      rw [updN_eq] at this
      exact this g.2.symm
section CGO
variable {dif : Nat → Nat → Nat → Bool} {ta tb f1 f2 : Nat → Nat → Nat} {nin r N A B : Nat} {S : Sto} {a2 a3 a6 a7 : Nat} {p9 : Int} {s : Bst} {k : Nat}
theorem k_chk (T : TabOk S nin r A B N a2 a3 a6 a7 p9 dif ta tb f1 f2) (o : BOk A B N s) (q : Cq S (cdK r) s) (hk : k < s.1) {n : Int} {S8 : Sto} :
    WP (lpF (mX11_go_L100 (nin : Int) a2 ((cdK r (s.2.1 k) : Nat) : Int) (r : Int) a6 ((cdK r (s.2.1 k) : Nat) : Int) p9 (n, (k : Int), S8)) (0, S)) (WE (fun S' => S' = S ∧ fdN (dif (s.2.1 k).1 (s.2.1 k).2) N = none) (fun t => ∃ i x, t = .inr (.inr ((dep s.2.2.1 k : Int) + 1, x)) ∧ fdN (dif (s.2.1 k).1 (s.2.1 k).2) N = some i ∧ (gI x 192 5) = (dep s.2.2.1 k : Int) + 1 ∧ ∀ j, j ≤ dep s.2.2.1 k → (gI x 197 j) = (wit s.2.2.1 s.2.2.2 k i j : Int))) := by
  obtain ⟨t1, t2, t3, t4, t5, hN, hA, hAB, hAN, hBN, hr, hnin, hB⟩ := T
  have hp := o.2.1 k hk
  have hcnt := bOk_le o
  have hN0 : 1 ≤ N := by rw [hN]; exact Nat.one_le_two_pow
  have hA0 : 1 ≤ A := by omega
  have hN4 : N ≤ 4096 := Nat.le_trans (Nat.le_mul_of_pos_left N hA0) hAN
  have hc := cdK_lt (r := r) (B := B) hA hp.1 hp.2
  have ecd : cdK r (s.2.1 k) = (s.2.1 k).2 * A + (s.2.1 k).1 := by unfold cdK; rw [← hA]
  have el := cd_low (b := (s.2.1 k).2) hA hr hp.1
  have eh := cd_high (b := (s.2.1 k).2) hA hr hp.1 (by omega)
  have hsh := aShl1 (k := nin) (by omega)
  rw [← hN] at hsh
  rw [ecd]
  refine WP_cnt N (fun i z => z.1 = (i : Int) ∧ z.2 = S ∧ ∀ i', i' < i → dif (s.2.1 k).1 (s.2.1 k).2 i' = false) (by unfold cFU; omega) ⟨rfl, rfl, fun i h => absurd h (Nat.not_lt_zero _)⟩ (fun i z hi hI => ?_) (fun z hI => ?_)
  · obtain ⟨b1, b2, b3⟩ := hI
    have u1 := t1 (s.2.1 k).1 i hp.1 hi
    have u2 := t2 (s.2.1 k).2 i hp.2 hi
    have u3 := t3 (s.2.1 k).1 (s.2.1 k).2 i hp.1 hp.2 hi
    have x1 := mul_lt_of hp.1 hi
    have x2 := mul_lt_of hp.2 hi
    have y1 := idx_or (a := (s.2.1 k).1) hN hnin hi (by omega)
    have y2 := idx_or (a := (s.2.1 k).2) hN hnin hi (by omega)
    simp (disch := omega) only [mX11_go_L100, b1, b2, hsh, el, eh, y1, y2, t4.1, WP_ite, WP_some, WP_none, WE_inl, WE_inr, wf, wfL, wfR, rdI_e, rdZ_e, rdL_e, wrI_e, wrL_e, bX_some, bE_inl, bE_inr, bT_inl, bT_inr, bX_ite, ite_someI, ite_someL, ite_someB, tt_eq, iteb, gz_01, gz_b2i, w32_id, w32_gI, w32_bz, Int.toNat_natCast, Int.reduceToNat, Int.toNat_add, Int.toNat_mul, Int.ofNat_lt, Int.ofNat_le, Int.natCast_inj, u1.1]
    refine ⟨fun _ => ?_, fun g => absurd hi (by omega)⟩
    refine WP_call (R := fun y => y = (f2 (s.2.1 k).2 i : Int)) ?_ (fun y hy => ?_)
    · by_cases e6 : a6 = 0
      · rw [if_pos e6]
        have := u2.2.2.1
        rw [if_pos e6] at this
        exact WP_some.2 (by rw [this]; rfl)
      · rw [if_neg e6, gk_eq (t4.2.2.1 e6)]
        have := u2.2.2.1
        rw [if_neg e6] at this
        exact WP_some.2 this
    · subst hy
      by_cases hd : dif (s.2.1 k).1 (s.2.1 k).2 i = true
      · rw [if_pos (fun g => by rw [u3.1 g] at hd; exact (nomatch hd))]
        have hqp : ∀ j, 0 < j → j < s.1 → s.2.2.1 j < j := fun j j0 j1 => (o.2.2.2 j j0 j1).1
        refine WP_call (k_found (n := s.1) (qp := s.2.2.1) (qi := s.2.2.2) hk (by omega) hqp (by omega) (fun j j0 j1 => by have := (o.2.2.2 j j0 j1).2; omega) q.2.1) (fun x hx => ?_)
        refine WP_some.2 ⟨i, x, ?_, fdN_some hi hd b3, hx.1, hx.2⟩
        rw [hx.1]
      · rw [if_neg (fun g => g (u3.2 (by simpa using hd)))]
        refine WP_some.2 ⟨by omega, rfl, fun i' hi' => ?_⟩
        by_cases e : i' = i
        · subst e; simpa using hd
        · exact b3 i' (by omega)
  · obtain ⟨b1, b2, b3⟩ := hI
    simp (disch := omega) only [mX11_go_L100, b1, b2, hsh, WP_ite, WP_some, WP_none, WE_inl, WE_inr, wf, wfL, wfR, rdI_e, rdZ_e, rdL_e, wrI_e, wrL_e, bX_some, bE_inl, bE_inr, bT_inl, bT_inr, bX_ite, ite_someI, ite_someL, ite_someB, tt_eq, iteb, gz_01, gz_b2i, w32_id, w32_gI, w32_bz, Int.toNat_natCast, Int.reduceToNat, Int.toNat_add, Int.toNat_mul, Int.ofNat_lt, Int.ofNat_le, Int.natCast_inj]
    exact ⟨fun g => absurd g (by omega), fun _ => ⟨trivial, fdN_none.2 b3⟩⟩
end CGO
