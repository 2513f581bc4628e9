/-! a free place; what map changes -/
def FrQ (f : Nat → Int) (N : Nat) (y : Int) : Prop := (y = -1 ∧ ∀ k, k < N → f k ≠ 0) ∨ ∃ k : Nat, k < N ∧ y = (k : Int) ∧ f k = 0 ∧ ∀ j, j < k → f j ≠ 0
theorem FrQ.eq {f : Nat → Int} {N : Nat} {y z : Int} (h : FrQ f N y) (g : FrQ f N z) : y = z := by
  rcases h with ⟨h1, h2⟩ | ⟨k, h1, h2, h3, h4⟩
  · rcases g with ⟨g1, g2⟩ | ⟨j, g1, g2, g3, g4⟩
    · rw [h1, g1]
    · exact (h2 j g1 g3).elim
  · rcases g with ⟨g1, g2⟩ | ⟨j, g1, g2, g3, g4⟩
    · exact (g2 k h1 h3).elim
    · rcases Nat.lt_trichotomy k j with q | q | q
      · exact (g4 k q h3).elim
      · rw [h2, g2, q]
      · exact (h4 j q g3).elim
theorem FrQ.cg {f g : Nat → Int} {N : Nat} {y : Int} (h : FrQ f N y) (e : ∀ k, k < N → g k = f k) : FrQ g N y := by
  rcases h with ⟨h1, h2⟩ | ⟨k, h1, h2, h3, h4⟩
  · exact .inl ⟨h1, fun k hk => by rw [e k hk]; exact h2 k hk⟩
  · exact .inr ⟨k, h1, h2, by rw [e k h1]; exact h3, fun j hj => by rw [e j (by omega)]; exact h4 j hj⟩
theorem m_free {S : Sto} {a N : Nat} (hN : aN (kK a) = N) (h9 : N < 100) : WP (mX23_free S a (N : Int)) (FrQ (fun i => gI S a i) N) := by
  unfold mX23_free
  refine WP_bE.2 ?_
  refine WP_cnt N (fun q s => s = (q : Int) ∧ ∀ j, j < q → gI S a j ≠ 0) (by unfold cFU; omega) ⟨rfl, fun j hj => absurd hj (Nat.not_lt_zero _)⟩ (fun q s hq hI => ?_) (fun s hI => ?_)
  · obtain ⟨rfl, b⟩ := hI
    unfold mX23_free_L2
    rw [hN, w32_id (x := (q : Int)) (by omega), w32_id (x := (N : Int)) (by omega), if_pos (by omega), rdZ_e (by omega), w32_bz, Int.toNat_natCast]
    by_cases g : gI S a q = 0
    · rw [if_pos (bz_eq0.2 g)]
      exact WP_some.2 (.inr ⟨q, hq, rfl, g, b⟩)
    · rw [if_neg (fun e => g (bz_eq0.1 e))]
      refine WP_some.2 ⟨by show (q : Int) + 1 = _; omega, fun j hj => ?_⟩
      by_cases e : j = q
      · rw [e]; exact g
      · exact b j (by omega)
  · obtain ⟨rfl, b⟩ := hI
    unfold mX23_free_L2
    rw [w32_id (x := (N : Int)) (by omega), if_neg (by omega)]
    refine WP_some.2 ?_
    show WP (some (-1 : Int)) _
    exact WP_some.2 (.inl ⟨rfl, b⟩)
theorem k_freeQ {S : Sto} {a N : Nat} (hN : aN (kK a) = N) (h9 : N < 100) : WP (mX1_free S a) (FrQ (fun i => gI S a i) N) := by
  have e : mX1_free S a = mX23_free S a (N : Int) := by rw [← hN]; rfl
  rw [e]; exact m_free hN h9
/-- a free place of the class is the reference's -/
theorem m_free_as {S S1 : Sto} {a b N : Nat} {y : Int} (hb : aN (kK b) = N) (h9 : N < 100) (e : ∀ k, k < N → gI S1 b k = gI S a k) (h : FrQ (fun i => gI S a i) N y) : mX23_free S1 b (N : Int) = some y :=
  WP.of ((m_free hb h9).mono (fun _ hz => hz.eq (h.cg e)))
theorem rdA_n {τ : Type} {n j : Nat} {k : Nat → Option τ} (h : j < n) (hn : n < 1000) : rdA n (j : Int) k = k j := by
  unfold rdA ixn
  rw [w32_id (by omega), if_pos (by omega), Int.toNat_natCast]
/-- a chip and the mapper's marks are others now -/
theorem Inv.putM {c k : Nat} {S S' : Sto} (h : Inv c S) (hk : k < 4) (e : ∀ a i, kept a i = true → ¬ (344 + 22 * k ≤ a ∧ a ≤ 344 + 22 * k + 21) → ¬ ownC k a i → ¬ ((a = 434 ∨ a = 2105) ∧ i = k) → ¬ (a = 213 ∨ (a = 198 ∧ i = 20) ∨ a = 2096 ∨ (a = 2000 ∧ i = 127)) → gI S' a i = gI S a i) (eL : ∀ a i, (a = 365 ∨ a = 387 ∨ a = 409 ∨ a = 431) ∨ a = 2175 → gL S' a i = gL S a i) (h1 : nC S' ≤ nC S + 10) (h2 : nS S' ≤ nS S + 20000) {m : Int} (hm : m ≤ 100000 * ((c : Int) + 1)) (k1 : KSt S' m) (k2 : MSt S' m) (hn : InvC S' k) : Inv (c + 1) S' := by
  obtain ⟨g1, g2, g3, g4, g5, g6, g7⟩ := h
  have e' : ∀ a i, kept a i = true → (a < 344 ∨ 431 < a) → a < 2106 → ¬ ((a = 434 ∨ a = 2105) ∧ i = k) → ¬ (a = 213 ∨ (a = 198 ∧ i = 20) ∨ a = 2096 ∨ (a = 2000 ∧ i = 127)) → gI S' a i = gI S a i := fun a i q q1 q2 q3 q4 => e a i q (by omega) (fun z => by have := z.1; omega) q3 q4
  refine ⟨g1.up h1 h2, ?_, ⟨?_, ?_⟩, ?_, fun f hf => ?_, fun f hf => ?_, fun f hf => ?_⟩
  · exact g2.cg (Nat.le_succ _) (e' _ _ (kept_rng (by omega)) (by omega) (by omega) (by omega) (by omega)) (e' _ _ (kept_rng (by omega)) (by omega) (by omega) (by omega) (by omega)) (fun i => e' _ _ (kept_rng (by omega)) (by omega) (by omega) (by omega) (by omega)) (fun i => e' _ _ (kept_rng (by omega)) (by omega) (by omega) (by omega) (by omega))
  · rw [e' _ _ (kept_rng (by omega)) (by omega) (by omega) (by omega) (by omega), e' _ _ (kept_rng (by omega)) (by omega) (by omega) (by omega) (by omega)]; exact g3.1
  · obtain ⟨n1, n2, n3⟩ := g3.2
    obtain ⟨a1, a2, a3⟩ := k1
    obtain ⟨b1, b2, b3⟩ := k2
    refine ⟨fun a ha => ?_, ⟨a1, by omega, a3⟩, ⟨b1, by omega, b3⟩⟩
    have q : a ≤ 170 := by
      unfold rowL at ha
      simp only [Bool.or_eq_true, Bool.and_eq_true, Nat.beq_eq, Nat.ble_eq] at ha
      omega
    rw [e' _ _ (keptN_kept (keptN_row ha)) (by omega) (by omega) (by omega) (by omega)]; exact n1 a ha
  · exact g4.cg (e' _ _ (kept_rng (by omega)) (by omega) (by omega) (by omega) (by omega)) (e' _ _ (kept_rng (by omega)) (by omega) (by omega) (by omega) (by omega)) (fun i => e' _ _ (kept_rng (by omega)) (by omega) (by omega) (by omega) (by omega)) (fun i => e' _ _ (kept_rng (by omega)) (by omega) (by omega) (by omega) (by omega))
  · exact (g5 f hf).cg (e' _ _ (kept_rng (by omega)) (by omega) (by omega) (by omega) (by omega)) (e' _ _ (kept_rng (by omega)) (by omega) (by omega) (by omega) (by omega)) (fun a i l1 l2 => e' _ _ (kept_rng (by omega)) (by omega) (by omega) (by omega) (by omega)) (fun a i l1 l2 l3 l4 => e' _ _ (kept_rng (by omega)) (by omega) (by omega) (by omega) (by omega))
  · exact (g6 f hf).cg (e' _ _ (kept_rng (by omega)) (by omega) (by omega) (by omega) (by omega)) (e' _ _ (kept_rng (by omega)) (by omega) (by omega) (by omega) (by omega)) (fun a i l1 l2 => e' _ _ (kept_rng (by omega)) (by omega) (by omega) (by omega) (by omega)) (e' _ _ (kept_rng (by omega)) (by omega) (by omega) (by omega) (by omega)) (fun a i l1 l2 _ _ => e' _ _ (kept_rng (by omega)) (by omega) (by omega) (by omega) (by omega))
  · by_cases q : f = k
    · subst q; exact hn
    · have dj : ∀ a i, ownC f a i → ¬ ownC k a i := fun a i x y => str_disj q x.2.1 x.2.2 y.2.1 y.2.2
      exact (g7 f hf).cg (e' _ _ (kept_rng (by omega)) (by omega) (by omega) (by omega) (by omega)) (e' _ _ (kept_rng (by omega)) (by omega) (by omega) (by omega) (by omega)) (fun a i l1 l2 => e _ _ (kept_rng (by omega)) (by omega) (fun z => by have := z.1; omega) (by omega) (by omega)) (fun i => eL _ _ (by omega)) (fun a i l => e _ _ (ownC_kept l) (by have := l.1; omega) (dj _ _ l) (by have := l.1; omega) (by have := l.1; omega)) (fun i l => eL _ _ (by omega))
theorem kept_mp {a i : Nat} (g : kept a i = true) : ¬ (198 ≤ a ∧ a ≤ 218 ∧ ¬ (a = 213 ∨ (a = 198 ∧ i = 20))) ∧ ¬ (2082 ≤ a ∧ a ≤ 2104 ∧ a ≠ 2096) ∧ ¬ (a = 2000 ∧ 105 ≤ i ∧ i ≤ 137 ∧ i ≠ 127) ∧ ¬ (a = 2000 ∧ i = 0) := by
  unfold kept keptO keptN rowL at g
  simp only [Bool.or_eq_true, Bool.and_eq_true, Nat.beq_eq, Nat.ble_eq] at g
  omega
