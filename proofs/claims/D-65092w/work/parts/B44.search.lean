/-! the reference's search -/
theorem dep_cg {qp qp' : Nat → Nat} {n : Nat} (h : ∀ j, 0 < j → j < n → qp j < j) (e : ∀ j, 0 < j → j < n → qp' j = qp j) : ∀ k, k < n → dep qp' k = dep qp k := by
  have h' : ∀ j, 0 < j → j < n → qp' j < j := fun j j0 j1 => by rw [e j j0 j1]; exact h j j0 j1
  intro k
  induction k using Nat.strongRecOn with
  | ind k ih =>
    intro hk
    by_cases k0 : k = 0
    · subst k0; rfl
    · rw [dep_pos h (by omega) hk, dep_pos h' (by omega) hk, e k (by omega) hk]
      have := h k (by omega) hk
      rw [ih _ this (by omega)]
theorem wit_cg {qp qp' qi qi' : Nat → Nat} {n : Nat} (h : ∀ j, 0 < j → j < n → qp j < j) (e : ∀ j, 0 < j → j < n → qp' j = qp j ∧ qi' j = qi j) : ∀ k i j, k < n → j ≤ dep qp k → wit qp' qi' k i j = wit qp qi k i j := by
  have h' : ∀ j, 0 < j → j < n → qp' j < j := fun j j0 j1 => by rw [(e j j0 j1).1]; exact h j j0 j1
  have hd := dep_cg h (fun j j0 j1 => (e j j0 j1).1)
  intro k
  induction k using Nat.strongRecOn with
  | ind k ih =>
    intro i j hk hj
    by_cases ej : j = dep qp k
    · rw [ej, wit_top, ← hd k hk, wit_top]
    · by_cases k0 : k = 0
      · subst k0; rw [dep_0] at hj ej; omega
      · have h1 := h k (by omega) hk
        have h2 := dep_pos h (by omega) hk
        have h3 := hd k hk
        rw [wit_low h (by omega) hk (by omega), wit_low h' (by omega) hk (by omega), (e k (by omega) hk).1, (e k (by omega) hk).2]
        exact ih _ h1 _ _ (by omega) (by omega)
theorem m_tell {S : Sto} {qp qi : Nat → Nat} {n k i : Nat} (hk : k < n) (hn : n ≤ 4096) (hp : ∀ j, 0 < j → j < n → qp j < j) (hi : i < 4096) (hq : ∀ j, 0 < j → j < n → qi j < 4096)
    (h4 : ∀ j, 0 < j → j < n → (gI S 2078 j) = (qp j : Int) ∧ (gI S 2079 j) = (qi j : Int)) (h5 : ∀ j, j < n → (gI S 2080 j) = (dep qp j : Int)) :
    WP (mX23_tellWitness S (k : Int) (i : Int)) (fun x => x.1 = (dep qp k : Int) + 1 ∧ (gI x.2 2000 95) = (dep qp k : Int) + 1 ∧ ∀ j, j ≤ dep qp k → (gI x.2 2072 j) = (wit qp qi k i j : Int)) := by
  have hd := dep_le hp
  have hdk := hd k hk
  unfold mX23_tellWitness
  rw [rdI_e (by omega), Int.toNat_natCast, h5 k hk, wf_eq, wrI_e (by omega)]
  have z0 : ((dep qp k : Int) + 1 - 1).toNat = dep qp k := by omega
  rw [z0]
  refine WP_call (R := fun S' => (gI S' 2000 95) = (dep qp k : Int) + 1 ∧ ∀ j, j ≤ dep qp k → (gI S' 2072 j) = (wit qp qi k i j : Int)) ?_ (fun S2 g2 => WP_some.2 ⟨rfl, g2⟩)
  refine WP_lpF (fun s => ∃ p : Nat, s.1 = (p : Int) ∧ p < n ∧ dep qp p ≤ dep qp k ∧ s.2.1 = (dep qp p : Int) - 1 ∧ (gI s.2.2 2000 95) = (dep qp k : Int) + 1 ∧ (∀ j, dep qp p ≤ j → j ≤ dep qp k → (gI s.2.2 2072 j) = (wit qp qi k i j : Int)) ∧ (0 < p → ∀ j, j < dep qp p → wit qp qi k i j = wit qp qi (qp p) (qi p) j) ∧ ∀ j, 0 < j → j < n → (gI s.2.2 2078 j) = (qp j : Int) ∧ (gI s.2.2 2079 j) = (qi j : Int)) (fun s => s.1.toNat) ⟨k, rfl, hk, Nat.le_refl _, ?_, ?_, fun j j1 j2 => ?_, fun j0 j j1 => wit_low hp j0 hk j1, fun j j1 j2 => ?_⟩ (by show (k : Int).toNat < _; unfold cFU; omega) (fun s hs => ?_)
  · show (dep qp k : Int) + 1 - 2 = _; omega
  · show gI (sI (sI S 2000 95 _) 2072 (dep qp k) (i : Int)) 2000 95 = _
    rw [hI_sI_a (by omega), hI_sI, if_pos ⟨rfl, rfl⟩, w32_id (by omega)]
  · have : j = dep qp k := by omega
    subst this
    show gI (sI (sI S 2000 95 _) 2072 (dep qp k) (i : Int)) 2072 (dep qp k) = _
    rw [hI_sI, if_pos ⟨rfl, rfl⟩, w32_id (by omega), wit_top]
  · show gI (sI (sI S 2000 95 _) 2072 (dep qp k) (i : Int)) 2078 j = _ ∧ gI (sI (sI S 2000 95 _) 2072 (dep qp k) (i : Int)) 2079 j = _
    rw [hI_sI_a (by omega), hI_sI_a (by omega), hI_sI_a (by omega), hI_sI_a (by omega)]; exact h4 j j1 j2
  · obtain ⟨p, a1, a2, a3, a4, a5, a6, a7, a8⟩ := hs
    by_cases q : 0 < p
    · have e1 := a8 p q a2
      have e2 := dep_pos hp q a2
      have e3 := hp p q a2
      have e4 := hq p q a2
      have z : ((dep qp p : Int) - 1).toNat = dep qp (qp p) := by omega
      simp (disch := omega) only [mX23_tellWitness_L31, a1, a4, e1.2, WP_ite, WP_some, WP_none, WE_inl, WE_inr, wf, wfL, wfR, rdI_e, rdZ_e, rdL_e, wrI_e, wrL_e, bX_some, bE_inl, bE_inr, bT_inl, bT_inr, bX_ite, ite_someI, ite_someL, ite_someB, tt_eq, iteb, gz_01, gz_b2i, w32_id, w32_gI, w32_bz, Int.toNat_natCast, Int.reduceToNat, Int.toNat_add, Int.toNat_mul, Int.ofNat_lt, Int.ofNat_le, Int.natCast_inj, z]
      refine ⟨fun _ => ?_, fun g => absurd e2 (by omega)⟩
      have ew : wit qp qi k i (dep qp (qp p)) = qi p := by rw [a7 q _ (by omega), wit_top]
      refine ⟨⟨qp p, ?_, by omega, by omega, by omega, ?_, fun j j1 j2 => ?_, fun j0 j j1 => ?_, fun j j1 j2 => ?_⟩, ?_⟩
      · rw [hI_sI_a (by omega)]; exact e1.1
      · rw [hI_sI_a (by omega)]; exact a5
      · rw [hI_sI]
        by_cases e : j = dep qp (qp p)
        · rw [if_pos ⟨rfl, e⟩, e, ew, w32_id (by omega)]
        · rw [if_neg (fun g => e g.2)]; exact a6 j (by omega) j2
      · rw [a7 q j (by omega), wit_low hp j0 (by omega) j1]
      · rw [hI_sI_a (by omega), hI_sI_a (by omega)]; exact a8 j j1 j2
      · rw [hI_sI_a (by omega), e1.1]; omega
    · have q : p = 0 := by omega
      subst q
      rw [dep_0] at a4
      simp (disch := omega) only [mX23_tellWitness_L31, a1, a4, WP_ite, WP_some, WP_none, WE_inl, WE_inr, wf, wfL, wfR, rdI_e, rdZ_e, rdL_e, wrI_e, wrL_e, bX_some, bE_inl, bE_inr, bT_inl, bT_inr, bX_ite, ite_someI, ite_someL, ite_someB, tt_eq, iteb, gz_01, gz_b2i, w32_id, w32_gI, w32_bz, Int.toNat_natCast, Int.reduceToNat, Int.toNat_add, Int.toNat_mul, Int.ofNat_lt, Int.ofNat_le, Int.natCast_inj]
      refine ⟨fun g => absurd g (by omega), fun _ => ⟨a5, fun j j1 => a6 j (by rw [dep_0]; omega) j1⟩⟩
def cdM (p : Nat × Nat) : Nat := p.1 + 64 * p.2
/-- the queue as the reference has it -/
def Mq (S : Sto) (s : Bst) : Prop :=
  (∀ j, j < s.1 → (gI S 2077 j) = (cdM (s.2.1 j) : Int)) ∧ (∀ j, 0 < j → j < s.1 → (gI S 2078 j) = (s.2.2.1 j : Int) ∧ (gI S 2079 j) = (s.2.2.2 j : Int)) ∧
  (∀ j, j < s.1 → (gI S 2081 (cdM (s.2.1 j))) = 1) ∧ (∀ e, e < 4096 → (∀ j, j < s.1 → cdM (s.2.1 j) ≠ e) → (gI S 2081 e) = 0) ∧
  (∀ j, j < s.1 → (gI S 2080 j) = (dep s.2.2.1 j : Int))
/-- what the rows of the two machines tell -/
def TabMO (S : Sto) (nin A B N : Nat) (dif : Nat → Nat → Nat → Bool) (ta tb : Nat → Nat → Nat) (o1 o2 : Nat → Nat → Int) : Prop :=
  (∀ a i, a < A → i < N → gI S 2073 (a * N + i) = o1 a i ∧ gI S 2074 (a * N + i) = (ta a i : Int) ∧ ta a i < A) ∧
  (∀ b i, b < B → i < N → gI S 2075 (b * N + i) = o2 b i ∧ gI S 2076 (b * N + i) = (tb b i : Int) ∧ tb b i < B) ∧
  (∀ a b i, a < A → b < B → i < N → (w32 (o1 a i) = w32 (o2 b i) ↔ dif a b i = false)) ∧
  (N = 2 ^ nin ∧ A ≤ 64 ∧ B ≤ 64 ∧ A * N ≤ 4096 ∧ B * N ≤ 4096 ∧ nin ≤ 12 ∧ 1 ≤ B ∧ 1 ≤ A)
theorem TabMO.mv {S S' : Sto} {nin A B N : Nat} {dif : Nat → Nat → Nat → Bool} {ta tb : Nat → Nat → Nat} {o1 o2 : Nat → Nat → Int} (h : TabMO S nin A B N dif ta tb o1 o2) (e : ∀ a i, 2073 ≤ a → a ≤ 2076 → gI S' a i = gI S a i) : TabMO S' nin A B N dif ta tb o1 o2 := by
  obtain ⟨h1, h2, h3, h4⟩ := h
  refine ⟨fun a i x y => ?_, fun b i x y => ?_, h3, h4⟩
  · rw [e _ _ (by omega) (by omega), e _ _ (by omega) (by omega)]; exact h1 a i x y
  · rw [e _ _ (by omega) (by omega), e _ _ (by omega) (by omega)]; exact h2 b i x y
theorem cdM_lt {A B : Nat} {p : Nat × Nat} (hA : A ≤ 64) (hB : B ≤ 64) (h1 : p.1 < A) (h2 : p.2 < B) : cdM p < 4096 := by unfold cdM; omega
theorem cdM_inj {p q : Nat × Nat} (h1 : p.1 < 64) (h2 : q.1 < 64) (e : cdM p = cdM q) : p = q := by
  unfold cdM at e
  exact Prod.ext (by omega) (by omega)
theorem Mq.has {S : Sto} {s : Bst} {A B N : Nat} {p : Nat × Nat} (h : Mq S s) (o : BOk A B N s) (hA : A ≤ 64) (hp : p.1 < A) (hc : cdM p < 4096) : gI S 2081 (cdM p) = if bHasN s.2.1 p s.1 = true then 1 else 0 := by
  by_cases q : bHasN s.2.1 p s.1 = true
  · rw [if_pos q]
    obtain ⟨j, h1, h2⟩ := bHasN_iff.1 q
    have := h.2.2.1 j h1
    rwa [h2] at this
  · rw [if_neg q]
    exact h.2.2.2.1 _ hc (fun j hj e => q (bHasN_iff.2 ⟨j, hj, cdM_inj (by have := (o.2.1 j hj).1; omega) (by omega) e⟩))
theorem Mq.add {S : Sto} {s : Bst} {A B N : Nat} {p : Nat × Nat} {k i : Nat} (h : Mq S s) (o : BOk A B N s) (hn : s.1 < 4096) (hk : k < s.1) (hi : i < 4096) (hc : cdM p < 4096) (q : ¬ bHasN s.2.1 p s.1 = true) :
    Mq (sI (sI (sI (sI (sI S 2081 (cdM p) 1) 2077 s.1 (cdM p : Int)) 2078 s.1 (k : Int)) 2079 s.1 (i : Int)) 2080 s.1 ((dep s.2.2.1 k : Int) + 1)) (bAdd s p k i) := by
  obtain ⟨h1, h2, h3, h4, h5⟩ := h
  have e : bAdd s p k i = (s.1 + 1, updN s.2.1 s.1 p, updN s.2.2.1 s.1 k, updN s.2.2.2 s.1 i) := if_neg q
  have hqp : ∀ j, 0 < j → j < s.1 → s.2.2.1 j < j := fun j j0 j1 => (o.2.2.2 j j0 j1).1
  have hqp' : ∀ j, 0 < j → j < s.1 + 1 → updN s.2.2.1 s.1 k j < j := fun j j0 j1 => by
    by_cases ej : j = s.1
    · rw [ej, updN_eq]; omega
    · rw [updN_ne ej]; exact hqp j j0 (by omega)
  have hdl := dep_le hqp k hk
  have hde := dep_cg hqp (qp' := updN s.2.2.1 s.1 k) (fun j j0 j1 => updN_ne (by omega))
  rw [e]
  refine ⟨fun j hj => ?_, fun j j0 hj => ?_, fun j hj => ?_, fun x hx hj => ?_, fun j hj => ?_⟩
  · have hj : j < s.1 + 1 := hj
    show gI _ 2077 j = (cdM (updN s.2.1 s.1 p j) : Int)
    rw [hI_sI_a (by omega), hI_sI_a (by omega), hI_sI_a (by omega), hI_sI]
    by_cases ej : j = s.1
    · rw [if_pos ⟨rfl, ej⟩, ej, updN_eq, w32_id (by omega)]
    · rw [if_neg (fun g => ej g.2), updN_ne ej, hI_sI_a (by omega)]; exact h1 j (by omega)
  · have hj : j < s.1 + 1 := hj
    have g1 := h2 j j0
    show gI _ 2078 j = ((updN s.2.2.1 s.1 k j : Nat) : Int) ∧ gI _ 2079 j = ((updN s.2.2.2 s.1 i j : Nat) : Int)
    refine ⟨?_, ?_⟩
    · rw [hI_sI_a (by omega), hI_sI_a (by omega), hI_sI]
      by_cases ej : j = s.1
      · rw [if_pos ⟨rfl, ej⟩, ej, updN_eq, w32_id (by omega)]
      · rw [if_neg (fun g => ej g.2), updN_ne ej, hI_sI_a (by omega), hI_sI_a (by omega)]; exact (g1 (by omega)).1
    · rw [hI_sI_a (by omega), hI_sI]
      by_cases ej : j = s.1
      · rw [if_pos ⟨rfl, ej⟩, ej, updN_eq, w32_id (by omega)]
      · rw [if_neg (fun g => ej g.2), updN_ne ej, hI_sI_a (by omega), hI_sI_a (by omega), hI_sI_a (by omega)]; exact (g1 (by omega)).2
  · have hj : j < s.1 + 1 := hj
    show gI _ 2081 (cdM (updN s.2.1 s.1 p j)) = 1
    rw [hI_sI_a (by omega), hI_sI_a (by omega), hI_sI_a (by omega), hI_sI_a (by omega), hI_sI]
    by_cases ej : j = s.1
    · rw [ej, updN_eq, if_pos ⟨rfl, rfl⟩]; rfl
    · rw [updN_ne ej]
      split
      · rfl
      · exact h3 j (by omega)
  · have hj : ∀ j, j < s.1 + 1 → cdM (updN s.2.1 s.1 p j) ≠ x := hj
    rw [hI_sI_a (by omega), hI_sI_a (by omega), hI_sI_a (by omega), hI_sI_a (by omega), hI_sI, if_neg]
    · exact h4 x hx (fun j j1 => by have := hj j (by omega); rwa [updN_ne (by omega)] at this)
    · intro g
      have := hj s.1 (by omega)
      rw [updN_eq] at this
      exact this g.2.symm
  · have hj : j < s.1 + 1 := hj
    show gI _ 2080 j = (dep (updN s.2.2.1 s.1 k) j : Int)
    rw [hI_sI]
    by_cases ej : j = s.1
    · rw [if_pos ⟨rfl, ej⟩, ej, w32_id (by omega), dep_pos hqp' (by omega) (by omega), updN_eq, hde k hk]; omega
    · rw [if_neg (fun g => ej g.2), hde j (by omega), hI_sI_a (by omega), hI_sI_a (by omega), hI_sI_a (by omega), hI_sI_a (by omega)]; exact h5 j (by omega)
