/-! the class's Comparer -/
theorem k_found {S : Sto} {qp qi : Nat → Nat} {n k i : Nat} (hk : k < n) (hn : n ≤ 4096) (hp : ∀ j, 0 < j → j < n → qp j < j) (hi : i < 4096) (hq : ∀ j, 0 < j → j < n → qi j < 4096)
    (h4 : ∀ j, 0 < j → j < n → (gI S 194 j) = (qp j : Int) ∧ (gI S 195 j) = (qi j : Int)) :
    WP (mX11_found S (k : Int) (i : Int)) (fun S' => (gI S' 192 5) = (dep qp k : Int) + 1 ∧ ∀ j, j ≤ dep qp k → (gI S' 197 j) = (wit qp qi k i j : Int)) := by
  have hd := dep_le hp
  have hdk := hd k hk
  unfold mX11_found
  rw [wf_eq]
  refine WP_call (R := fun S' => (gI S' 192 5) = (dep qp k : Int) + 1 ∧ ∀ j, 0 < j → j < n → (gI S' 194 j) = (qp j : Int) ∧ (gI S' 195 j) = (qi j : Int)) ?_ (fun S1 g1 => ?_)
  · refine WP_lpF (fun s => ∃ p : Nat, s.1 = (p : Int) ∧ p < n ∧ dep qp p ≤ dep qp k ∧ (gI s.2 192 5) = 1 + (dep qp k : Int) - (dep qp p : Int) ∧ ∀ j, 0 < j → j < n → (gI s.2 194 j) = (qp j : Int) ∧ (gI s.2 195 j) = (qi j : Int)) (fun s => s.1.toNat) ⟨k, rfl, hk, Nat.le_refl _, ?_, fun j j1 j2 => ?_⟩ (by show (k : Int).toNat < _; unfold cFU; omega) (fun s hs => ?_)
    · show gI (sI S 192 5 1) 192 5 = _
      rw [hI_sI, if_pos ⟨rfl, rfl⟩, w32_1]; omega
    · show gI (sI S 192 5 1) 194 j = _ ∧ gI (sI S 192 5 1) 195 j = _
      rw [hI_sI_a (by omega), hI_sI_a (by omega)]; exact h4 j j1 j2
    · obtain ⟨p, a1, a2, a3, a4, a5⟩ := hs
      simp (disch := omega) only [mX11_found_L7, a1, WP_ite, WP_some, WP_none, WE_inl, WE_inr, wf, wfL, wfR, rdI_e, rdZ_e, rdL_e, wrI_e, wrL_e, bX_some, bE_inl, bE_inr, bT_inl, bT_inr, bX_ite, ite_someI, ite_someL, ite_someB, tt_eq, iteb, gz_01, gz_b2i, w32_id, w32_gI, w32_bz, Int.toNat_natCast, Int.reduceToNat, Int.toNat_add, Int.toNat_mul, Int.ofNat_lt, Int.ofNat_le, Int.natCast_inj]
      refine ⟨fun q => ?_, fun q => ?_⟩
      · have q : 0 < p := by omega
        have e1 := a5 p q a2
        have e2 := dep_pos hp q a2
        have e3 := hp p q a2
        refine ⟨⟨qp p, ?_, by omega, by omega, ?_, fun j j1 j2 => ?_⟩, ?_⟩
        · rw [hI_sI_a (by omega)]; exact e1.1
        · rw [hI_sI, if_pos ⟨rfl, rfl⟩, a4, w32_id (by omega)]; omega
        · rw [hI_sI_a (by omega), hI_sI_a (by omega)]; exact a5 j j1 j2
        · rw [hI_sI_a (by omega), e1.1]; omega
      · have q : p = 0 := by omega
        subst q
        rw [dep_0] at a4
        exact ⟨by omega, a5⟩
  · have e0 := g1.1
    rw [e0, wrI_e (by omega)]
    refine WP_call (R := fun S' => (gI S' 192 5) = (dep qp k : Int) + 1 ∧ ∀ j, j ≤ dep qp k → (gI S' 197 j) = (wit qp qi k i j : Int)) ?_ (fun S2 g2 => WP_some.2 g2)
    have z0 : ((dep qp k : Int) + 1 - 1).toNat = dep qp k := by omega
    rw [z0]
    refine WP_lpF (fun s => ∃ p : Nat, s.2.1 = (p : Int) ∧ p < n ∧ dep qp p ≤ dep qp k ∧ s.1 = (dep qp p : Int) - 1 ∧ (gI s.2.2 192 5) = (dep qp k : Int) + 1 ∧ (∀ j, dep qp p ≤ j → j ≤ dep qp k → (gI s.2.2 197 j) = (wit qp qi k i j : Int)) ∧ (0 < p → ∀ j, j < dep qp p → wit qp qi k i j = wit qp qi (qp p) (qi p) j) ∧ ∀ j, 0 < j → j < n → (gI s.2.2 194 j) = (qp j : Int) ∧ (gI s.2.2 195 j) = (qi j : Int)) (fun s => s.2.1.toNat) ⟨k, rfl, hk, Nat.le_refl _, ?_, ?_, fun j j1 j2 => ?_, fun j0 j j1 => wit_low hp j0 hk j1, fun j j1 j2 => ?_⟩ (by show (k : Int).toNat < _; unfold cFU; omega) (fun s hs => ?_)
    · show (dep qp k : Int) + 1 - 1 + -1 = _; omega
    · show gI (sI S1 197 (dep qp k) (i : Int)) 192 5 = _
      rw [hI_sI_a (by omega)]; exact e0
    · have : j = dep qp k := by omega
      subst this
      show gI (sI S1 197 (dep qp k) (i : Int)) 197 (dep qp k) = _
      rw [hI_sI, if_pos ⟨rfl, rfl⟩, w32_id (by omega), wit_top]
    · show gI (sI S1 197 (dep qp k) (i : Int)) 194 j = _ ∧ gI (sI S1 197 (dep qp k) (i : Int)) 195 j = _
      rw [hI_sI_a (by omega), hI_sI_a (by omega)]; exact g1.2 j j1 j2
    · obtain ⟨p, a1, a2, a3, a4, a5, a6, a7, a8⟩ := hs
      by_cases q : 0 < p
      · have e1 := a8 p q a2
        have e2 := dep_pos hp q a2
        have e3 := hp p q a2
        have e4 := hq p q a2
        have z : ((dep qp p : Int) - 1).toNat = dep qp (qp p) := by omega
        simp (disch := omega) only [mX11_found_L51, a1, a4, e1.2, WP_ite, WP_some, WP_none, WE_inl, WE_inr, wf, wfL, wfR, rdI_e, rdZ_e, rdL_e, wrI_e, wrL_e, bX_some, bE_inl, bE_inr, bT_inl, bT_inr, bX_ite, ite_someI, ite_someL, ite_someB, tt_eq, iteb, gz_01, gz_b2i, w32_id, w32_gI, w32_bz, Int.toNat_natCast, Int.reduceToNat, Int.toNat_add, Int.toNat_mul, Int.ofNat_lt, Int.ofNat_le, Int.natCast_inj, z]
        refine ⟨fun _ => ?_, fun g => absurd q (by omega)⟩
        have ew : wit qp qi k i (dep qp (qp p)) = qi p := by rw [a7 q _ (by omega), wit_top]
        refine ⟨⟨qp p, ?_, by omega, by omega, by omega, ?_, fun j j1 j2 => ?_, fun j0 j j1 => ?_, fun j j1 j2 => ?_⟩, ?_⟩
        · rw [hI_sI_a (by omega)]; exact e1.1
        · rw [hI_sI_a (by omega)]; exact a5
        · rw [hI_sI]
          by_cases e : j = dep qp (qp p)
          · rw [if_pos ⟨rfl, e⟩, e, ew, w32_id (by omega)]
          · rw [if_neg (fun g => e g.2)]; exact a6 j (by omega) j2
        · rw [a7 q j (by omega), wit_low hp j0 (by omega) j1]
        · rw [hI_sI_a (by omega), hI_sI_a (by omega)]; exact a8 j j1 j2
        · rw [hI_sI_a (by omega), e1.1]; omega
      · have q : p = 0 := by omega
        subst q
        simp (disch := omega) only [mX11_found_L51, a1, WP_ite, WP_some, WP_none, WE_inl, WE_inr, wf, wfL, wfR, rdI_e, rdZ_e, rdL_e, wrI_e, wrL_e, bX_some, bE_inl, bE_inr, bT_inl, bT_inr, bX_ite, ite_someI, ite_someL, ite_someB, tt_eq, iteb, gz_01, gz_b2i, w32_id, w32_gI, w32_bz, Int.toNat_natCast, Int.reduceToNat, Int.toNat_add, Int.toNat_mul, Int.ofNat_lt, Int.ofNat_le, Int.natCast_inj]
        refine ⟨fun g => absurd g (by omega), fun _ => ⟨a5, fun j j1 => a6 j (by rw [dep_0]; omega) j1⟩⟩
/-- the queue as the class has it: by a code of pairs -/
def Cq (S : Sto) (cd : Nat × Nat → Nat) (s : Bst) : Prop :=
  (∀ j, j < s.1 → (gI S 193 j) = (cd (s.2.1 j) : Int)) ∧ (∀ j, 0 < j → j < s.1 → (gI S 194 j) = (s.2.2.1 j : Int) ∧ (gI S 195 j) = (s.2.2.2 j : Int)) ∧
  (∀ j, j < s.1 → (gI S 196 (cd (s.2.1 j))) = 1) ∧ (∀ e, e < 4096 → (∀ j, j < s.1 → cd (s.2.1 j) ≠ e) → (gI S 196 e) = 0)
section CGO
variable {dif : Nat → Nat → Nat → Bool} {ta tb : Nat → Nat → Nat} {nin r N A B a0 b0 : Nat} {S0 : Sto} {a2 a3 a6 a7 : Nat} {p9 : Int} {f1 f2 : Nat → Nat → Int}
/-- what the tables tell -/
def TabOk (S : Sto) (nin r A B N : Nat) (a2 a3 a6 a7 : Nat) (p9 : Int) (dif : Nat → Nat → Nat → Bool) (ta tb f1 f2 : Nat → Nat → Nat) : Prop :=
  (∀ a i, a < A → i < N → gI S a2 (a * N + i) = (f1 a i : Int) ∧ f1 a i < 65536 ∧ gI S a3 (a * N + i) = (ta a i : Int) ∧ ta a i < A) ∧
  (∀ b i, b < B → i < N → f2 b i < 65536 ∧ tb b i < B ∧ (if a6 = 0 then f2 b i = 0 else gI S a6 (b * N + i) = (f2 b i : Int)) ∧ (if a7 = 0 then tb b i = 0 else gI S a7 (b * N + i) = (tb b i : Int))) ∧
  (∀ a b i, a < A → b < B → i < N → (w32 (aAnd (aXor (f1 a i : Int) (f2 b i : Int)) p9) = 0 ↔ dif a b i = false)) ∧
  (aN (kK a2) = 4096 ∧ aN (kK a3) = 4096 ∧ (a6 ≠ 0 → kK a6 = 119) ∧ (a7 ≠ 0 → kK a7 = 119)) ∧
  ((a2 < 192 ∨ 197 < a2) ∧ (a3 < 192 ∨ 197 < a3) ∧ (a6 < 192 ∨ 197 < a6) ∧ (a7 < 192 ∨ 197 < a7)) ∧
  (N = 2 ^ nin ∧ A = 2 ^ r ∧ A * B ≤ 4096 ∧ A * N ≤ 4096 ∧ B * N ≤ 4096 ∧ r ≤ 6 ∧ nin ≤ 12 ∧ 1 ≤ B)
theorem TabOk.mv {S S' : Sto} {nin r A B N : Nat} {a2 a3 a6 a7 : Nat} {p9 : Int} {dif : Nat → Nat → Nat → Bool} {ta tb f1 f2 : Nat → Nat → Nat} (h : TabOk S nin r A B N a2 a3 a6 a7 p9 dif ta tb f1 f2) (e : ∀ a i, (a < 192 ∨ 197 < a) → gI S' a i = gI S a i) : TabOk S' nin r A B N a2 a3 a6 a7 p9 dif ta tb f1 f2 := by
  obtain ⟨h1, h2, h3, h4, h5, h6⟩ := h
  refine ⟨fun a i x y => ?_, fun b i x y => ?_, h3, h4, h5, h6⟩
  · rw [e _ _ h5.1, e _ _ h5.2.1]; exact h1 a i x y
  · rw [e _ _ h5.2.2.1, e _ _ h5.2.2.2]; exact h2 b i x y
end CGO
