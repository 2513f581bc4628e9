/-! the tape -/
def fdB (p : Int) (j : Nat) : Int := w8 (aShr p (24 - 8 * (j : Int)))
theorem k_word {S : Sto} {p : Int} {n : Nat} (hs : (gI S 1 1) = n) (hn : n + 4 ≤ 65536) : WP (mX1_word S p) (fun S' => (gI S' 1 1) = ((n + 4 : Nat) : Int) ∧ (∀ j : Nat, j < 4 → (gI S' 2 (n + j)) = fdB p j) ∧ ∀ i, i < n → (gI S' 2 i) = (gI S 2 i)) := by
  unfold mX1_word
  refine WP_call (R := fun S' => (gI S' 1 1) = ((n + 4 : Nat) : Int) ∧ (∀ j : Nat, j < 4 → (gI S' 2 (n + j)) = fdB p j) ∧ ∀ i, i < n → (gI S' 2 i) = (gI S 2 i)) ?_ (fun S' h => WP_some.2 h)
  refine WP_cnt 4 (fun j s => s.1 = 24 - 8 * (j : Int) ∧ (gI s.2 1 1) = (n : Int) + j ∧ (∀ i : Nat, i < j → (gI s.2 2 (n + i)) = fdB p i) ∧ ∀ i, i < n → (gI s.2 2 i) = (gI S 2 i)) (by decide) ⟨rfl, by show gI S 1 1 = _; omega, by grind, by grind⟩ (fun j s hj hI => ?_) (fun s hI => ?_)
  · obtain ⟨h1, h2, h3, h4⟩ := hI
    simp (disch := omega) only [mX1_word_L3, WP_ite, WP_some, WP_none, WE_inl, WE_inr, wf, wfL, wfR, rdI_e, rdZ_e, rdL_e, wrI_e, wrL_e, bX_some, bE_inl, bE_inr, bT_inl, bT_inr, bX_ite, ite_someI, ite_someL, ite_someB, tt_eq, iteb, gz_01, gz_b2i, h1, h2, w32_id]
    have : w8 (aShr p (24 - 8 * (j : Int))) = fdB p j := rfl
    grind [hI_sI, w32_id, w32_w8]
  · obtain ⟨h1, h2, h3, h4⟩ := hI
    simp (disch := omega) only [mX1_word_L3, WP_ite, WP_some, WP_none, WE_inl, WE_inr, wf, wfL, wfR, rdI_e, rdZ_e, rdL_e, wrI_e, wrL_e, bX_some, bE_inl, bE_inr, bT_inl, bT_inr, bX_ite, ite_someI, ite_someL, ite_someB, tt_eq, iteb, gz_01, gz_b2i, h1, h2, w32_id]
    grind
/-- byte j of a feed -/
def fdA (a b c d e : Int) (j : Nat) : Int := fdB (if j < 4 then a else if j < 8 then b else if j < 12 then c else if j < 16 then d else e) (j % 4)
theorem thG_cg {S S' : Sto} {d : Nat} (e : gI S' 432 d = gI S 432 d) : thG S' d = thG S d := by unfold thG; rw [e]
/-- tape, fault, witness may be others; all that is kept besides is as before -/
theorem Inv.putT {c : Nat} {S S' : Sto} (h : Inv c S) (e : ∀ a i, kept a i = true → a ≠ 1 → a ≠ 2 → a ≠ 2001 → a ≠ 2000 → a ≠ 192 → a ≠ 197 → a ≠ 2072 → gI S' a i = gI S a i) (eL : ∀ a i, (a = 365 ∨ a = 387 ∨ a = 409 ∨ a = 431) ∨ a = 2175 → gL S' a i = gL S a i) (h1 : nC S' ≤ nC S + 10) (h2 : nS S' ≤ nS S + 20000) (hT : InvT (c + 1) S') (hF : InvF (c + 1) S') (hW : InvW S') : Inv (c + 1) S' := by
  obtain ⟨g1, g2, g3, g4, g5, g6, g7⟩ := h
  refine ⟨HeapOk.up g1 h1 h2, hT, hF, hW, fun f hf => ?_, fun f hf => ?_, fun f hf => ?_⟩
  · exact (g5 f hf).cg (e _ _ (kept_rng (by omega)) (by omega) (by omega) (by omega) (by omega) (by omega) (by omega) (by omega)) (e _ _ (kept_rng (by omega)) (by omega) (by omega) (by omega) (by omega) (by omega) (by omega) (by omega)) (fun a i l1 l2 => e _ _ (kept_rng (by omega)) (by omega) (by omega) (by omega) (by omega) (by omega) (by omega) (by omega)) (fun a i l1 l2 _ _ => e _ _ (kept_rng (by omega)) (by omega) (by omega) (by omega) (by omega) (by omega) (by omega) (by omega))
  · exact (g6 f hf).cg (e _ _ (kept_rng (by omega)) (by omega) (by omega) (by omega) (by omega) (by omega) (by omega) (by omega)) (e _ _ (kept_rng (by omega)) (by omega) (by omega) (by omega) (by omega) (by omega) (by omega) (by omega)) (fun a i l1 l2 => e _ _ (kept_rng (by omega)) (by omega) (by omega) (by omega) (by omega) (by omega) (by omega) (by omega)) (e _ _ (kept_rng (by omega)) (by omega) (by omega) (by omega) (by omega) (by omega) (by omega) (by omega)) (fun a i l1 l2 _ _ => e _ _ (kept_rng (by omega)) (by omega) (by omega) (by omega) (by omega) (by omega) (by omega) (by omega))
  · exact (g7 f hf).cg (e _ _ (kept_rng (by omega)) (by omega) (by omega) (by omega) (by omega) (by omega) (by omega) (by omega)) (e _ _ (kept_rng (by omega)) (by omega) (by omega) (by omega) (by omega) (by omega) (by omega) (by omega)) (fun a i l1 l2 => e _ _ (kept_rng (by omega)) (by omega) (by omega) (by omega) (by omega) (by omega) (by omega) (by omega)) (fun i => eL _ _ (by omega)) (fun a i l => e _ _ (ownC_kept l) (by have := l.1; omega) (by have := l.1; omega) (by have := l.1; omega) (by have := l.1; omega) (by have := l.1; omega) (by have := l.1; omega) (by have := l.1; omega)) (fun i l => eL _ _ (by omega))
section TAPE
variable {c : Nat} {S : Sto}
theorem k_feed {a b d e f : Int} {n : Nat} (hs : (gI S 1 1) = n) (hn : n + 20 ≤ 65536) : WP (mX1_feed S a b d e f) (WE (fun x => x.1 = ((n + 20 : Nat) : Int) ∧ (gI x.2 1 1) = ((n + 20 : Nat) : Int) ∧ (∀ j : Nat, j < 20 → (gI x.2 2 (n + j)) = fdA a b d e f j) ∧ (∀ i, i < n → (gI x.2 2 i) = (gI S 2 i)) ∧ Fr [(1, some 1), (2, none)] [] false S x.2) (fun _ => False)) := by
  unfold mX1_feed
  rw [hs, w32_id (by omega), if_pos (by omega), roomX_1, bT_inl]
  refine WP_callF (k_word hs (by omega)) fr_mX1_word (fun S1 h1 f1 => ?_)
  refine WP_callF (k_word h1.1 (by omega)) fr_mX1_word (fun S2 h2 f2 => ?_)
  refine WP_callF (k_word h2.1 (by omega)) fr_mX1_word (fun S3 h3 f3 => ?_)
  refine WP_callF (k_word h3.1 (by omega)) fr_mX1_word (fun S4 h4 f4 => ?_)
  refine WP_callF (k_word h4.1 (by omega)) fr_mX1_word (fun S5 h5 f5 => ?_)
  refine WP_some.2 ⟨h5.1, h5.1, fun j hj => ?_, fun i hi => ?_, ?_⟩
  · unfold fdA
    by_cases q1 : j < 4
    · rw [if_pos q1, h5.2.2 _ (by omega), h4.2.2 _ (by omega), h3.2.2 _ (by omega), h2.2.2 _ (by omega), h1.2.1 j q1, Nat.mod_eq_of_lt q1]
    rw [if_neg q1]
    by_cases q2 : j < 8
    · rw [if_pos q2, h5.2.2 _ (by omega), h4.2.2 _ (by omega), h3.2.2 _ (by omega), show n + j = n + 4 + j % 4 by omega, h2.2.1 _ (by omega)]
    rw [if_neg q2]
    by_cases q3 : j < 12
    · rw [if_pos q3, h5.2.2 _ (by omega), h4.2.2 _ (by omega), show n + j = n + 4 + 4 + j % 4 by omega, h3.2.1 _ (by omega)]
    rw [if_neg q3]
    by_cases q4 : j < 16
    · rw [if_pos q4, h5.2.2 _ (by omega), show n + j = n + 4 + 4 + 4 + j % 4 by omega, h4.2.1 _ (by omega)]
    rw [if_neg q4, show n + j = n + 4 + 4 + 4 + 4 + j % 4 by omega, h5.2.1 _ (by omega)]
  · rw [h5.2.2 _ (by omega), h4.2.2 _ (by omega), h3.2.2 _ (by omega), h2.2.2 _ (by omega), h1.2.2 _ (by omega)]
  · exact ((((f1.tr f2 (by decide) (by decide) (fun h => h)).tr f3 (by decide) (by decide) (fun h => h)).tr f4 (by decide) (by decide) (fun h => h)).tr f5 (by decide) (by decide) (fun h => h)).tr (Fr.refl [] [] false S5) (by decide) (by decide) (fun h => h)
theorem m_feed {a b d e f : Int} {n : Nat} (hs : (gI S 2000 2) = n) (hn : n + 20 ≤ 65536) : WP (mX23_feed S a b d e f) (fun x => x.1 = ((n + 20 : Nat) : Int) ∧ (gI x.2 2000 2) = ((n + 20 : Nat) : Int) ∧ gI x.2 2000 0 = 0 ∧ (∀ j : Nat, j < 20 → (gI x.2 2001 (n + j)) = fdA a b d e f j) ∧ (∀ i, i < n → (gI x.2 2001 i) = (gI S 2001 i))) := by
  unfold mX23_feed
  have z0 : gI (sI S 2000 0 0) 2000 0 = 0 := by rw [hI_sI]; rfl
  rw [hs, w32_id (by omega), if_neg (by omega), wf_eq, z0, w32_0, if_neg (show ¬ (0 : Int) < 0 by omega)]
  refine WP_call (R := fun x => (gI x 2000 2) = ((n + 20 : Nat) : Int) ∧ gI x 2000 0 = 0 ∧ (∀ j : Nat, j < 20 → (gI x 2001 (n + j)) = fdA a b d e f j) ∧ (∀ i, i < n → (gI x 2001 i) = (gI S 2001 i))) ?_ (fun x hx => WP_some.2 ⟨hx.1, hx⟩)
  refine WP_cnt 20 (fun j s => s.1 = (j : Int) ∧ (gI s.2 2000 2) = (n : Int) + j ∧ gI s.2 2000 0 = 0 ∧ (∀ i : Nat, i < j → (gI s.2 2001 (n + i)) = fdA a b d e f i) ∧ ∀ i, i < n → (gI s.2 2001 i) = (gI S 2001 i)) (by decide) ⟨rfl, by show gI (sI S 2000 0 0) 2000 2 = _; rw [hI_sI_i (by omega)]; omega, by show gI (sI S 2000 0 0) 2000 0 = _; rw [hI_sI, if_pos ⟨rfl, rfl⟩]; rfl, by grind, fun i hi => hI_sI_a (by omega)⟩ (fun j s hj hI => ?_) (fun s hI => ?_)
  · obtain ⟨h1, h2, h0, h3, h4⟩ := hI
    have e3 : aAnd (j : Int) 3 = ((j % 4 : Nat) : Int) := by rw [aAnd_3]; omega
    simp (disch := omega) only [mX23_feed_L33, WP_ite, WP_some, WP_none, WE_inl, WE_inr, wf, wfL, wfR, rdI_e, rdZ_e, rdL_e, wrI_e, wrL_e, bX_some, bE_inl, bE_inr, bT_inl, bT_inr, bX_ite, ite_someI, ite_someL, ite_someB, tt_eq, iteb, gz_01, gz_b2i, h1, h2, w32_id, e3, Int.ofNat_lt]
    refine ⟨fun _ => ?_, fun _ => by omega⟩
    have ej : w8 (aShr (if (j : Int) < 4 then a else if (j : Int) < 8 then b else if (j : Int) < 12 then d else if (j : Int) < 16 then e else f) (24 - 8 * ((j % 4 : Nat) : Int))) = fdA a b d e f j := by
      unfold fdA fdB
      congr 2
      have z : ∀ q : Nat, ((j : Int) < (q : Int)) = (j < q) := fun q => propext Int.ofNat_lt
      simp only [show ((j : Int) < 4) = (j < 4) from z 4, show ((j : Int) < 8) = (j < 8) from z 8, show ((j : Int) < 12) = (j < 12) from z 12, show ((j : Int) < 16) = (j < 16) from z 16]
    have ew : w32 (fdA a b d e f j) = fdA a b d e f j := w32_w8 _
    grind [hI_sI, w32_id]
  · obtain ⟨h1, h2, h0, h3, h4⟩ := hI
    simp (disch := omega) only [mX23_feed_L33, WP_ite, WP_some, WP_none, WE_inl, WE_inr, wf, wfL, wfR, rdI_e, rdZ_e, rdL_e, wrI_e, wrL_e, bX_some, bE_inl, bE_inr, bT_inl, bT_inr, bX_ite, ite_someI, ite_someL, ite_someB, tt_eq, iteb, gz_01, gz_b2i, h1, h2, w32_id]
    refine ⟨fun _ => by omega, fun _ => ⟨by omega, h0, h3, h4⟩⟩
theorem L0 {p1 p2 p3 p4 p5 : Int} (h : Inv c S) (hc : c < 64) : WP (mL_0 S p1 p2 p3 p4 p5) (Inv (c + 1)) := by
  unfold mL_0 mX0_feed
  obtain ⟨n, n1, n2, n3, n4⟩ := h.2.1
  have hF := h.2.2.1
  have hW := h.2.2.2.1
  refine L_modS (m1 := fun S1 => mX23_feed S1 _ _ _ _ _) ((k_feed n2 (by omega)).mono fun z hz => ?_)
  cases z with
  | inr t => exact hz
  | inl x =>
    obtain ⟨x1, x2, x3, x4, x5⟩ := hz
    generalize hS1 : sL x.2 2178 0 (i2l x.1) = S1
    have e1 : ∀ a i, gI S1 a i = gI x.2 a i := fun a i => by rw [← hS1]; rfl
    have e2 : ∀ a i, okP [(1, some 1), (2, none)] a i → gI S1 a i = gI S a i := fun a i o => (e1 a i).trans (x5.gi o)
    have o1 : ∀ a i, a ≠ 1 → a ≠ 2 → okP [(1, some 1), (2, none)] a i := fun a i q1 q2 => okP_cons (fun e => absurd e.symm q1) (okP_cons (fun e => absurd e.symm q2) okP_nil)
    show WP (mX23_feed (sL x.2 2178 0 (i2l x.1)) p1 p2 p3 p4 p5) _
    rw [hS1]
    refine WP.mono ((m_feed (S := S1) (n := n) (by rw [e2 _ _ (o1 _ _ (by omega) (by omega))]; exact n3) (by omega)).pc fr_mX23_feed) (fun y hy => ?_)
    obtain ⟨⟨y1, y2, y3, y4, y5⟩, y6⟩ := hy
    have o2 : ∀ a i, a ≠ 2000 → a ≠ 2001 → okP W_mX23_feed a i := fun a i q1 q2 => okP_cons (fun e => absurd e.symm q1) (okP_cons (fun e => absurd e.symm q2) (okP_cons (fun e => absurd e.symm q1) okP_nil))
    have hp1 := x5.heap
    have hp2 := y6.heap
    refine ⟨by rw [y1, x1], y3, ?_, h.putT (fun a i k q1 q2 q3 q4 _ _ _ => ?_) (fun a i k => ?_) ?_ ?_ ⟨n + 20, by omega, ?_, y2, fun i hi => ?_⟩ ?_ ?_⟩
    · rw [y6.gl (o2 _ _ (by omega) (by omega)), ← hS1, gL_sL, if_pos ⟨rfl, rfl⟩]
    · rw [y6.gi (o2 _ _ q4 q3), e2 _ _ (o1 _ _ q1 q2)]
    · rw [y6.gl (o2 _ _ (by omega) (by omega)), ← hS1, gL_sL, if_neg (by omega), x5.gl (o1 _ _ (by omega) (by omega))]
    · rw [hp2.1, ← hS1]; show nC x.2 ≤ _; rw [hp1.1]; omega
    · rw [hp2.2, ← hS1]; show nS x.2 ≤ _; rw [hp1.2]; omega
    · rw [y6.gi (o2 _ _ (by omega) (by omega)), e1]; exact x2
    · rw [y6.gi (o2 _ _ (by omega) (by omega)), e1]
      by_cases q : i < n
      · rw [x4 i q, y5 i q, e2 _ _ (o1 _ _ (by omega) (by omega))]; exact n4 i q
      · have z1 := x3 (i - n) (by omega)
        have z2 := y4 (i - n) (by omega)
        rw [show n + (i - n) = i by omega] at z1 z2
        rw [z1, z2]
        exact ⟨rfl, w8_rng _⟩
    · refine hF.cg (Nat.le_succ _) (by rw [y6.gi (o2 _ _ (by omega) (by omega)), e2 _ _ (okP_of (by decide))]) (by rw [y6.gi (okP_of (by decide)), e2 _ _ (o1 _ _ (by omega) (by omega))]) (fun a i q => ?_)
      have qr := keptN_rng q
      by_cases l : a = 2000
      · obtain ⟨rfl, rfl⟩ : a = 2000 ∧ i = 127 := by omega
        rw [y6.gi (okP_of (by decide)), e2 _ _ (o1 _ _ (by omega) (by omega))]
      · rw [y6.gi (o2 _ _ l (by omega)), e2 _ _ (o1 _ _ (by omega) (by omega))]
    · exact hW.cg (by rw [y6.gi (o2 _ _ (by omega) (by omega)), e2 _ _ (o1 _ _ (by omega) (by omega))]) (by rw [y6.gi (okP_of (by decide)), e2 _ _ (o1 _ _ (by omega) (by omega))]) (fun i => by rw [y6.gi (o2 _ _ (by omega) (by omega)), e2 _ _ (o1 _ _ (by omega) (by omega))]) (fun i => by rw [y6.gi (o2 _ _ (by omega) (by omega)), e2 _ _ (o1 _ _ (by omega) (by omega))])
end TAPE
