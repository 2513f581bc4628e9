/-! equal, never -/
theorem nat_xor0 {m n : Nat} : m ^^^ n = 0 ↔ m = n :=
  ⟨fun h => Nat.eq_of_testBit_eq (fun i => by have := congrArg (fun x => x.testBit i) h; simpa [Nat.testBit_xor] using this), fun h => by subst h; exact Nat.xor_self _⟩
theorem aAnd_m1 (x : Int) : aAnd x (-1) = w32 x := by
  unfold aAnd w32
  have : (Int32.ofInt x &&& Int32.ofInt (-1)) = Int32.ofInt x := by
    apply Int32.toBitVec_inj.1
    rw [Int32.toBitVec_and]
    show (Int32.ofInt x).toBitVec &&& (BitVec.allOnes 32) = _
    exact BitVec.and_allOnes
  rw [this]
theorem xor_m1 {m n : Nat} (hm : m < 2147483648) (hn : n < 2147483648) : w32 (aAnd (aXor (m : Int) (n : Int)) (-1)) = 0 ↔ m = n := by
  rw [aXor_nat hm hn, aAnd_m1, w32_w32]
  have : m ^^^ n < 2 ^ 31 := Nat.xor_lt_two_pow (n := 31) hm hn
  rw [w32_id (by omega)]
  constructor
  · intro h; exact nat_xor0.1 (by omega)
  · intro h; have := nat_xor0.2 h; omega
theorem BRes.same {dif : Nat → Nat → Nat → Bool} {ta tb : Nat → Nat → Nat} {N a0 b0 A B : Nat} {v l v' l' : Int} {row row' : Nat → Int} (hta : ∀ a i, a < A → i < N → ta a i < A) (htb : ∀ b i, b < B → i < N → tb b i < B) (h0 : a0 < A ∧ b0 < B) (hAB : A * B ≤ 4096)
    (h : BRes dif ta tb N a0 b0 v l row) (h' : BRes dif ta tb N a0 b0 v' l' row') : v = v' ∧ ∃ n : Nat, n ≤ 4097 ∧ l = n ∧ l' = n ∧ v = n ∧ ∀ j, j < n → row j = row' j := by
  rcases h with ⟨k, i, h1, h2, h3, h4⟩ | ⟨k, h1, h2, h3⟩
  · rcases h' with ⟨k', i', g1, g2, g3, g4⟩ | ⟨k', g1, g2, g3⟩
    · obtain ⟨rfl, rfl⟩ := h1.uni g1
      have o := bRun_ok (a0 := a0) (b0 := b0) hta htb h0 k (fun k' hk' => (h1.1 k' hk').1)
      have c := bOk_le o
      have d := dep_le (fun j j0 j1 => (o.2.2.2 j j0 j1).1) k h1.2.1
      have := h1.2.1
      exact ⟨by rw [h2, g2], dep (bRun ta tb N a0 b0 k).2.2.1 k + 1, by omega, by omega, by omega, by omega, fun j hj => by rw [h4 j (by omega), g4 j (by omega)]⟩
    · exact (h1.noEnd g1).elim
  · rcases h' with ⟨k', i', g1, g2, g3, g4⟩ | ⟨k', g1, g2, g3⟩
    · exact (g1.noEnd h1).elim
    · exact ⟨by rw [h2, g2], 0, by omega, h3, g3, h2, fun j hj => absurd hj (Nat.not_lt_zero _)⟩
def tlT (a : Nat) : Bool := Nat.beq a 1 || Nat.beq a 2 || Nat.beq a 2001 || Nat.beq a 2000 || Nat.beq a 192 || Nat.beq a 197 || Nat.beq a 2072
theorem okT {W : List (Nat × Option Nat)} (h : W.all (fun z => tlT z.1 || !keptL z.1) = true) {a i : Nat} (hk : keptL a = true) (ht : tlT a = false) : okP W a i := by
  intro z hz e
  have := List.all_eq_true.1 h z hz
  rw [e, ht, hk] at this
  exact absurd this (by decide)
theorem nbf {a b : Nat} (h : a ≠ b) : Nat.beq a b = false := Bool.eq_false_iff.2 (fun g => h (Nat.eq_of_beq_eq_true g))
theorem tlT_f {a : Nat} (h1 : a ≠ 1) (h2 : a ≠ 2) (h3 : a ≠ 2001) (h4 : a ≠ 2000) (h5 : a ≠ 192) (h6 : a ≠ 197) (h7 : a ≠ 2072) : tlT a = false := by
  unfold tlT
  rw [nbf h1, nbf h2, nbf h3, nbf h4, nbf h5, nbf h6, nbf h7]
  rfl
theorem m_layA {S : Sto} {d : Nat} {G : Dsg} (m : RefG S d G) (w : WFG G) (hd : d < 6) : WP (mX23_layA S (d : Int)) (fun S' => ∀ p, p < 2 ^ (gIn G + gSt G) → gI S' 2073 p = G 9 p ∧ gI S' 2074 p = G 10 p) := by
  have hn := w.nums
  have wv := w.st64
  obtain ⟨P, hP⟩ : ∃ P, 2 ^ (gIn G + gSt G) = P := ⟨_, rfl⟩
  have hpl : P ≤ 4096 := by rw [← hP]; exact Nat.pow_le_pow_right (n := 2) (by omega) (show gIn G + gSt G ≤ 12 by omega)
  have hsh := aShl1 (k := gIn G + gSt G) (by omega)
  rw [hP] at hsh ⊢
  have ec : ((gIn G + gSt G : Nat) : Int) = (gIn G : Int) + (gSt G : Int) := by omega
  rw [ec] at hsh
  unfold mX23_layA
  refine WP_call (R := fun S' => ∀ p, p < P → gI S' 2073 p = G 9 p ∧ gI S' 2074 p = G 10 p) ?_ (fun S' h => WP_some.2 h)
  refine WP_cnt P (fun i z => z.1 = (i : Int) ∧ (∀ p, p < i → gI z.2 2073 p = G 9 p ∧ gI z.2 2074 p = G 10 p) ∧ ∀ a j, a ≠ 2073 → a ≠ 2074 → gI z.2 a j = gI S a j) (by unfold cFU; omega) ⟨rfl, fun p h => absurd h (Nat.not_lt_zero _), fun _ _ _ _ => rfl⟩ (fun i z hi hI => ?_) (fun z hI => ?_)
  · obtain ⟨b1, b2, b3⟩ := hI
    have e1 : gI z.2 2037 d = (gIn G : Int) := by rw [b3 _ _ (by omega) (by omega), m.1.1, w.i]
    have e2 : gI z.2 2038 d = (gSt G : Int) := by rw [b3 _ _ (by omega) (by omega), m.1.2.1, w.s]
    have e3 := m.2.2.2.2.2 i (by rw [hP]; exact hi)
    have w3 := wv.2.2.2.2 i (by rw [hP]; exact hi)
    have z1 : (4096 * (d : Int) + (i : Int)).toNat = 4096 * d + i := by omega
    have f1 : gI z.2 2052 (4096 * d + i) = G 9 i := (b3 _ _ (by omega) (by omega)).trans e3.1
    have f2 : gI (sI z.2 2073 i (G 9 i)) 2053 (4096 * d + i) = G 10 i := by rw [hI_sI_a (by omega)]; exact (b3 _ _ (by omega) (by omega)).trans e3.2
    simp (disch := omega) only [mX23_layA_L2, b1, e1, e2, hsh, z1, f1, f2, WP_ite, WP_some, WP_none, WE_inl, WE_inr, wf, wfL, wfR, rdI_e, rdZ_e, rdL_e, wrI_e, wrL_e, bX_some, bE_inl, bE_inr, bT_inl, bT_inr, bX_ite, ite_someI, ite_someL, ite_someB, tt_eq, iteb, gz_01, gz_b2i, w32_id, w32_gI, w32_bz, Int.toNat_natCast, Int.reduceToNat, Int.toNat_add, Int.toNat_mul, Int.ofNat_lt, Int.ofNat_le, Int.natCast_inj]
    refine ⟨fun _ => ⟨by omega, fun p hp => ?_, fun a j q1 q2 => ?_⟩, fun g => absurd hi (by omega)⟩
    · rw [hI_sI_a (by omega), hI_sI, hI_sI]
      by_cases e : p = i
      · rw [if_pos ⟨rfl, e⟩, if_pos ⟨rfl, e⟩, e, w32_id (by omega), w32_id (by omega)]; exact ⟨rfl, rfl⟩
      · rw [if_neg (fun g => e g.2), if_neg (fun g => e g.2), hI_sI_a (by omega)]; exact b2 p (by omega)
    · rw [hI_sI_a q2, hI_sI_a q1]; exact b3 a j q1 q2
  · obtain ⟨b1, b2, b3⟩ := hI
    have e1 : gI z.2 2037 d = (gIn G : Int) := by rw [b3 _ _ (by omega) (by omega), m.1.1, w.i]
    have e2 : gI z.2 2038 d = (gSt G : Int) := by rw [b3 _ _ (by omega) (by omega), m.1.2.1, w.s]
    simp (disch := omega) only [mX23_layA_L2, b1, e1, e2, hsh, WP_ite, WP_some, WP_none, WE_inl, WE_inr, wf, wfL, wfR, rdI_e, rdZ_e, rdL_e, wrI_e, wrL_e, bX_some, bE_inl, bE_inr, bT_inl, bT_inr, bX_ite, ite_someI, ite_someL, ite_someB, tt_eq, iteb, gz_01, gz_b2i, w32_id, w32_gI, w32_bz, Int.toNat_natCast, Int.reduceToNat, Int.toNat_add, Int.toNat_mul, Int.ofNat_lt, Int.ofNat_le, Int.natCast_inj]
    exact ⟨fun g => absurd g (by omega), fun _ => b2⟩
theorem m_layB {S : Sto} {d : Nat} {G : Dsg} (m : RefG S d G) (w : WFG G) (hd : d < 6) : WP (mX23_layB S (d : Int)) (fun S' => ∀ p, p < 2 ^ (gIn G + gSt G) → gI S' 2075 p = G 9 p ∧ gI S' 2076 p = G 10 p) := by
  have hn := w.nums
  have wv := w.st64
  obtain ⟨P, hP⟩ : ∃ P, 2 ^ (gIn G + gSt G) = P := ⟨_, rfl⟩
  have hpl : P ≤ 4096 := by rw [← hP]; exact Nat.pow_le_pow_right (n := 2) (by omega) (show gIn G + gSt G ≤ 12 by omega)
  have hsh := aShl1 (k := gIn G + gSt G) (by omega)
  rw [hP] at hsh ⊢
  have ec : ((gIn G + gSt G : Nat) : Int) = (gIn G : Int) + (gSt G : Int) := by omega
  rw [ec] at hsh
  unfold mX23_layB
  refine WP_call (R := fun S' => ∀ p, p < P → gI S' 2075 p = G 9 p ∧ gI S' 2076 p = G 10 p) ?_ (fun S' h => WP_some.2 h)
  refine WP_cnt P (fun i z => z.1 = (i : Int) ∧ (∀ p, p < i → gI z.2 2075 p = G 9 p ∧ gI z.2 2076 p = G 10 p) ∧ ∀ a j, a ≠ 2075 → a ≠ 2076 → gI z.2 a j = gI S a j) (by unfold cFU; omega) ⟨rfl, fun p h => absurd h (Nat.not_lt_zero _), fun _ _ _ _ => rfl⟩ (fun i z hi hI => ?_) (fun z hI => ?_)
  · obtain ⟨b1, b2, b3⟩ := hI
    have e1 : gI z.2 2037 d = (gIn G : Int) := by rw [b3 _ _ (by omega) (by omega), m.1.1, w.i]
    have e2 : gI z.2 2038 d = (gSt G : Int) := by rw [b3 _ _ (by omega) (by omega), m.1.2.1, w.s]
    have e3 := m.2.2.2.2.2 i (by rw [hP]; exact hi)
    have w3 := wv.2.2.2.2 i (by rw [hP]; exact hi)
    have z1 : (4096 * (d : Int) + (i : Int)).toNat = 4096 * d + i := by omega
    have f1 : gI z.2 2052 (4096 * d + i) = G 9 i := (b3 _ _ (by omega) (by omega)).trans e3.1
    have f2 : gI (sI z.2 2075 i (G 9 i)) 2053 (4096 * d + i) = G 10 i := by rw [hI_sI_a (by omega)]; exact (b3 _ _ (by omega) (by omega)).trans e3.2
    simp (disch := omega) only [mX23_layB_L2, b1, e1, e2, hsh, z1, f1, f2, WP_ite, WP_some, WP_none, WE_inl, WE_inr, wf, wfL, wfR, rdI_e, rdZ_e, rdL_e, wrI_e, wrL_e, bX_some, bE_inl, bE_inr, bT_inl, bT_inr, bX_ite, ite_someI, ite_someL, ite_someB, tt_eq, iteb, gz_01, gz_b2i, w32_id, w32_gI, w32_bz, Int.toNat_natCast, Int.reduceToNat, Int.toNat_add, Int.toNat_mul, Int.ofNat_lt, Int.ofNat_le, Int.natCast_inj]
    refine ⟨fun _ => ⟨by omega, fun p hp => ?_, fun a j q1 q2 => ?_⟩, fun g => absurd hi (by omega)⟩
    · rw [hI_sI_a (by omega), hI_sI, hI_sI]
      by_cases e : p = i
      · rw [if_pos ⟨rfl, e⟩, if_pos ⟨rfl, e⟩, e, w32_id (by omega), w32_id (by omega)]; exact ⟨rfl, rfl⟩
      · rw [if_neg (fun g => e g.2), if_neg (fun g => e g.2), hI_sI_a (by omega)]; exact b2 p (by omega)
    · rw [hI_sI_a q2, hI_sI_a q1]; exact b3 a j q1 q2
  · obtain ⟨b1, b2, b3⟩ := hI
    have e1 : gI z.2 2037 d = (gIn G : Int) := by rw [b3 _ _ (by omega) (by omega), m.1.1, w.i]
    have e2 : gI z.2 2038 d = (gSt G : Int) := by rw [b3 _ _ (by omega) (by omega), m.1.2.1, w.s]
    simp (disch := omega) only [mX23_layB_L2, b1, e1, e2, hsh, WP_ite, WP_some, WP_none, WE_inl, WE_inr, wf, wfL, wfR, rdI_e, rdZ_e, rdL_e, wrI_e, wrL_e, bX_some, bE_inl, bE_inr, bT_inl, bT_inr, bX_ite, ite_someI, ite_someL, ite_someB, tt_eq, iteb, gz_01, gz_b2i, w32_id, w32_gI, w32_bz, Int.toNat_natCast, Int.reduceToNat, Int.toNat_add, Int.toNat_mul, Int.ofNat_lt, Int.ofNat_le, Int.natCast_inj]
    exact ⟨fun g => absurd g (by omega), fun _ => b2⟩
def noLab (W : List (Nat × Option Nat)) (a : Nat) : Bool := W.all (fun z => !(Nat.beq z.1 a))
theorem noLab_ok {W : List (Nat × Option Nat)} {a i : Nat} (h : noLab W a = true) : okP W a i := by
  intro z hz e
  have := List.all_eq_true.1 h z hz
  rw [e, Nat.beq_refl] at this
  exact absurd this (by decide)
theorem cmp_inv {c : Nat} {S x y : Sto} {v : Int} {W1 W2 V1 V2 : List (Nat × Option Nat)} (h : Inv c S) (fx : Fr W1 V1 false S x) (fy : Fr W2 V2 false (sL x 2178 0 (i2l v)) y)
    (b1 : W1.all (fun z => tlT z.1 || !keptL z.1) = true) (b2 : W2.all (fun z => tlT z.1 || !keptL z.1) = true) (c1 : (noLab W1 1 && noLab W1 2 && noLab W1 2001 && noLab W1 2072 && noLab W1 2000) = true)
    (c2 : (noLab W2 1 && noLab W2 2 && noLab W2 2001 && noLab W2 192 && noLab W2 197 && noLab W2 2178 && okL W2 2000 2 && okL W2 2000 79 && okL W2 2000 127) = true)
    (hw : ∃ n : Nat, n ≤ 4097 ∧ gI x 192 5 = n ∧ gI y 2000 95 = n ∧ ∀ j, j < n → gI x 197 j = gI y 2072 j) : gL y 2178 0 = i2l v ∧ Inv (c + 1) y := by
  simp only [Bool.and_eq_true] at c1 c2
  obtain ⟨⟨⟨⟨d1, d2⟩, d3⟩, d4⟩, d5⟩ := c1
  obtain ⟨⟨⟨⟨⟨⟨⟨⟨e1, e2⟩, e3⟩, e4⟩, e5⟩, e6⟩, e7⟩, e8⟩, e9⟩ := c2
  have hx := fx.heap
  have hy := fy.heap
  have gS : ∀ a i, okP W2 a i → okP W1 a i → gI y a i = gI S a i := fun a i o2 o1 => (fy.gi o2).trans (fx.gi o1)
  have go : ∀ a i, kept a i = true → a ≠ 1 → a ≠ 2 → a ≠ 2001 → a ≠ 2000 → a ≠ 192 → a ≠ 197 → a ≠ 2072 → gI y a i = gI S a i := fun a i k z1 z2 z3 z4 z5 z6 z7 =>
    gS a i (okT b2 (kept_lab k) (tlT_f z1 z2 z3 z4 z5 z6 z7)) (okT b1 (kept_lab k) (tlT_f z1 z2 z3 z4 z5 z6 z7))
  obtain ⟨n, n1, n2, n3, n4⟩ := hw
  refine ⟨?_, h.putT go (fun a i z => ?_) ?_ ?_ (h.2.1.cg (Nat.le_succ _) (gS _ _ (noLab_ok e1) (noLab_ok d1)) (gS _ _ (okP_of e7) (noLab_ok d5)) (fun i => gS _ _ (noLab_ok e2) (noLab_ok d2)) (fun i => gS _ _ (noLab_ok e3) (noLab_ok d3))) (h.2.2.1.cg (Nat.le_succ _) (gS _ _ (noLab_ok e1) (noLab_ok d1)) (gS _ _ (okP_of e8) (noLab_ok d5)) (fun a i q => ?_)) ⟨n, n1, ?_, n3, fun i hi => ?_⟩⟩
  · rw [fy.gl (noLab_ok e6), gL_sL, if_pos ⟨rfl, rfl⟩]
  · have kl : keptL a = true := by
      rcases z with z | z
      · exact kept_lab (kept_rng (i := 0) (by omega))
      · subst z; rfl
    have tl := tlT_f (a := a) (by omega) (by omega) (by omega) (by omega) (by omega) (by omega) (by omega)
    rw [fy.gl (okT b2 kl tl), gL_sL, if_neg (by omega), fx.gl (okT b1 kl tl)]
  · rw [hy.1]; show nC x ≤ _; rw [hx.1]; omega
  · rw [hy.2]; show nS x ≤ _; rw [hx.2]; omega
  · have qr := keptN_rng q
    by_cases l : a = 2000
    · obtain ⟨rfl, rfl⟩ : a = 2000 ∧ i = 127 := by omega
      exact gS _ _ (okP_of e9) (noLab_ok d5)
    · exact go a i (keptN_kept q) (by omega) (by omega) (by omega) l (by omega) (by omega) (by omega)
  · rw [fy.gi (noLab_ok e4)]; exact n2
  · rw [fy.gi (noLab_ok e5)]; exact n4 i hi
theorem aAnd_bit {x k : Nat} (hx : x < 2147483648) (hk : k ≤ 16) : (w32 (aAnd (aXor (x : Int) ((0 : Nat) : Int)) (aShl 1 (k : Int))) = 0) ↔ x.testBit k = false := by
  have hq : 2 ^ k ≤ 2 ^ 16 := Nat.pow_le_pow_right (by omega) hk
  rw [aXor_nat hx (by omega), Nat.xor_zero, aShl1 (by omega), aAnd_nat hx (by omega)]
  have h1 : x &&& 2 ^ k ≤ 2 ^ k := Nat.and_le_right
  rw [w32_id (by omega)]
  constructor
  · intro h
    have h0 : x &&& 2 ^ k = 0 := by omega
    have := congrArg (fun z => z.testBit k) h0
    simpa [Nat.testBit_and, Nat.testBit_two_pow_self] using this
  · intro h
    have h0 : x &&& 2 ^ k = 0 := by
      apply Nat.eq_of_testBit_eq
      intro i
      rw [Nat.testBit_and, Nat.testBit_two_pow, Nat.zero_testBit]
      by_cases e : k = i
      · subst e; simp [h]
      · simp [e]
    omega
