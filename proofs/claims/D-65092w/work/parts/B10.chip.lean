/-! chips, as both sides have them: a field's number, a place: what stands there -/
abbrev Chp : Type := Nat → Nat → Int
def kI (C : Chp) : Nat := (C 0 0).toNat
def kR (C : Chp) : Nat := (C 1 0).toNat
def kO (C : Chp) : Nat := (C 2 0).toNat
def kG (C : Chp) : Nat := (C 3 0).toNat
def kB (C : Chp) : Nat := kI C + kR C
def kN (C : Chp) : Nat := kB C + kG C
def kC (C : Chp) (g : Nat) : Nat := (C 4 g).toNat
def kP (C : Chp) (g k : Nat) : Nat := (C 5 (3 * g + k)).toNat
def kL (C : Chp) : Nat := (C 8 0).toNat
def kLi (C : Chp) (c : Nat) : Nat := (C 9 c).toNat
def kLf (C : Chp) (c : Nat) : Nat := (C 10 c).toNat
def kAr (C : Chp) (g : Nat) : Nat := kLi C (kC C g)
def kFn (C : Chp) (g : Nat) : Nat := kLf C (kC C g)
def WFC (C : Chp) : Prop :=
  (0 ≤ C 0 0 ∧ 0 ≤ C 1 0 ∧ C 1 0 ≤ 6 ∧ C 0 0 + C 1 0 ≤ 12 ∧ 1 ≤ C 2 0 ∧ C 2 0 ≤ 16 ∧ 0 ≤ C 3 0 ∧ C 3 0 ≤ 150 ∧ 1 ≤ C 8 0 ∧ C 8 0 ≤ 12) ∧
  (∀ c, c < kL C → 1 ≤ C 9 c ∧ C 9 c ≤ 3 ∧ 0 ≤ C 10 c ∧ C 10 c < 256 ∧ 1 ≤ C 11 c ∧ C 11 c ≤ 1000 ∧ 1 ≤ C 12 c ∧ C 12 c ≤ 100) ∧
  (∀ g, g < kG C → 0 ≤ C 4 g ∧ C 4 g < C 8 0 ∧ (∀ k, k < kAr C g → 0 ≤ C 5 (3 * g + k) ∧ C 5 (3 * g + k) < C 0 0 + C 1 0 + g)) ∧
  (∀ k, k < kO C → -2 ≤ C 6 k ∧ C 6 k < C 0 0 + C 1 0 + C 3 0) ∧
  (∀ k, k < kR C → -2 ≤ C 7 k ∧ C 7 k < C 0 0 + C 1 0 + C 3 0) ∧
  (0 ≤ C 13 0 ∧ C 13 0 < 2 ^ kR C ∧ 0 ≤ C 14 0 ∧ C 14 0 < 2 ^ kR C)
/-- the class's chip at label L -/
def RepK (S : Sto) (L : Nat) (C : Chp) : Prop :=
  (gI S L 1 = C 0 0 ∧ gI S L 2 = C 1 0 ∧ gI S L 3 = C 2 0 ∧ gI S L 6 = C 3 0 ∧ gI S (L + 1) 0 = C 8 0 ∧ gI S L 4 = C 13 0 ∧ gI S L 5 = C 14 0) ∧
  (∀ g, g < kG C → gI S (L + 6) g = C 4 g) ∧ (∀ i, i < 3 * kG C → gI S (L + 7) i = C 5 i) ∧ (∀ k, k < kO C → gI S (L + 8) k = C 6 k) ∧ (∀ k, k < kR C → gI S (L + 9) k = C 7 k) ∧
  (∀ c, c < kL C → gI S (L + 1 + 1) c = C 9 c ∧ gI S (L + 1 + 2) c = C 10 c ∧ gI S (L + 1 + 3) c = C 11 c ∧ gI S (L + 1 + 4) c = C 12 c)
/-- the reference's chip k -/
def RefK (S : Sto) (k : Nat) (C : Chp) : Prop :=
  ((gI S 2106 k) = C 0 0 ∧ (gI S 2107 k) = C 1 0 ∧ (gI S 2108 k) = C 2 0 ∧ (gI S 2111 k) = C 3 0 ∧ (gI S 2116 k) = C 8 0 ∧ (gI S 2109 k) = C 13 0 ∧ (gI S 2110 k) = C 14 0) ∧
  (∀ g, g < kG C → (gI S 2112 (150 * k + g)) = C 4 g) ∧ (∀ i, i < 3 * kG C → (gI S 2113 (450 * k + i)) = C 5 i) ∧ (∀ i, i < kO C → (gI S 2114 (16 * k + i)) = C 6 i) ∧ (∀ i, i < kR C → (gI S 2115 (6 * k + i)) = C 7 i) ∧
  (∀ c, c < kL C → (gI S 2117 (12 * k + c)) = C 9 c ∧ (gI S 2118 (12 * k + c)) = C 10 c ∧ (gI S 2119 (12 * k + c)) = C 11 c ∧ (gI S 2120 (12 * k + c)) = C 12 c)
section WFS
variable {C : Chp}
theorem WFC.i (w : WFC C) : C 0 0 = (kI C : Int) := by have := w.1; unfold kI; omega
theorem WFC.r (w : WFC C) : C 1 0 = (kR C : Int) := by have := w.1; unfold kR; omega
theorem WFC.o (w : WFC C) : C 2 0 = (kO C : Int) := by have := w.1; unfold kO; omega
theorem WFC.g (w : WFC C) : C 3 0 = (kG C : Int) := by have := w.1; unfold kG; omega
theorem WFC.l (w : WFC C) : C 8 0 = (kL C : Int) := by have := w.1; unfold kL; omega
theorem WFC.nums (w : WFC C) : kR C ≤ 6 ∧ kB C ≤ 12 ∧ 1 ≤ kO C ∧ kO C ≤ 16 ∧ kG C ≤ 150 ∧ 1 ≤ kL C ∧ kL C ≤ 12 ∧ kB C = kI C + kR C ∧ kN C = kB C + kG C := by
  have := w.1; have := w.i; have := w.r; have := w.o; have := w.g; have := w.l; unfold kN kB; omega
theorem WFC.c (w : WFC C) {g : Nat} (h : g < kG C) : C 4 g = (kC C g : Int) ∧ kC C g < kL C := by
  have := w.2.2.1 g h; have := w.l; unfold kC; omega
theorem WFC.li (w : WFC C) {c : Nat} (h : c < kL C) : C 9 c = (kLi C c : Int) ∧ 1 ≤ kLi C c ∧ kLi C c ≤ 3 := by
  have := w.2.1 c h; unfold kLi; omega
theorem WFC.lf (w : WFC C) {c : Nat} (h : c < kL C) : C 10 c = (kLf C c : Int) ∧ kLf C c < 256 := by
  have := w.2.1 c h; unfold kLf; omega
theorem WFC.ar (w : WFC C) {g : Nat} (h : g < kG C) : 1 ≤ kAr C g ∧ kAr C g ≤ 3 := (w.li (w.c h).2).2
theorem WFC.p (w : WFC C) {g k : Nat} (h : g < kG C) (hk : k < kAr C g) : C 5 (3 * g + k) = (kP C g k : Int) ∧ kP C g k < kB C + g := by
  have := (w.2.2.1 g h).2.2 k hk; have := w.i; have := w.r; unfold kP kB; omega
end WFS
section KSMALL
variable {S : Sto} {L : Nat} {C : Chp}
theorem k_bits (h : RepK S L C) (w : WFC C) : mX22_bits S L = some ((kB C : Nat) : Int) := by
  unfold mX22_bits kB; rw [h.1.1, h.1.2.1, w.i, w.r]; rfl
theorem k_nets (h : RepK S L C) (w : WFC C) : mX22_nets S L = some ((kN C : Nat) : Int) := by
  unfold mX22_nets; rw [k_bits h w, bX_some, h.1.2.2.2.1, w.g]; rfl
theorem k_elements (h : RepK S L C) (w : WFC C) : mX22_elements S L = some ((kR C + kG C : Nat) : Int) := by
  unfold mX22_elements; rw [h.1.2.1, h.1.2.2.2.1, w.r, w.g]; rfl
theorem k_netOfGate (h : RepK S L C) (w : WFC C) {p : Int} : mX22_netOfGate S L p = some ((kB C : Int) + p) := by
  unfold mX22_netOfGate; rw [k_bits h w]; rfl
theorem k_inputsOf (h : RepK S L C) (w : WFC C) {p : Int} (hp : 0 ≤ p ∧ p < kG C) : mX22_inputsOf S L p = some ((kAr C p.toNat : Nat) : Int) := by
  have hn := w.nums
  have hc := w.c (g := p.toNat) (by omega)
  have hl := w.li hc.2
  have e1 := h.2.1 p.toNat (by omega)
  have e2 := (h.2.2.2.2.2 _ hc.2).1
  simp (disch := omega) only [mX22_inputsOf, rdI_e, rdZ_e, rdL_e, wrI_e, wrL_e, bX_some, bE_inl, bE_inr, bT_inl, bT_inr, bX_ite, ite_someI, ite_someL, ite_someB, tt_eq, iteb, gz_01, gz_b2i, wf_eq, wfL_eq, wfR_eq, w32_id, w32_gI, w32_bz, Int.toNat_natCast, Int.reduceToNat, Int.toNat_add, Int.toNat_mul, Int.ofNat_lt, Int.ofNat_le, Int.natCast_inj, e1, hc.1, e2, hl.1]
  rfl
theorem k_size (h : RepK S L C) (w : WFC C) {p : Int} (hp : 0 ≤ p ∧ p < kR C + kG C) : mX22_size S L p = some (if p < kR C then 2 else (kAr C (p.toNat - kR C) : Int) + 1) := by
  have hn := w.nums
  have er := h.1.2.1
  rw [w.r] at er
  unfold mX22_size
  rw [er, w32_id (by omega), w32_id (by omega)]
  by_cases hlt : p < kR C
  · rw [if_pos hlt, if_pos hlt]; rfl
  · have hg : p.toNat - kR C < kG C := by omega
    have hc := w.c hg
    have hl := w.li hc.2
    have e1 := h.2.1 _ hg
    have e2 := (h.2.2.2.2.2 _ hc.2).1
    have e3 : (p - (kR C : Int)).toNat = p.toNat - kR C := by omega
    rw [if_neg hlt, if_neg hlt]
    simp (disch := omega) only [rdI_e, rdZ_e, rdL_e, wrI_e, wrL_e, bX_some, bE_inl, bE_inr, bT_inl, bT_inr, bX_ite, ite_someI, ite_someL, ite_someB, tt_eq, iteb, gz_01, gz_b2i, wf_eq, wfL_eq, wfR_eq, w32_id, w32_gI, w32_bz, Int.toNat_natCast, Int.reduceToNat, Int.toNat_add, Int.toNat_mul, Int.ofNat_lt, Int.ofNat_le, Int.natCast_inj, e3, e1, hc.1, e2, hl.1]
    rfl
end KSMALL
/-! nets' values: by a pattern, with a fault (a net, or an input 3 g + k, that is always b) -/
def kIdx (C : Chp) (v : Nat → Bool) (pn : Int) (b : Bool) (g : Nat) : Nat := bitsN (kAr C g) (fun k => if ((3 * g + k : Nat) : Int) = pn then b else v (kP C g k))
def kStep (C : Chp) (v : Nat → Bool) (pn : Int) (b : Bool) (g : Nat) : Bool := (kFn C g).testBit (kIdx C v pn b g)
def kValN (C : Chp) (p : Nat) (st pn : Int) (b : Bool) : Nat → Nat → Bool
  | 0, n => if (n : Int) = st then b else p.testBit n
  | g + 1, n => if n = kB C + g then (if (n : Int) = st then b else kStep C (kValN C p st pn b g) pn b g) else kValN C p st pn b g n
def kValF (C : Chp) (p : Nat) (st pn : Int) (b : Bool) : Nat → Bool := kValN C p st pn b (kG C)
def kVal (C : Chp) (p : Nat) : Nat → Bool := kValF C p (-1) (-1) false
section KVAL
variable {C : Chp} {p : Nat} {st pn : Int} {b : Bool}
theorem kValN_old {g n : Nat} (h : n < kB C + g) : ∀ {g'}, g ≤ g' → kValN C p st pn b g' n = kValN C p st pn b g n := by
  intro g' hg
  induction g' with
  | zero => have : g = 0 := by omega
            subst this; rfl
  | succ g' ih =>
    by_cases e : g = g' + 1
    · subst e; rfl
    · show (if n = kB C + g' then _ else kValN C p st pn b g' n) = _
      rw [if_neg (by omega), ih (by omega)]
theorem kValF_src {n : Nat} (h : n < kB C) : kValF C p st pn b n = if (n : Int) = st then b else p.testBit n := kValN_old (g := 0) h (Nat.zero_le _)
theorem kIdx_congr {v v' : Nat → Bool} {g : Nat} (h : ∀ k, k < kAr C g → v (kP C g k) = v' (kP C g k)) : kIdx C v pn b g = kIdx C v' pn b g := bitsN_congr (fun k hk => by rw [h k hk])
theorem kValF_gate (w : WFC C) {g : Nat} (h : g < kG C) : kValF C p st pn b (kB C + g) = if ((kB C + g : Nat) : Int) = st then b else kStep C (kValF C p st pn b) pn b g := by
  have e : kValF C p st pn b (kB C + g) = kValN C p st pn b (g + 1) (kB C + g) := kValN_old (g := g + 1) (by omega) h
  rw [e]
  show (if kB C + g = kB C + g then _ else _) = _
  rw [if_pos rfl]
  have : kStep C (kValN C p st pn b g) pn b g = kStep C (kValF C p st pn b) pn b g := by
    unfold kStep
    rw [kIdx_congr (fun k hk => (kValN_old (w.p h hk).2 (Nat.le_of_lt h)).symm)]
    rfl
  rw [this]
end KVAL
