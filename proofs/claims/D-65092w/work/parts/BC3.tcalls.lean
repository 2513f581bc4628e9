/-! calls about tests: what they change, their shape -/
def teC (C : Chp) (n : Int) (set fl : Nat → Int) : Chp := fun f i => if f = 28 then n else if f = 29 then set i else if f = 30 then fl i else C f i
theorem teC_o {C : Chp} {n : Int} {set fl : Nat → Int} {f i : Nat} (h : f < 28 ∨ 30 < f) : teC C n set fl f i = C f i := by unfold teC; rw [if_neg (by omega), if_neg (by omega), if_neg (by omega)]
section TCALLS
variable {c : Nat} {S : Sto} {k : Nat} {C : Chp}
/-- the class: a chip's tests are changed -/
def ChQ (k : Nat) (S z : Sto) : Prop := (∀ a i, kept a i = true → ¬ (a = 344 + 22 * k ∧ (i = 25 ∨ i = 30)) → (a < 344 + 22 * k + 18 ∨ 344 + 22 * k + 21 < a) → gI z a i = gI S a i) ∧ (∀ a i, (a = 365 ∨ a = 387 ∨ a = 409 ∨ a = 431) ∨ a = 2175 ∨ a = 2178 → a ≠ 344 + 22 * k + 21 → gL z a i = gL S a i) ∧ nC z = nC S ∧ nS z = nS S
/-- what the reference finds then -/
def QmS (k : Nat) (S z : Sto) (x : Int64) : Prop := (∀ a i, kept a i = true → ¬ (a = 344 + 22 * k ∧ (i = 25 ∨ i = 30)) → (a < 344 + 22 * k + 18 ∨ 344 + 22 * k + 21 < a) → gI z a i = gI S a i) ∧ (∀ a i, (a = 365 ∨ a = 387 ∨ a = 409 ∨ a = 431) ∨ a = 2175 → a ≠ 344 + 22 * k + 21 → gL z a i = gL S a i) ∧ nC z = nC S ∧ nS z = nS S ∧ gL z 2178 0 = x
/-- the reference: its tests of a chip are changed -/
def MhQ (k : Nat) (S z : Sto) : Prop := (∀ a i, kept a i = true → ¬ (((2172 ≤ a ∧ a ≤ 2175) ∨ a = 2177) ∧ ownC k a i) → gI z a i = gI S a i) ∧ (∀ a i, (a = 365 ∨ a = 387 ∨ a = 409 ∨ a = 431) ∨ a = 2175 ∨ a = 2178 → ¬ ownC k a i → gL z a i = gL S a i) ∧ nC z = nC S ∧ nS z = nS S
theorem ChQ.refl : ChQ k S S := ⟨fun _ _ _ _ _ => rfl, fun _ _ _ _ => rfl, rfl, rfl⟩
theorem ChQ.tr {z y : Sto} (h : ChQ k S z) (g : ChQ k z y) : ChQ k S y := ⟨fun a i q q' q'' => (g.1 a i q q' q'').trans (h.1 a i q q' q''), fun a i q q' => (g.2.1 a i q q').trans (h.2.1 a i q q'), g.2.2.1.trans h.2.2.1, g.2.2.2.trans h.2.2.2⟩
theorem MhQ.refl : MhQ k S S := ⟨fun _ _ _ _ => rfl, fun _ _ _ _ => rfl, rfl, rfl⟩
theorem MhQ.tr {z y : Sto} (h : MhQ k S z) (g : MhQ k z y) : MhQ k S y := ⟨fun a i q q' => (g.1 a i q q').trans (h.1 a i q q'), fun a i q q' => (g.2.1 a i q q').trans (h.2.1 a i q q'), g.2.2.1.trans h.2.2.1, g.2.2.2.trans h.2.2.2⟩
theorem Sc.Q {z : Sto} (h : Sc S z) : ChQ k S z := ⟨fun a i q _ _ => h.1 a i q, fun a i q _ => h.2.1 a i q, h.2.2.1, h.2.2.2⟩
theorem Sc.H {z : Sto} (h : Sc S z) : MhQ k S z := ⟨fun a i q _ => h.1 a i q, fun a i q _ => h.2.1 a i q, h.2.2.1, h.2.2.2⟩
theorem ChQ.K {z : Sto} (h : ChQ k S z) (hk : k < 4) (r : RepK S (344 + 22 * k) C) : RepK z (344 + 22 * k) C := by
  have cl : ∀ a i, 344 + 22 * k ≤ a → a ≤ 344 + 22 * k + 17 → ¬ (a = 344 + 22 * k ∧ (i = 25 ∨ i = 30)) → gI z a i = gI S a i := fun a i l1 l2 l3 => h.1 a i (kept_rng (by omega)) l3 (by omega)
  obtain ⟨t1, t2, t3, t4, t5, t6⟩ := r
  refine ⟨?_, fun g' hg' => ?_, fun g' hg' => ?_, fun g' hg' => ?_, fun g' hg' => ?_, fun g' hg' => ?_⟩
  · simp (disch := omega) only [cl]; exact t1
  · rw [cl _ _ (by omega) (by omega) (by omega)]; exact t2 g' hg'
  · rw [cl _ _ (by omega) (by omega) (by omega)]; exact t3 g' hg'
  · rw [cl _ _ (by omega) (by omega) (by omega)]; exact t4 g' hg'
  · rw [cl _ _ (by omega) (by omega) (by omega)]; exact t5 g' hg'
  · simp (disch := omega) only [cl]; exact t6 g' hg'
theorem QmS.M {z : Sto} {x : Int64} (h : QmS k S z x) (hk : k < 4) {j : Nat} (r : RefK S j C) : RefK z j C := r.cg (fun a i l1 l2 => h.1 a i (kept_rng (by omega)) (by omega) (by omega))
theorem QmS.T {z : Sto} {x : Int64} (h : QmS k S z x) (hk : k < 4) (w : WFC C) (wT : WFT C) (r : RefT S k C) : RefT z k C := by
  obtain ⟨h1, h2, h3, h4⟩ := r
  refine ⟨?_, fun i hi => ?_, fun i f hi hf => ?_, fun f hf => ?_⟩
  · rw [h.1 _ _ (kept_rng (by omega)) (by omega) (by omega)]; exact h1
  · rw [h.1 _ _ (kept_rng (by omega)) (by omega) (by omega), h.1 _ _ (kept_rng (by omega)) (by omega) (by omega)]; exact h2 i hi
  · rw [h.2.1 _ _ (by omega) (by omega)]; exact h3 i f hi hf
  · rw [h.1 _ _ (kept_rng (by omega)) (by omega) (by omega)]; exact h4 f hf
theorem QmS.chip {z : Sto} {x : Int64} (g : QmS k S z x) (hk : k < 4) (h : Inv c S) {p : Int} (hp : i32 p) (q : isCh S p) : mX23_isChip z p = some 1 :=
  m_isChip_w h (fun i => g.1 _ _ (kept_rng (by omega)) (by omega) (by omega)) (fun i => g.1 _ _ (kept_rng (by omega)) (by omega) (by omega)) hp q
theorem MhQ.K {z : Sto} (h : MhQ k S z) {j : Nat} (r : RefK S j C) : RefK z j C := r.cg (fun a i l1 l2 => h.1 a i (kept_rng (by omega)) (fun g => by omega))
theorem L_tst {m : Option ((Int × Sto) ⊕ (Nat × Sto))} {m1 : Sto → Option (Int × Sto)} {cs : List (Nat × Int)} (v n : Int) (set fl : Nat → Int) (h : Inv c S) (hc : c < 64) (hk : k < 4)
    (w : WFC C) (r : RepK S (344 + 22 * k) C) (mm : RefK S k C) (wx : WFX C) (rX : RepX S (344 + 22 * k) C) (mX : RefX S k C) (wT : WFT (teC C n set fl))
    (hx : WP m (WE (fun x => x.1 = v ∧ ChQ k S x.2 ∧ RepT x.2 (344 + 22 * k) (teC C n set fl)) (fun _ => False)))
    (hm : ∀ S1, QmS k S S1 (i2l v) → WP (m1 S1) (fun y => y.1 = v ∧ gI y.2 2000 0 = 0 ∧ MhQ k S1 y.2 ∧ RefT y.2 k (teC C n set fl))) :
    WP (bX (bC m (fun x1 => wrL 1 x1.2 2178 0 (i2l x1.1) fun S2 => some (0, S2)) cs) fun x1 => bX (m1 x1.2) fun x2 => bX (mX23_thrown x2.2) fun x3 => if ¬ w32 x3 = w32 x1.1 then none else bX (if w32 x1.1 = 0 then rdL 1 x2.2 2178 0 fun v4 => if ¬ w32 (lCmp v4 (i2l x2.1)) = 0 then some true else some false else some false) fun b => if b = true then none else some x2.2) (Inv (c + 1)) := by
  refine L_modS (hx.mono fun z hz => ?_)
  cases z with
  | inr t => exact hz
  | inl x =>
    obtain ⟨x1, x2, x3⟩ := hz
    show WP (m1 (sL x.2 2178 0 (i2l x.1))) _
    rw [x1]
    obtain ⟨S1, hS1⟩ : ∃ S1, sL x.2 2178 0 (i2l v) = S1 := ⟨_, rfl⟩
    have q1 : QmS k S S1 (i2l v) := by
      rw [← hS1]
      exact ⟨fun a i g1 g2 g3 => x2.1 a i g1 g2 g3, fun a i g1 g2 => by rw [gL_sLn (.inl (by omega))]; exact x2.2.1 a i (by omega) g2, x2.2.2.1, x2.2.2.2, gL_sLe ⟨rfl, rfl⟩⟩
    rw [hS1]
    refine (hm S1 q1).mono (fun y hy => ?_)
    obtain ⟨y1, y2, y3, y4⟩ := hy
    have no : ∀ a i, a < 2000 → ¬ ownC k a i := fun a i q g => by have := g.1; omega
    have gv : gL y.2 2178 0 = i2l v := by
      rw [y3.2.1 _ _ (by omega) (fun g => by have := g.1; omega)]; exact q1.2.2.2.2
    refine ⟨y1, y2, gv, ?_⟩
    have gA : ∀ a i, kept a i = true → ¬ (a = 344 + 22 * k ∧ (i = 25 ∨ i = 30)) → (a < 344 + 22 * k + 18 ∨ 344 + 22 * k + 21 < a) → ¬ (((2172 ≤ a ∧ a ≤ 2175) ∨ a = 2177) ∧ ownC k a i) → gI y.2 a i = gI S a i := fun a i g1 g2 g3 g4 => (y3.1 a i g1 g4).trans (q1.1 a i g1 g2 g3)
    have cl : ∀ a i, 344 + 22 * k ≤ a → a ≤ 344 + 22 * k + 17 → ¬ (a = 344 + 22 * k ∧ (i = 25 ∨ i = 30)) → gI y.2 a i = gI S a i := fun a i l1 l2 l3 => gA a i (kept_rng (by omega)) l3 (by omega) (fun g => by omega)
    have gg : ∀ a i, 2105 ≤ a → a ≤ 2157 → ((a ≤ 2120) ∨ (2122 ≤ a ∧ a ≤ 2125) ∨ (2134 ≤ a ∧ a ≤ 2139) ∨ (2146 ≤ a ∧ a ≤ 2148) ∨ 2155 ≤ a) → gI y.2 a i = gI S a i := fun a i l1 l2 l3 => gA a i (kept_rng (by omega)) (by omega) (by omega) (fun g => by omega)
    have yx : ∀ a i, 344 + 22 * k ≤ a → a ≤ 344 + 22 * k + 21 → gI y.2 a i = gI x.2 a i := fun a i l1 l2 => by
      rw [y3.1 a i (kept_rng (by omega)) (fun g => by omega), ← hS1]; rfl
    have yxL : ∀ i, gL y.2 (344 + 22 * k + 21) i = gL x.2 (344 + 22 * k + 21) i := fun i => by
      rw [y3.2.1 _ i (by omega) (no _ _ (by omega)), ← hS1, gL_sLn (.inl (by omega))]
    refine h.chipQ hk (fun a i => ((a = 344 + 22 * k ∧ (i = 25 ∨ i = 30)) ∨ (344 + 22 * k + 18 ≤ a ∧ a ≤ 344 + 22 * k + 21)) ∨ (((2172 ≤ a ∧ a ≤ 2175) ∨ a = 2177) ∧ ownC k a i)) (teC C n set fl) (fun a i q g => gA a i q (fun e => g (.inl (.inl e))) (by omega) (fun e => g (.inr e))) (fun a i g => ?_) (fun a i q g1 g2 => ?_) ?_ ?_ ?_
    · rcases g with g | g
      · exact .inl (by omega)
      · exact .inr g.2
    · rw [y3.2.1 a i (by omega) g2]; exact q1.2.1 a i q g1
    · rw [y3.2.2.1, q1.2.2.1]; omega
    · rw [y3.2.2.2, q1.2.2.2.1]; omega
    · have l14 : ∀ f i, f ≤ 14 → teC C n set fl f i = C f i := fun f i q => teC_o (by omega)
      have l12 : ∀ f i, f ≤ 12 → teC C n set fl f i = C f i := fun f i q => teC_o (by omega)
      have lF : ∀ f i, 25 ≤ f → f ≤ 27 → teC C n set fl f i = C f i := fun f i _ q => teC_o (by omega)
      obtain ⟨xP, xW, xB, xF, xT⟩ := wx
      obtain ⟨rP, rW, rB, rF, rT⟩ := rX
      obtain ⟨mP, mW, mB, mF, mT⟩ := mX
      have rz : RepK y.2 (344 + 22 * k) C := by
        obtain ⟨t1, t2, t3, t4, t5, t6⟩ := r
        refine ⟨?_, fun g' hg' => ?_, fun g' hg' => ?_, fun g' hg' => ?_, fun g' hg' => ?_, fun g' hg' => ?_⟩
        · simp (disch := omega) only [cl]; exact t1
        · rw [cl _ _ (by omega) (by omega) (by omega)]; exact t2 g' hg'
        · rw [cl _ _ (by omega) (by omega) (by omega)]; exact t3 g' hg'
        · rw [cl _ _ (by omega) (by omega) (by omega)]; exact t4 g' hg'
        · rw [cl _ _ (by omega) (by omega) (by omega)]; exact t5 g' hg'
        · simp (disch := omega) only [cl]; exact t6 g' hg'
      have mz : RefK y.2 k C := mm.cg (fun a i l1 l2 => gg a i (by omega) (by omega) (by omega))
      refine ⟨⟨w.fc l14, rz.fc l14, mz.fc l14⟩, ⟨xP, xW, xB, xF.fc l12 lF, wT⟩, ⟨?_, ?_, ?_, ?_, ?_⟩, ⟨?_, ?_, ?_, ?_, y4⟩⟩
      · have : RepP y.2 (344 + 22 * k) C := by unfold RepP at rP ⊢; simp (disch := omega) only [cl]; exact rP
        exact this
      · have : RepW y.2 (344 + 22 * k) C := by unfold RepW at rW ⊢; simp (disch := omega) only [cl]; exact rW
        exact this
      · have : RepB y.2 (344 + 22 * k) C := by unfold RepB at rB ⊢; simp (disch := omega) only [cl]; exact rB
        exact this
      · have : RepF y.2 (344 + 22 * k) C := by unfold RepF at rF ⊢; simp (disch := omega) only [cl]; exact rF
        exact this
      · unfold RepT at x3 ⊢; simp (disch := omega) only [yx, yxL]; exact x3
      · have : RefP y.2 k C := by unfold RefP at mP ⊢; simp (disch := omega) only [gg]; exact mP
        exact this
      · have : RefW y.2 k C := by unfold RefW at mW ⊢; simp (disch := omega) only [gg]; exact mW
        exact this
      · have : RefB y.2 k C := by unfold RefB at mB ⊢; simp (disch := omega) only [gg]; exact mB
        exact this
      · have : RefF y.2 k C := by unfold RefF at mF ⊢; simp (disch := omega) only [gg]; exact mF
        exact this
/-- nothing but what was tried is new -/
theorem teC_same (C : Chp) : teC C (C 28 0) (C 29) (C 30) = fun f i => if f = 28 then C 28 0 else C f i := by
  funext f i
  unfold teC
  by_cases q : f = 28
  · rw [if_pos q, if_pos q]
  · rw [if_neg q, if_neg q]
    by_cases q2 : f = 29
    · rw [if_pos q2, q2]
    · rw [if_neg q2]
      by_cases q3 : f = 30
      · rw [if_pos q3, q3]
      · rw [if_neg q3]
theorem teC_l12 {n : Int} {set fl : Nat → Int} : ∀ f i, f ≤ 12 → teC C n set fl f i = C f i := fun _ _ _ => teC_o (by omega)
/-- tests of a record with other tests -/
theorem RepT_te {z : Sto} {L : Nat} {n : Int} {set fl : Nat → Int} (h1 : gI z L 25 = n) (h2 : ∀ i, i < n.toNat → gI z (L + 18) i = set i ∧ gI z (L + 19) i = fl i) (h3 : gI z L 30 = 0 ∨ gI z L 30 = 1)
    (h4 : gI z L 30 = 1 → ∀ f, f < kFa C → gI z (L + 20) f = kLeast C f ∧ ∀ p, p < 2 ^ kB C → tb (gL z (L + 21) (64 * f + p / 64)) (p % 64) = kShow C f p) : RepT z L (teC C n set fl) := by
  refine ⟨h1, fun i hi => h2 i hi, h3, fun q f hf => ?_⟩
  rw [kFa_cg (teC_l12 (C := C))] at hf
  rw [kLeast_cg (teC_l12 (C := C)), (kNums_cg (teC_l12 (C := C))).2.2.2.2.1]
  exact ⟨(h4 q f hf).1, fun p hp => by rw [kShow_cg (teC_l12 (C := C))]; exact (h4 q f hf).2 p hp⟩
theorem RefT_te {z : Sto} {n : Int} {set fl : Nat → Int} (h1 : gI z 2172 k = n) (h2 : ∀ i, i < n.toNat → gI z 2173 (1280 * k + i) = set i ∧ gI z 2174 (1280 * k + i) = fl i)
    (h3 : ∀ i f, i < n.toNat → f < kFa C → tb (gL z 2175 (20 * (1280 * k + i) + f / 64)) (f % 64) = kShow C f (set i).toNat) (h4 : MLeast z k C) : RefT z k (teC C n set fl) := by
  refine ⟨h1, fun i hi => h2 i hi, fun i f hi hf => ?_, fun f hf => ?_⟩
  · rw [kFa_cg (teC_l12 (C := C))] at hf
    rw [kShow_cg (teC_l12 (C := C))]
    exact h3 i f hi hf
  · rw [kFa_cg (teC_l12 (C := C))] at hf
    rw [kLeast_cg (teC_l12 (C := C))]
    exact h4 f hf
theorem WFT_te {n : Int} {set fl : Nat → Int} (h1 : -1 ≤ n ∧ n ≤ 1224) (h2 : ∀ i, i < n.toNat → 0 ≤ set i ∧ set i < 2 ^ kB C ∧ (fl i = 0 ∨ fl i = 1)) : WFT (teC C n set fl) :=
  ⟨h1, fun i hi => by rw [(kNums_cg (teC_l12 (C := C))).2.2.2.2.1]; exact h2 i hi⟩
end TCALLS
