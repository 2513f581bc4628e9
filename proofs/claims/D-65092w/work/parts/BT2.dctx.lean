/-! the class reads a design: what stands while it reads expressions -/
def MdK (u : Nat → Int) (n : Nat) (S : Sto) (M : Nat) (m : Mdl) : Prop := NmK u n S (M + 1) (mTk m) ∧ (∀ i, i < m.length → gI S (M + 4) i = (m.getD i nm0).2.1 ∧ gI S (M + 5) i = (m.getD i nm0).2.2.1 ∧ gI S (M + 6) i = (m.getD i nm0).2.2.2) ∧ Dst u n (mTk m)
def NmOk (k : Nat) (x : Nam) : Prop := (0 ≤ x.2.1 ∧ x.2.1 ≤ 4) ∧ (x.2.1 ≠ 4 → 1 ≤ x.2.2.1 ∧ x.2.2.1 ≤ 8) ∧ (x.2.1 = 4 → 0 ≤ x.2.2.2 ∧ x.2.2.2 < k)
def MdOk (k : Nat) (m : Mdl) : Prop := m.length ≤ 40 ∧ ∀ i, i < m.length → NmOk k (m.getD i nm0)
def Gz (S z : Sto) : Prop := nC S ≤ nC z ∧ gI z 170 2 = gI S 170 2 * ((2 ^ (nC z - nC S) : Nat) : Int) ∧ (nS z : Int) = nS S + 2 * (gI z 170 2 - gI S 170 2)
def PDx (a i : Nat) : Prop := a = 4 ∧ 2 ≤ i ∧ i ≤ 10
/-- what reading an expression may change -/
def ChXd (S z : Sto) : Prop := (∀ b i, b ≠ 171 → ¬ (b = 170 ∧ (i = 1 ∨ i = 2)) → ¬ PDx b i → gI z b i = gI S b i) ∧ (∀ b i, gL z b i = gL S b i) ∧ (∀ b i, ¬ (b = 170 ∧ i = 0) → gR z b i = gR S b i) ∧ Gz S z
def CtD (u : Nat → Int) (n N : Nat) (ms : List Mdl) (cur : Mdl) (S0 S : Sto) : Prop := TpK S 4 u n ∧ LstT u n N ∧ (gR S 3 5 = 9 + 10 * ms.length ∧ ms.length ≤ 15) ∧ (MdK u n S (9 + 10 * ms.length) cur ∧ MdOk ms.length cur) ∧ (∀ i, i < ms.length → MdK u n S (9 + 10 * i) (ms.getD i []) ∧ MdOk ms.length (ms.getD i [])) ∧ (nC S0 ≤ 800000 ∧ nS S0 ≤ 5000000 ∧ okCap (gI S0 170 2)) ∧ Gz S0 S
theorem CtD.t {S S0 : Sto} {u : Nat → Int} {n N : Nat} {ms : List Mdl} {cur : Mdl} (h : CtD u n N ms cur S0 S) : TpK S 4 u n := h.1
theorem CtD.l {S S0 : Sto} {u : Nat → Int} {n N : Nat} {ms : List Mdl} {cur : Mdl} (h : CtD u n N ms cur S0 S) : LstT u n N := h.2.1
theorem CtD.r {S S0 : Sto} {u : Nat → Int} {n N : Nat} {ms : List Mdl} {cur : Mdl} (h : CtD u n N ms cur S0 S) : gR S 3 5 = 9 + 10 * ms.length ∧ ms.length ≤ 15 := h.2.2.1
theorem CtD.m {S S0 : Sto} {u : Nat → Int} {n N : Nat} {ms : List Mdl} {cur : Mdl} (h : CtD u n N ms cur S0 S) : MdK u n S (9 + 10 * ms.length) cur ∧ MdOk ms.length cur := h.2.2.2.1
theorem CtD.o {S S0 : Sto} {u : Nat → Int} {n N : Nat} {ms : List Mdl} {cur : Mdl} (h : CtD u n N ms cur S0 S) : ∀ i, i < ms.length → MdK u n S (9 + 10 * i) (ms.getD i []) ∧ MdOk ms.length (ms.getD i []) := h.2.2.2.2.1
section CDX
variable {S S0 z y : Sto} {u : Nat → Int} {n N : Nat} {ms : List Mdl} {cur m : Mdl} {q : Qq} {j o : Nat} {k : List Row3}
theorem Gz.refl : Gz S S := ⟨Nat.le_refl _, by rw [Nat.sub_self]; show _ = _ * 1; omega, by omega⟩
theorem Gz.tr (h : Gz S z) (g : Gz z y) : Gz S y := by
  obtain ⟨h4, h5, h6⟩ := h
  obtain ⟨g4, g5, g6⟩ := g
  refine ⟨Nat.le_trans h4 g4, ?_, by omega⟩
  rw [g5, h5, Int.mul_assoc, ← Int.natCast_mul, ← Nat.pow_add, show nC z - nC S + (nC y - nC z) = nC y - nC S by omega]
theorem Gz.c (g : Gz S z) (h : okCap (gI S 170 2)) (h2 : okCap (gI z 170 2)) : nC z ≤ nC S + 5 ∧ nS z ≤ nS S + 16000 := by
  obtain ⟨g4, g5, g6⟩ := g
  have r1 := h.rng
  have r2 := h2.rng
  refine ⟨?_, by omega⟩
  refine Classical.byContradiction (fun q => ?_)
  have h3 : 2 ^ 6 ≤ 2 ^ (nC z - nC S) := Nat.pow_le_pow_right (by omega) (by omega)
  have h4 : gI S 170 2 * (64 : Int) ≤ gI S 170 2 * ((2 ^ (nC z - nC S) : Nat) : Int) := Int.mul_le_mul_of_nonneg_left (by omega) (by omega)
  omega
theorem ChXd.refl : ChXd S S := ⟨fun _ _ _ _ _ => rfl, fun _ _ => rfl, fun _ _ _ => rfl, Gz.refl⟩
theorem ChXd.tr (h : ChXd S z) (g : ChXd z y) : ChXd S y := ⟨fun b i q1 q2 q3 => (g.1 b i q1 q2 q3).trans (h.1 b i q1 q2 q3), fun b i => (g.2.1 b i).trans (h.2.1 b i), fun b i q => (g.2.2.1 b i q).trans (h.2.2.1 b i q), h.2.2.2.tr g.2.2.2⟩
theorem ChXd.w {P : Nat → Nat → Prop} (g : ChW P S z) (e : ∀ a i, P a i → PDx a i) : ChXd S z := ⟨fun b i _ _ q => g.1 b i (fun w => q (e b i w)), fun b i => g.2.1 b i, fun b i _ => g.2.2.1 b i, by rw [g.2.2.2.1]; exact Nat.le_refl _, by rw [g.2.2.2.1, Nat.sub_self, g.1 _ _ (fun w => by have := e _ _ w; unfold PDx at this; omega)]; show _ = _ * 1; omega, by rw [g.2.2.2.2, g.1 _ _ (fun w => by have := e _ _ w; unfold PDx at this; omega)]; omega⟩
theorem ChXd.g (g : GrK 170 S z) : ChXd S z := ⟨fun b i q1 q2 _ => g.1 b i q1 q2, g.2.1, g.2.2.1, g.2.2.2⟩
theorem ChXd.p (h : ChXd S z) (g : ChW (PSc 4) z y) : ChXd S y := h.tr (ChXd.w g (fun a i q => by unfold PSc at q; unfold PDx; omega))
theorem ChXd.f (h : ChXd S z) (g : ChW (PF89 4) z y) : ChXd S y := h.tr (ChXd.w g (fun a i q => by unfold PF89 at q; unfold PDx; omega))
theorem NmK.cgE {a : Nat} {ps : List Nat} (h : NmK u n S a ps) (e1 : gI z a 2 = gI S a 2) (e2 : ∀ i, gI z (a + 1) i = gI S (a + 1) i) (e3 : ∀ i, gI z (a + 2) i = gI S (a + 2) i) : NmK u n z a ps := ⟨e1.trans h.c, fun i hi => (h.e i hi).cg (e3 i) e2, h.k⟩
theorem MdK.cg {M : Nat} (h : MdK u n S M m) (e : ∀ a i, M + 1 ≤ a → a ≤ M + 6 → gI z a i = gI S a i) : MdK u n z M m := by
  refine ⟨h.1.cgE (e _ _ (by omega) (by omega)) (fun i => e _ _ (by omega) (by omega)) (fun i => e _ _ (by omega) (by omega)), fun i hi => ?_, h.2.2⟩
  rw [e _ _ (by omega) (by omega), e _ _ (by omega) (by omega), e _ _ (by omega) (by omega)]
  exact h.2.1 i hi
theorem CtD.ch (h : CtD u n N ms cur S0 S) (g : ChXd S z) : CtD u n N ms cur S0 z := by
  obtain ⟨h1, h2, h3, h4, h5, h6, h7⟩ := h
  have e : ∀ a i, a ≠ 4 → a < 170 → gI z a i = gI S a i := fun a i q1 q2 => g.1 a i (by omega) (by omega) (fun w => by unfold PDx at w; omega)
  refine ⟨h1.cg (g.2.2.1 _ _ (by omega)) (g.1 _ _ (by omega) (by omega) (fun w => by unfold PDx at w; omega)) (fun i => e _ _ (by omega) (by omega)), h2, ⟨(g.2.2.1 _ _ (by omega)).trans h3.1, h3.2⟩, ⟨h4.1.cg (fun a i q1 q2 => e a i (by omega) (by omega)), h4.2⟩, fun i hi => ⟨(h5 i hi).1.cg (fun a i q1 q2 => e a i (by omega) (by omega)), (h5 i hi).2⟩, h6, h7.tr g.2.2.2⟩
theorem CtD.heap (h : CtD u n N ms cur S0 S) (h2 : okCap (gI S 170 2)) : nC S ≤ 899000 ∧ nS S ≤ 5900000 := by
  obtain ⟨_, _, _, _, _, ⟨h6, h7, h8⟩, h9⟩ := h
  have := h9.c h8 h2
  omega
theorem w3k {a b d : Int} (h1 : -2147483648 ≤ a ∧ a < 2147483648) (h2 : -2147483648 ≤ b ∧ b < 2147483648) (h3 : -2147483648 ≤ d ∧ d < 2147483648) : w3ok (a, b, d) := ⟨h1, h2, h3⟩
/-- a row of code is put -/
theorem k_putD (h : CtD u n N ms cur S0 S) (hk : RwK S 170 (flat3 k)) (hl : k.length ≤ 2700) {p q r : Int} (hr : w3ok (p, q, r)) : WP (mX5_put S p q r) (fun z => RwK z 170 (flat3 (k ++ [(p, q, r)])) ∧ GrK 170 S z) := by
  have hh := h.heap hk.2.2.1
  exact k_put3 hk hl hr hh.1 hh.2
theorem RwK.x {a : Nat} {l : List Int} (h : RwK S a l) (e1 : gI z a 1 = gI S a 1) (e2 : gI z a 2 = gI S a 2) (e3 : ∀ i, gI z (a + 1) i = gI S (a + 1) i) : RwK z a l := ⟨e1.trans h.1, fun i hi => (e3 i).trans (h.2.1 i hi), by rw [e2]; exact h.2.2.1, by rw [e2]; exact h.2.2.2⟩
theorem RwK.w {l : List Int} {P : Nat → Nat → Prop} (h : RwK S 170 l) (g : ChW P S z) (e : ∀ a i, P a i → a = 4) : RwK z 170 l := h.x (g.1 _ _ (fun w => by have := e _ _ w; omega)) (g.1 _ _ (fun w => by have := e _ _ w; omega)) (fun i => g.1 _ _ (fun w => by have := e _ _ w; omega))
theorem RwK.p {l : List Int} (h : RwK S 170 l) (g : ChW (PSc 4) S z) : RwK z 170 l := h.w g (fun a i q => q.1)
theorem RwK.f {l : List Int} (h : RwK S 170 l) (g : ChW (PF89 4) S z) : RwK z 170 l := h.w g (fun a i q => q.1)
theorem ScQ.g (h : ScQ u n S 4 q) (g : ∀ i, 2 ≤ i → i ≤ 9 → gI z 4 i = gI S 4 i) : ScQ u n z 4 q := h.cg g
/-- rows do not touch the scanner -/
theorem GrK.sc (g : GrK 170 S z) (h : ScQ u n S 4 q) : ScQ u n z 4 q := h.cg (fun i _ _ => g.1 _ _ (by omega) (by omega))
/-- a fault with a place of its own -/
theorem k_failP (h : ScQ u n S 4 q) {c : Int} (hc : 1 ≤ c ∧ c ≤ 1000) {p : Int} (hp : -2147483648 ≤ p ∧ p < 2147483648) : WP (mX3_fail S 4 c p) (fun y => ScQ u n y 4 (bq q (fun _ => .inr (c, p))) ∧ ChW (PF89 4) S y) := by
  unfold mX3_fail
  cases q with
  | inl j =>
    obtain ⟨h1, h2, h3, h4, h5, h6⟩ := h
    rw [h1, if_neg (by decide), wf_eq, wf_eq]
    refine WP_some.2 ⟨⟨?_, ?_, ?_⟩, (ChW.refl.sI ⟨rfl, Or.inl rfl⟩).sI ⟨rfl, Or.inr rfl⟩⟩
    · rw [hI_sI_i (by decide), gI_sI_eq, w32_id (by omega)]
    · show c ≠ 0; omega
    · rw [gI_sI_eq, w32_id hp]
  | inr e =>
    rw [w32_gI, h.1, if_pos h.2.1]
    exact WP_some.2 ⟨h, ChW.refl⟩
/-- a number within bounds -/
theorem k_numD (t : TpK S 4 u n) (h : ScQ u n S 4 q) {lo hi : Int} (hh : -10 ≤ lo ∧ lo ≤ 1000000 ∧ -10 ≤ hi ∧ hi ≤ 1000000) : WP (mX2_number S lo hi) (fun y => ScQ u n y.2 4 (bq q (nuT u n lo hi)) ∧ ChW (PSc 4) S y.2 ∧ (-2147483648 ≤ y.1 ∧ y.1 < 2147483648) ∧ ∀ j j', q = .inl j → nuT u n lo hi j = .inl j' → y.1 = tkV u n j) := by
  have hn := t.b
  have ps : ∀ a i, PSc 4 a i → PSc 4 a i := fun _ _ q => q
  have pf : ∀ a i, PF89 4 a i → PSc 4 a i := fun a i q => by unfold PF89 at q; unfold PSc; omega
  unfold mX2_number
  rw [k_isNumber h, bX_some]
  refine WP_call (k_must h hn) (fun y hy => ?_)
  obtain ⟨y1, cy⟩ := hy
  have cy : ChW (PSc 4) S y := ChW.refl.tr cy pf
  have fin : ∀ z f, ChW (PSc 4) S z → ScQ u n z 4 (.inr f) → bq q (nuT u n lo hi) = .inr f → WP (bX (mX3_next z 4) fun x6 => some (gI z 4 6, x6)) (fun y => ScQ u n y.2 4 (bq q (nuT u n lo hi)) ∧ ChW (PSc 4) S y.2 ∧ (-2147483648 ≤ y.1 ∧ y.1 < 2147483648) ∧ ∀ j j', q = .inl j → nuT u n lo hi j = .inl j' → y.1 = tkV u n j) := by
    intro z f cz sz e
    refine WP_call (k_next3 (t.chS cz) sz) (fun w hw => WP_some.2 ⟨by rw [e]; exact hw.1, cz.tr hw.2 ps, gI_rng _ _ _, fun j j' e2 g => ?_⟩)
    subst e2
    have e : nuT u n lo hi j = .inr f := e
    rw [e] at g; cases g
  have bad : ∀ f, ScQ u n y 4 (.inr f) → bq q (nuT u n lo hi) = .inr f → WP (bX (mX3_ok y 4) fun x3 => bX (bX (if ¬ w32 x3 = 0 then if w32 lo ≤ w32 (gI y 4 6) then if w32 hi < w32 (gI y 4 6) then some true else some false else some true else some false) fun b => if b = true then bX (mX3_fail y 4 12 (gI y 4 4)) fun x4 => some x4 else some y) fun y5 => bX (mX3_next y5 4) fun x6 => some (gI y5 4 6, x6)) (fun y => ScQ u n y.2 4 (bq q (nuT u n lo hi)) ∧ ChW (PSc 4) S y.2 ∧ (-2147483648 ≤ y.1 ∧ y.1 < 2147483648) ∧ ∀ j j', q = .inl j → nuT u n lo hi j = .inl j' → y.1 = tkV u n j) := by
    intro f sy e
    rw [k_ok sy, bX_some, bIf, if_neg (fun z => by cases z), bX_some, if_neg (fun z => by cases z), bX_some]
    exact fin y f cy sy e
  cases q with
  | inr f => exact bad f y1 rfl
  | inl j =>
    by_cases eK : tkK u n j = 2
    · have e : muT u n (isK u n 2 (.inl j)) (.inl j) = .inl j := by unfold muT bq isK; dsimp only; rw [if_pos (decide_eq_true eK)]
      rw [e] at y1
      have hv := tK_2 eK
      have y6 : gI y 4 6 = tkV u n j := (y1.2.2.2.2.2.2.2.2.1 eK).2
      have hv' : 0 ≤ tkV u n j ∧ tkV u n j < 1000000 := hv.2
      rw [k_ok y1, bX_some, bIf, show okQ (.inl j) = true from rfl, if_pos rfl, y6, w32_id (by omega), w32_id (by omega), w32_id (by omega)]
      by_cases er : lo ≤ tkV u n j ∧ tkV u n j ≤ hi
      · rw [if_pos er.1, if_neg (show ¬ hi < tkV u n j by omega), bX_some, if_neg (by decide), bX_some]
        have en : bq (.inl j) (nuT u n lo hi) = nxT u n j := by show nuT u n lo hi j = _; unfold nuT; rw [if_pos eK, if_pos er]
        refine WP_call (k_next3 (t.chS cy) y1) (fun w hw => WP_some.2 ⟨by rw [en]; exact hw.1, cy.tr hw.2 ps, gI_rng _ _ _, fun i j' e1 g => ?_⟩)
        injection e1 with e1
        dsimp only
        rw [y6, e1]
      · have en : bq (.inl j) (nuT u n lo hi) = flT u n 12 j := by show nuT u n lo hi j = _; unfold nuT; rw [if_pos eK, if_neg er]
        have eb : (if lo ≤ tkV u n j then if hi < tkV u n j then some true else some false else some true) = some true := by
          by_cases g1 : lo ≤ tkV u n j
          · rw [if_pos g1, if_pos (by omega)]
          · rw [if_neg g1]
        rw [eb, bX_some, if_pos rfl]
        refine WP_call (R := fun z => ScQ u n z 4 (flT u n 12 j) ∧ ChW (PF89 4) y z) ?_ (fun z hz => fin z _ (cy.tr hz.2 pf) hz.1 en)
        exact WP_call (k_fail y1 (by omega) hn) (fun z hz => WP_some.2 hz)
    · have e : muT u n (isK u n 2 (.inl j)) (.inl j) = flT u n 2 j := by unfold muT bq isK; dsimp only; rw [if_neg (fun q => eK (of_decide_eq_true q))]
      rw [e] at y1
      exact bad _ y1 (by show nuT u n lo hi j = _; unfold nuT; rw [if_neg eK]; rfl)
end CDX
