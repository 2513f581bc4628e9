/-! what the reference finds: counts -/
def Pr (C : Chp) (i j i' j' : Nat) : Prop := (i' < i ∨ (i' = i ∧ j' < j)) ∧ i' < j' ∧ j' < kPn C
def rSq (C : Chp) (pt : Nat → Nat) (i j a b : Nat) : Prop := a < b ∧ ∃ i' j', Pr C i j i' j' ∧ pt i' = pt j' ∧ (((kPf C i').1 = a ∧ (kPf C j').1 = b) ∨ ((kPf C i').1 = b ∧ (kPf C j').1 = a))
def rO (C : Chp) (pt : Nat → Nat) (i j a : Nat) : Prop := ∃ i' j', Pr C i j i' j' ∧ pt i' ≠ pt j' ∧ (kPf C i').1 = a ∧ (kPf C j').1 = a
section RSO
variable {C : Chp} {pt : Nat → Nat} {i j a b : Nat}
theorem rS_step (h : i < j ∧ j < kPn C) : rSq C pt i (j + 1) a b ↔ rSq C pt i j a b ∨ (a < b ∧ pt i = pt j ∧ (((kPf C i).1 = a ∧ (kPf C j).1 = b) ∨ ((kPf C i).1 = b ∧ (kPf C j).1 = a))) := by
  constructor
  · rintro ⟨h1, i', j', ⟨h2, h3, h4⟩, h5, h6⟩
    by_cases l : i' = i ∧ j' = j
    · obtain ⟨rfl, rfl⟩ := l
      exact .inr ⟨h1, h5, h6⟩
    · exact .inl ⟨h1, i', j', ⟨by omega, h3, h4⟩, h5, h6⟩
  · rintro (⟨h1, i', j', ⟨h2, h3, h4⟩, h5, h6⟩ | ⟨h1, h5, h6⟩)
    · exact ⟨h1, i', j', ⟨by omega, h3, h4⟩, h5, h6⟩
    · exact ⟨h1, i, j, ⟨by omega, h.1, h.2⟩, h5, h6⟩
theorem rO_step (h : i < j ∧ j < kPn C) : rO C pt i (j + 1) a ↔ rO C pt i j a ∨ (pt i ≠ pt j ∧ (kPf C i).1 = a ∧ (kPf C j).1 = a) := by
  constructor
  · rintro ⟨i', j', ⟨h2, h3, h4⟩, h5, h6⟩
    by_cases l : i' = i ∧ j' = j
    · obtain ⟨rfl, rfl⟩ := l
      exact .inr ⟨h5, h6⟩
    · exact .inl ⟨i', j', ⟨by omega, h3, h4⟩, h5, h6⟩
  · rintro (⟨i', j', ⟨h2, h3, h4⟩, h5, h6⟩ | ⟨h5, h6⟩)
    · exact ⟨i', j', ⟨by omega, h3, h4⟩, h5, h6⟩
    · exact ⟨i, j, ⟨by omega, h.1, h.2⟩, h5, h6⟩
theorem Pr_next {i' j' : Nat} : Pr C i (kPn C) i' j' ↔ Pr C (i + 1) (i + 1 + 1) i' j' := by
  unfold Pr; constructor <;> (intro h; omega)
theorem rS_next : rSq C pt i (kPn C) a b ↔ rSq C pt (i + 1) (i + 1 + 1) a b := by
  unfold rSq
  constructor
  · rintro ⟨h1, i', j', h2, h3⟩; exact ⟨h1, i', j', Pr_next.1 h2, h3⟩
  · rintro ⟨h1, i', j', h2, h3⟩; exact ⟨h1, i', j', Pr_next.2 h2, h3⟩
theorem rO_next : rO C pt i (kPn C) a ↔ rO C pt (i + 1) (i + 1 + 1) a := by
  unfold rO
  constructor
  · rintro ⟨i', j', h2, h3⟩; exact ⟨i', j', Pr_next.1 h2, h3⟩
  · rintro ⟨i', j', h2, h3⟩; exact ⟨i', j', Pr_next.2 h2, h3⟩
theorem rS_end {m : Nat} : rSq C pt (kPn C) m a b ↔ tS C pt a b := by
  constructor
  · rintro ⟨h1, i', j', ⟨h2, h3, h4⟩, h5, h6 | h6⟩
    · exact ⟨h1, i', j', by omega, h4, h6.1, h6.2, h5⟩
    · exact ⟨h1, j', i', h4, by omega, h6.2, h6.1, h5.symm⟩
  · rintro ⟨h1, x, y, hx, hy, h2, h3, h4⟩
    have ne : x ≠ y := fun e => by rw [e, h3] at h2; omega
    by_cases l : x < y
    · exact ⟨h1, x, y, ⟨.inl hx, l, hy⟩, h4, .inl ⟨h2, h3⟩⟩
    · exact ⟨h1, y, x, ⟨.inl hy, by omega, hx⟩, h4.symm, .inr ⟨h3, h2⟩⟩
theorem rO_end {m : Nat} : rO C pt (kPn C) m a ↔ tO C pt a := by
  constructor
  · rintro ⟨i', j', ⟨h2, h3, h4⟩, h5, h6, h7⟩
    exact ⟨i', j', by omega, h4, h6, h7, h5⟩
  · rintro ⟨x, y, hx, hy, h2, h3, h4⟩
    have ne : x ≠ y := fun e => by rw [e] at h4; exact h4 rfl
    by_cases l : x < y
    · exact ⟨x, y, ⟨.inl hx, l, hy⟩, h4, h2, h3⟩
    · exact ⟨y, x, ⟨.inl hy, by omega, hx⟩, fun e => h4 e.symm, h3, h2⟩
end RSO
noncomputable def cS (R : Nat → Nat → Prop) : Nat := smN (fun a => smN (fun b => bo (R a b)) 256) 256
noncomputable def cO (O : Nat → Prop) : Nat := smN (fun a => bo (O a)) 256
theorem cS_le {R : Nat → Nat → Prop} : cS R ≤ 65536 := by
  have : smN (fun a => smN (fun b => bo (R a b)) 256) 256 ≤ 256 * 256 := smN_le (fun a _ => by
    have : smN (fun b => bo (R a b)) 256 ≤ 256 * 1 := smN_le (fun b _ => bo_le)
    omega)
  unfold cS; omega
theorem cO_le {O : Nat → Prop} : cO O ≤ 256 := by
  have : smN (fun a => bo (O a)) 256 ≤ 256 * 1 := smN_le (fun a _ => bo_le)
  unfold cO; omega
theorem cS_up {R : Nat → Nat → Prop} {x y : Nat} (hx : x < 256) (hy : y < 256) (no : ¬ R x y) : cS (fun a b => R a b ∨ (a = x ∧ b = y)) = cS R + 1 := by
  unfold cS
  refine smN_up hx ?_ (fun a ha ne => smN_cg (fun b _ => bo_cg ⟨fun g => g.elim id (fun g => absurd g.1 ne), .inl⟩))
  refine smN_up hy ?_ (fun b hb ne => bo_cg ⟨fun g => g.elim id (fun g => absurd g.2 ne), .inl⟩)
  rw [bo_t (.inr ⟨rfl, rfl⟩), bo_f no]
theorem cO_up {O : Nat → Prop} {x : Nat} (hx : x < 256) (no : ¬ O x) : cO (fun a => O a ∨ a = x) = cO O + 1 := by
  unfold cO
  refine smN_up hx ?_ (fun a ha ne => bo_cg ⟨fun g => g.elim id (fun g => absurd g ne), .inl⟩)
  rw [bo_t (.inr rfl), bo_f no]
theorem cS_fin {C : Chp} (w : WFC C) {pt : Nat → Nat} : cS (tS C pt) = nS2 C pt := by
  have ok := (kPins_ok w).1
  have hn := w.nums
  have nb : ∀ a b, kN C ≤ b → ¬ tS C pt a b := fun a b h g => by
    obtain ⟨g0, i, j, i1, j1, i2, j2, e⟩ := g
    have : (kPf C j).1 < kN C := (ok j j1).1
    omega
  unfold cS nS2
  rw [smN_tail (m := kN C) (by omega) (fun x h1 h2 => smN_0 (fun b _ => bo_f (fun g => by
    obtain ⟨g0, i, j, i1, j1, i2, j2, e⟩ := g
    have : (kPf C i).1 < kN C := (ok i i1).1
    omega)))]
  exact smN_cg (fun a _ => smN_tail (by omega) (fun b h1 h2 => bo_f (nb a b h1)))
theorem cO_fin {C : Chp} (w : WFC C) {pt : Nat → Nat} : cO (tO C pt) = nO2 C pt := by
  have ok := (kPins_ok w).1
  have hn := w.nums
  unfold cO nO2
  exact smN_tail (by omega) (fun x h1 h2 => bo_f (fun g => by
    obtain ⟨i, j, i1, j1, i2, j2, e⟩ := g
    have : (kPf C i).1 < kN C := (ok i i1).1
    omega))
/-- flags and counts -/
def TrI (S0 : Sto) (N : Nat) (f : Nat → Nat) (R : Nat → Nat → Prop) (O : Nat → Prop) (z : Sto) : Prop :=
  URt z 2149 N f ∧ Ch 2149 2151 S0 z ∧ (∀ a b, a < 256 → b < 256 → gI z 2150 (256 * a + b) = (bo (R a b) : Int)) ∧ ∀ a, a < 256 → gI z 2151 a = (bo (O a) : Int)
section TRI
variable {S0 z : Sto} {N : Nat} {f : Nat → Nat} {R : Nat → Nat → Prop} {O : Nat → Prop}
theorem TrI.cg {R' : Nat → Nat → Prop} {O' : Nat → Prop} (h : TrI S0 N f R O z) (h1 : ∀ a b, R a b ↔ R' a b) (h2 : ∀ a, O a ↔ O' a) : TrI S0 N f R' O' z ∧ cS R' = cS R ∧ cO O' = cO O := by
  have e1 : R = R' := funext (fun a => funext (fun b => propext (h1 a b)))
  have e2 : O = O' := funext (fun a => propext (h2 a))
  subst e1; subst e2
  exact ⟨h, rfl, rfl⟩
theorem TrI.ch {y : Sto} (h : TrI S0 N f R O z) (g : Ch 2149 2149 z y) (u : URt y 2149 N f) : TrI S0 N f R O y :=
  ⟨u, h.2.1.tr g (by omega) (by omega), fun a b ha hb => (g.1 _ _ (by omega)).trans (h.2.2.1 a b ha hb), fun a ha => (g.1 _ _ (by omega)).trans (h.2.2.2 a ha)⟩
theorem TrI.putS (h : TrI S0 N f R O z) {x y : Nat} (hx : x < 256) (hy : y < 256) : TrI S0 N f (fun a b => R a b ∨ (a = x ∧ b = y)) O (sI z 2150 (256 * x + y) 1) := by
  refine ⟨h.1.cg (fun i => hI_sI_a (by omega)), h.2.1.sI (by omega), fun a b ha hb => ?_, fun a ha => by rw [hI_sI_a (by omega)]; exact h.2.2.2 a ha⟩
  by_cases q : a = x ∧ b = y
  · obtain ⟨rfl, rfl⟩ := q
    rw [gI_set, w32_id (by omega), bo_t (.inr ⟨rfl, rfl⟩)]; rfl
  · rw [hI_sI_i (by omega), h.2.2.1 a b ha hb]
    exact congrArg _ (bo_cg ⟨.inl, fun g => g.elim id (fun g => absurd g q)⟩)
theorem TrI.putO (h : TrI S0 N f R O z) {x : Nat} (hx : x < 256) : TrI S0 N f R (fun a => O a ∨ a = x) (sI z 2151 x 1) := by
  refine ⟨h.1.cg (fun i => hI_sI_a (by omega)), h.2.1.sI (by omega), fun a b ha hb => by rw [hI_sI_a (by omega)]; exact h.2.2.1 a b ha hb, fun a ha => ?_⟩
  by_cases q : a = x
  · subst q
    rw [gI_set, w32_id (by omega), bo_t (.inr rfl)]; rfl
  · rw [hI_sI_i q, h.2.2.2 a ha]
    exact congrArg _ (bo_cg ⟨.inl, fun g => g.elim id (fun g => absurd g q)⟩)
end TRI
section MTROUBLES
variable {S S0 : Sto} {k : Nat} {C : Chp} {N : Nat} {f : Nat → Nat}
/-- the part of a pin -/
abbrev ptF (C : Chp) (f : Nat → Nat) (p : Nat) : Nat := f (kBx C + p)
theorem m_tr80 (w : WFC C) (hM : MPins S0 C (kPins C)) (hn : kBx C ≤ 2000) (hP : kPn C ≤ 640) (hN : N = kBx C + kPn C) {i : Nat} (hi : i < kPn C) {T : Sto} {u1 u2 : Int} (hT : TrI S0 N f (rSq C (ptF C f) i (i + 1)) (rO C (ptF C f) i (i + 1)) S) :
    WP (lpF (mX23_pinTroubles_L80 (kBx C : Int) (u1, u2, (i : Int), T)) ((cS (rSq C (ptF C f) i (i + 1)) : Int), (cO (rO C (ptF C f) i (i + 1)) : Int), (i : Int) + 1, S))
      (fun z => z.1 = (cS (rSq C (ptF C f) (i + 1) (i + 1 + 1)) : Int) ∧ z.2.1 = (cO (rO C (ptF C f) (i + 1) (i + 1 + 1)) : Int) ∧ TrI S0 N f (rSq C (ptF C f) (i + 1) (i + 1 + 1)) (rO C (ptF C f) (i + 1) (i + 1 + 1)) z.2.2) := by
  have ok := (kPins_ok w).1
  have nums := w.nums
  refine WP_cnt (kPn C - (i + 1)) (fun d z => z.2.2.1 = ((i + 1 + d : Nat) : Int) ∧ z.1 = (cS (rSq C (ptF C f) i (i + 1 + d)) : Int) ∧ z.2.1 = (cO (rO C (ptF C f) i (i + 1 + d)) : Int) ∧ TrI S0 N f (rSq C (ptF C f) i (i + 1 + d)) (rO C (ptF C f) i (i + 1 + d)) z.2.2.2) (by unfold cFU; omega) ⟨by show (i : Int) + 1 = _; omega, rfl, rfl, hT⟩ (fun d z hd hI => ?_) (fun z hI => ?_)
  · obtain ⟨z1, z2, z3, z4⟩ := z
    obtain ⟨b1, b2, b3, b4⟩ := hI
    dsimp only at b1 b2 b3 b4
    subst b1 b2 b3
    obtain ⟨j, hj⟩ : ∃ j, j = i + 1 + d := ⟨_, rfl⟩
    rw [show i + 1 + (d + 1) = j + 1 by omega]
    rw [← hj] at b4 ⊢
    have hc : gI z4 2000 159 = (kPn C : Int) := (b4.2.1.1 _ _ (by omega)).trans hM.1
    have ei : (kBx C : Int) + (i : Int) = ((kBx C + i : Nat) : Int) := by omega
    have ej : (kBx C : Int) + (j : Int) = ((kBx C + j : Nat) : Int) := by omega
    have st : i < j ∧ j < kPn C := by omega
    unfold mX23_pinTroubles_L80
    dsimp only
    rw [hc, w32_id (by omega), w32_id (by omega), if_pos (by omega), ei, ej]
    refine WP_call (m_partOf b4.1 (by omega) (show kBx C + i < N by omega)) (fun x10 h10 => ?_)
    obtain ⟨a1, a2, a3⟩ := h10
    refine WP_call (m_partOf a2 (by omega) (show kBx C + j < N by omega)) (fun x11 h11 => ?_)
    obtain ⟨c1, c2, c3⟩ := h11
    have t : TrI S0 N f (rSq C (ptF C f) i j) (rO C (ptF C f) i j) x11.2 := (b4.ch a3 a2).ch c3 c2
    have li := b4.1.le (x := kBx C + i) (by omega)
    have lj := b4.1.le (x := kBx C + j) (by omega)
    obtain ⟨A, hA⟩ : ∃ A, A = (kPf C i).1 := ⟨_, rfl⟩
    obtain ⟨B, hB⟩ : ∃ B, B = (kPf C j).1 := ⟨_, rfl⟩
    have nA : gI x11.2 2126 i = (A : Int) := by rw [hA]; exact (t.2.1.1 _ _ (by omega)).trans (hM.2 i hi).1
    have nB : gI x11.2 2126 j = (B : Int) := by rw [hB]; exact (t.2.1.1 _ _ (by omega)).trans (hM.2 j st.2).1
    have lA : A < 256 := by have : (kPf C i).1 < kN C := (ok i hi).1; omega
    have lB : B < 256 := by have : (kPf C j).1 < kN C := (ok j st.2).1; omega
    have sS : ∀ a b, rSq C (ptF C f) i (j + 1) a b ↔ rSq C (ptF C f) i j a b ∨ (a < b ∧ f (kBx C + i) = f (kBx C + j) ∧ ((A = a ∧ B = b) ∨ (A = b ∧ B = a))) := fun a b => by rw [rS_step st, ← hA, ← hB]
    have sO : ∀ a, rO C (ptF C f) i (j + 1) a ↔ rO C (ptF C f) i j a ∨ (f (kBx C + i) ≠ f (kBx C + j) ∧ A = a ∧ B = a) := fun a => by rw [rO_step st, ← hA, ← hB]
    obtain ⟨lo, hi', hlo⟩ : ∃ lo hi' : Nat, (A < B ∧ lo = A ∧ hi' = B) ∨ (¬ A < B ∧ lo = B ∧ hi' = A) := by
      by_cases q : A < B
      · exact ⟨A, B, .inl ⟨q, rfl, rfl⟩⟩
      · exact ⟨B, A, .inr ⟨q, rfl, rfl⟩⟩
    have e16 : (if (A : Int) < (B : Int) then rdI 700 x11.2 2126 (i : Int) fun v14 => some v14 else rdI 700 x11.2 2126 (j : Int) fun v15 => some v15) = some (lo : Int) := by
      by_cases q : A < B
      · rw [if_pos (by omega), rdI_e (by omega), Int.toNat_natCast, nA, show A = lo by omega]
      · rw [if_neg (by omega), rdI_e (by omega), Int.toNat_natCast, nB, show B = lo by omega]
    have e21 : (if (A : Int) < (B : Int) then rdI 700 x11.2 2126 (j : Int) fun v19 => some v19 else rdI 700 x11.2 2126 (i : Int) fun v20 => some v20) = some (hi' : Int) := by
      by_cases q : A < B
      · rw [if_pos (by omega), rdI_e (by omega), Int.toNat_natCast, nB, show B = hi' by omega]
      · rw [if_neg (by omega), rdI_e (by omega), Int.toNat_natCast, nA, show A = hi' by omega]
    have wi : w32 (f (kBx C + i) : Int) = (f (kBx C + i) : Int) := w32_id (by omega)
    have wj : w32 (f (kBx C + j) : Int) = (f (kBx C + j) : Int) := w32_id (by omega)
    have wlo : w32 (lo : Int) = (lo : Int) := w32_id (by omega)
    have whi : w32 (hi' : Int) = (hi' : Int) := w32_id (by omega)
    rw [rdI_e (by omega), Int.toNat_natCast, nA, rdI_e (by omega), Int.toNat_natCast, nB, w32_id (by omega), w32_id (by omega), e16, bX_some, rdI_e (by omega), Int.toNat_natCast, nA, rdI_e (by omega), Int.toNat_natCast, nB, w32_id (by omega), w32_id (by omega), e21, bX_some, a1, c1, wi, wj, wlo, whi]
    have fin : ∀ (R : Nat → Nat → Prop) (O : Nat → Prop) (y : Sto), TrI S0 N f R O y → (∀ a b, rSq C (ptF C f) i (j + 1) a b ↔ R a b) → (∀ a, rO C (ptF C f) i (j + 1) a ↔ O a) → ∀ v1 v2 : Int, v1 = (cS R : Int) → v2 = (cO O : Int) →
        WP (some (Sum.inl (v1, v2, (j : Int) + 1, y) : (Int × Int × Int × Sto) ⊕ (Int × Int × Sto))) (WE (fun z => z.2.2.1 = ((j + 1 : Nat) : Int) ∧ z.1 = (cS (rSq C (ptF C f) i (j + 1)) : Int) ∧ z.2.1 = (cO (rO C (ptF C f) i (j + 1)) : Int) ∧ TrI S0 N f (rSq C (ptF C f) i (j + 1)) (rO C (ptF C f) i (j + 1)) z.2.2.2) (fun z => z.1 = (cS (rSq C (ptF C f) (i + 1) (i + 1 + 1)) : Int) ∧ z.2.1 = (cO (rO C (ptF C f) (i + 1) (i + 1 + 1)) : Int) ∧ TrI S0 N f (rSq C (ptF C f) (i + 1) (i + 1 + 1)) (rO C (ptF C f) (i + 1) (i + 1 + 1)) z.2.2)) :=
      fun R O y ht h1 h2 v1 v2 g1 g2 => by
        obtain ⟨k1, k2, k3⟩ := ht.cg (fun a b => (h1 a b).symm) (fun a => (h2 a).symm)
        exact WP_some.2 ⟨by show (j : Int) + 1 = _; omega, by show v1 = _; rw [g1, k2], by show v2 = _; rw [g2, k3], k1⟩
    by_cases p : f (kBx C + i) = f (kBx C + j)
    · have p' : (f (kBx C + i) : Int) = (f (kBx C + j) : Int) := by omega
      have sO' : ∀ a, rO C (ptF C f) i (j + 1) a ↔ rO C (ptF C f) i j a := fun a => (sO a).trans ⟨fun g => g.elim id (fun g => absurd p g.1), .inl⟩
      rw [if_pos p', if_pos (by decide)]
      by_cases q : lo = hi'
      · have sS' : ∀ a b, rSq C (ptF C f) i (j + 1) a b ↔ rSq C (ptF C f) i j a b := fun a b => (sS a b).trans ⟨fun g => g.elim id (fun g => by omega), .inl⟩
        rw [if_neg (by omega), bX_some, if_neg (by decide), bX_some, if_neg (by decide), bX_some, if_neg (by decide), bX_some]
        exact fin _ _ _ t sS' sO' _ _ rfl rfl
      · have e12 : (256 * (lo : Int) + (hi' : Int)).toNat = 256 * lo + hi' := by omega
        have fl := t.2.2.1 lo hi' (by omega) (by omega)
        rw [if_pos (by omega), rdZ_e (by omega), e12, fl]
        by_cases m : rSq C (ptF C f) i j lo hi'
        · have sS' : ∀ a b, rSq C (ptF C f) i (j + 1) a b ↔ rSq C (ptF C f) i j a b := fun a b => (sS a b).trans ⟨fun g => g.elim id (fun g => by rw [show a = lo by omega, show b = hi' by omega]; exact m), .inl⟩
          rw [bo_t m, if_neg (by decide), bX_some, if_neg (by decide), bX_some, if_neg (by decide), bX_some, if_neg (by decide), bX_some]
          exact fin _ _ _ t sS' sO' _ _ rfl rfl
        · have sS' : ∀ a b, rSq C (ptF C f) i (j + 1) a b ↔ rSq C (ptF C f) i j a b ∨ (a = lo ∧ b = hi') := fun a b => (sS a b).trans ⟨fun g => g.elim .inl (fun g => .inr (by omega)), fun g => g.elim .inl (fun g => .inr ⟨by omega, p, by omega⟩)⟩
          rw [bo_f m, if_pos (by decide), bX_some, if_pos rfl, wrI_e (by omega), e12, bX_some, if_neg (by decide), bX_some, if_neg (by decide), bX_some]
          refine fin _ _ _ (t.putS (x := lo) (y := hi') (by omega) (by omega)) sS' sO' _ _ ?_ rfl
          rw [cS_up (by omega) (by omega) m]; omega
    · have p' : ¬ (f (kBx C + i) : Int) = (f (kBx C + j) : Int) := by omega
      have sS' : ∀ a b, rSq C (ptF C f) i (j + 1) a b ↔ rSq C (ptF C f) i j a b := fun a b => (sS a b).trans ⟨fun g => g.elim id (fun g => absurd g.2.1 p), .inl⟩
      rw [if_neg p', if_neg (by decide), bX_some, if_neg (by decide), bX_some, if_pos (by decide)]
      by_cases q : lo = hi'
      · have fl := t.2.2.2 lo (by omega)
        dsimp only
        rw [if_pos (by omega), rdZ_e (by omega), Int.toNat_natCast, fl]
        by_cases m : rO C (ptF C f) i j lo
        · have sO' : ∀ a, rO C (ptF C f) i (j + 1) a ↔ rO C (ptF C f) i j a := fun a => (sO a).trans ⟨fun g => g.elim id (fun g => by rw [show a = lo by omega]; exact m), .inl⟩
          rw [bo_t m, if_neg (by decide), bX_some, if_neg (by decide), bX_some]
          exact fin _ _ _ t sS' sO' _ _ rfl rfl
        · have sO' : ∀ a, rO C (ptF C f) i (j + 1) a ↔ rO C (ptF C f) i j a ∨ a = lo := fun a => (sO a).trans ⟨fun g => g.elim .inl (fun g => .inr (by omega)), fun g => g.elim .inl (fun g => .inr ⟨p, by omega, by omega⟩)⟩
          rw [bo_f m, if_pos (by decide), bX_some, if_pos rfl, wrI_e (by omega), Int.toNat_natCast, bX_some]
          refine fin _ _ _ (t.putO (x := lo) (by omega)) sS' sO' _ _ rfl ?_
          rw [cO_up (by omega) m]; omega
      · have sO' : ∀ a, rO C (ptF C f) i (j + 1) a ↔ rO C (ptF C f) i j a := fun a => (sO a).trans ⟨fun g => g.elim id (fun g => by omega), .inl⟩
        rw [if_neg (by omega), bX_some, if_neg (by decide), bX_some]
        exact fin _ _ _ t sS' sO' _ _ rfl rfl
  · obtain ⟨z1, z2, z3, z4⟩ := z
    obtain ⟨b1, b2, b3, b4⟩ := hI
    dsimp only at b1 b2 b3 b4
    subst b1 b2 b3
    have hc : gI z4 2000 159 = (kPn C : Int) := (b4.2.1.1 _ _ (by omega)).trans hM.1
    unfold mX23_pinTroubles_L80
    dsimp only
    rw [hc, w32_id (by omega), w32_id (by omega), if_neg (by omega)]
    rw [show i + 1 + (kPn C - (i + 1)) = kPn C by omega] at b4 ⊢
    obtain ⟨k1, k2, k3⟩ := b4.cg (fun a b => rS_next) (fun a => rO_next)
    exact WP_some.2 ⟨by show _ = _; rw [k2], by show _ = _; rw [k3], k1⟩
theorem m_troubles (w : WFC C) (h : MBx S k C) (hk : k < 4) (hB : C 23 0 = (kBx C : Int)) (hM : MPins S C (kPins C)) (hn : kBx C ≤ 2000) (hP : kPn C ≤ 640) (hN : N = kBx C + kPn C) (hf : URt S 2149 N f) {p2 : Int} (h2 : 0 ≤ p2 ∧ p2 < 3) :
    WP (mX23_pinTroubles S (k : Int) p2) (fun z => z.1 = (if p2 = 1 then (nS2 C (ptF C f) : Int) else if p2 = 2 then (nO2 C (ptF C f) : Int) else (nS2 C (ptF C f) : Int) + (nO2 C (ptF C f) : Int))) := by
  unfold mX23_pinTroubles
  rw [rdI_e (by omega), Int.toNat_natCast, h.1, hB]
  refine WP_call (R := fun z => Ch 2150 2150 S z ∧ ∀ x, x < 65536 → gI z 2150 x = 0) ?_ (fun y4 h4 => ?_)
  · refine WP_cnt 65536 (fun i z => z.1 = (i : Int) ∧ Ch 2150 2150 S z.2 ∧ ∀ x, x < i → gI z.2 2150 x = 0) (by unfold cFU; omega) ⟨rfl, Ch.refl, fun x hx => absurd hx (by omega)⟩ (fun i z hi hI => ?_) (fun z hI => ?_)
    · obtain ⟨z1, z2⟩ := z
      obtain ⟨b1, b2, b3⟩ := hI
      dsimp only at b1 b2 b3
      subst b1
      unfold mX23_pinTroubles_L10
      dsimp only
      rw [w32_id (by omega), if_pos (by omega), wrI_e (by omega), Int.toNat_natCast]
      refine WP_some.2 ⟨by show (i : Int) + 1 = _; omega, b2.sI (by omega), fun x hx => ?_⟩
      by_cases q : x = i
      · subst q
        show gI (sI z2 2150 x 0) 2150 x = _
        rw [gI_set, w32_id (by omega)]
      · show gI (sI z2 2150 i 0) 2150 x = _
        rw [hI_sI_i q]; exact b3 x (by omega)
    · obtain ⟨z1, z2⟩ := z
      obtain ⟨b1, b2, b3⟩ := hI
      dsimp only at b1 b2 b3
      subst b1
      unfold mX23_pinTroubles_L10
      dsimp only
      rw [w32_id (by omega), if_neg (by omega)]
      exact WP_some.2 ⟨b2, b3⟩
  obtain ⟨c4, v4⟩ := h4
  refine WP_call (R := fun z => Ch 2149 2151 S z ∧ (∀ x, x < 65536 → gI z 2150 x = 0) ∧ (∀ i, gI z 2149 i = gI S 2149 i) ∧ ∀ x, x < 256 → gI z 2151 x = 0) ?_ (fun y7 h7 => ?_)
  · refine WP_cnt 256 (fun i z => z.1 = (i : Int) ∧ Ch 2151 2151 y4 z.2 ∧ ∀ x, x < i → gI z.2 2151 x = 0) (by unfold cFU; omega) ⟨rfl, Ch.refl, fun x hx => absurd hx (by omega)⟩ (fun i z hi hI => ?_) (fun z hI => ?_)
    · obtain ⟨z1, z2⟩ := z
      obtain ⟨b1, b2, b3⟩ := hI
      dsimp only at b1 b2 b3
      subst b1
      unfold mX23_pinTroubles_L34
      dsimp only
      rw [w32_id (by omega), if_pos (by omega), wrI_e (by omega), Int.toNat_natCast]
      refine WP_some.2 ⟨by show (i : Int) + 1 = _; omega, b2.sI (by omega), fun x hx => ?_⟩
      by_cases q : x = i
      · subst q
        show gI (sI z2 2151 x 0) 2151 x = _
        rw [gI_set, w32_id (by omega)]
      · show gI (sI z2 2151 i 0) 2151 x = _
        rw [hI_sI_i q]; exact b3 x (by omega)
    · obtain ⟨z1, z2⟩ := z
      obtain ⟨b1, b2, b3⟩ := hI
      dsimp only at b1 b2 b3
      subst b1
      unfold mX23_pinTroubles_L34
      dsimp only
      rw [w32_id (by omega), if_neg (by omega)]
      exact WP_some.2 ⟨((Ch.refl (lo := 2149) (hi := 2151)).tr c4 (by omega) (by omega)).tr b2 (by omega) (by omega), fun x hx => (b2.1 _ _ (by omega)).trans (v4 x hx), fun i => (b2.1 _ _ (by omega)).trans (c4.1 _ _ (by omega)), b3⟩
  obtain ⟨c7, v7, e7, o7⟩ := h7
  have t0 : TrI S N f (rSq C (ptF C f) 0 (0 + 1)) (rO C (ptF C f) 0 (0 + 1)) y7 := by
    refine ⟨hf.cg e7, c7, fun a b ha hb => ?_, fun a ha => ?_⟩
    · rw [v7 _ (by omega), bo_f (fun ⟨_, i', j', ⟨g1, g2, g3⟩, _⟩ => by omega)]; rfl
    · rw [o7 _ ha, bo_f (fun ⟨i', j', ⟨g1, g2, g3⟩, _⟩ => by omega)]; rfl
  have z0 : cS (rSq C (ptF C f) 0 (0 + 1)) = 0 := smN_0 (fun a _ => smN_0 (fun b _ => bo_f (fun ⟨_, i', j', ⟨g1, g2, g3⟩, _⟩ => by omega)))
  have z1 : cO (rO C (ptF C f) 0 (0 + 1)) = 0 := smN_0 (fun a _ => bo_f (fun ⟨i', j', ⟨g1, g2, g3⟩, _⟩ => by omega))
  refine WP_call (R := fun z => z.1 = (nS2 C (ptF C f) : Int) ∧ z.2.1 = (nO2 C (ptF C f) : Int)) ?_ (fun y hy => ?_)
  · refine WP_cnt (kPn C) (fun i z => z.2.2.1 = (i : Int) ∧ z.1 = (cS (rSq C (ptF C f) i (i + 1)) : Int) ∧ z.2.1 = (cO (rO C (ptF C f) i (i + 1)) : Int) ∧ TrI S N f (rSq C (ptF C f) i (i + 1)) (rO C (ptF C f) i (i + 1)) z.2.2.2) (by unfold cFU; omega) ⟨rfl, by rw [z0]; rfl, by rw [z1]; rfl, t0⟩ (fun i z hi hI => ?_) (fun z hI => ?_)
    · obtain ⟨z1, z2, z3, z4⟩ := z
      obtain ⟨b1, b2, b3, b4⟩ := hI
      dsimp only at b1 b2 b3 b4
      subst b1 b2 b3
      have hc : gI z4 2000 159 = (kPn C : Int) := (b4.2.1.1 _ _ (by omega)).trans hM.1
      unfold mX23_pinTroubles_L65
      dsimp only
      rw [hc, w32_id (by omega), w32_id (by omega), if_pos (by omega)]
      refine WP_call (m_tr80 w hM hn hP hN hi b4) (fun x hx => WP_some.2 ?_)
      exact ⟨by show (i : Int) + 1 = _; omega, hx.1, hx.2.1, hx.2.2⟩
    · obtain ⟨z1, z2, z3, z4⟩ := z
      obtain ⟨b1, b2, b3, b4⟩ := hI
      dsimp only at b1 b2 b3 b4
      subst b1 b2 b3
      have hc : gI z4 2000 159 = (kPn C : Int) := (b4.2.1.1 _ _ (by omega)).trans hM.1
      have k1 : cS (rSq C (ptF C f) (kPn C) (kPn C + 1)) = nS2 C (ptF C f) := by
        rw [← cS_fin w]
        exact congrArg cS (funext (fun a => funext (fun b => propext rS_end)))
      have k2 : cO (rO C (ptF C f) (kPn C) (kPn C + 1)) = nO2 C (ptF C f) := by
        rw [← cO_fin w]
        exact congrArg cO (funext (fun a => propext rO_end))
      unfold mX23_pinTroubles_L65
      dsimp only
      rw [hc, w32_id (by omega), if_neg (by omega)]
      exact WP_some.2 ⟨by show _ = _; rw [k1], by show _ = _; rw [k2]⟩
  obtain ⟨y1, y2⟩ := hy
  rw [y1, y2, w32_id (by omega)]
  by_cases q1 : p2 = 1
  · rw [if_pos q1, if_pos q1, bX_some]; exact WP_some.2 rfl
  · rw [if_neg q1, if_neg q1]
    by_cases q2 : p2 = 2
    · rw [if_pos q2, if_pos q2, bX_some]; exact WP_some.2 rfl
    · rw [if_neg q2, if_neg q2, bX_some]; exact WP_some.2 rfl
end MTROUBLES
