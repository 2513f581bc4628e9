/-! expressions of a cell: what they mean, as a relation over the tokens -/
abbrev Lx : Type := Nat ⊕ ((Nat × Int) ⊕ (Bool ⊕ Unit))
abbrev lxE (r : Nat) : Lx := .inl r
abbrev lxL (r : Nat) (v : Int) : Lx := .inr (.inl (r, v))
abbrev lxN (b : Bool) : Lx := .inr (.inr (.inl b))
abbrev lxP : Lx := .inr (.inr (.inr ()))
def sbL (r : Nat) : Lx := if r = 3 then lxN false else lxE (r + 1)
/-- the sign of a level: 1 or, 2 xor, 3 and -/
def opc (r : Nat) : Int := if r = 1 then 124 else if r = 2 then 94 else 38
def cmb (r : Nat) (v w : Int) : Int := if r = 1 then aOr v w else if r = 2 then aXor v w else aAnd v w
def trnB (par : Bool) (v : Int) : Int := if par = true then aXor v 255 else v
def vlI (i : Nat) : Int := ([170, 204, 240] : List Int).getD i 0
abbrev Rsv : Type := (Nat × Int) ⊕ (Int × Int)
def rsQ (q : Qq) (v : Int) : Rsv := match q with | .inl j => .inl (j, v) | .inr f => .inr f
def flV (u : Nat → Int) (n : Nat) (c : Int) (j : Nat) : Rsv := .inr (c, (tkB u n j : Int))
/-- the rules of meaning -/
def LEc (u : Nat → Int) (n : Nat) (ps : List Nat) (R : Lx → Nat → Nat → Rsv → Prop) : Prop :=
  (∀ r j o f, R (sbL r) j o (.inr f) → R (lxE r) j o (.inr f)) ∧
  (∀ r j o j1 v res, R (sbL r) j o (.inl (j1, v)) → R (lxL r v) j1 o res → R (lxE r) j o res) ∧
  (∀ r v j o, isS u n (opc r) j = false → R (lxL r v) j o (.inl (j, v))) ∧
  (∀ r v j o f, isS u n (opc r) j = true → nxT u n j = .inr f → R (lxL r v) j o (.inr f)) ∧
  (∀ r v j o j1 f, isS u n (opc r) j = true → nxT u n j = .inl j1 → R (sbL r) j1 o (.inr f) → R (lxL r v) j o (.inr f)) ∧
  (∀ r v j o j1 j2 w res, isS u n (opc r) j = true → nxT u n j = .inl j1 → R (sbL r) j1 o (.inl (j2, w)) → R (lxL r (cmb r v w)) j2 o res → R (lxL r v) j o res) ∧
  (∀ par j o f, isS u n 33 j = true → nxT u n j = .inr f → R (lxN par) j o (.inr f)) ∧
  (∀ par j o j1 res, isS u n 33 j = true → nxT u n j = .inl j1 → R (lxN (!par)) j1 o res → R (lxN par) j o res) ∧
  (∀ par j o j1 v, isS u n 33 j = false → R lxP j o (.inl (j1, v)) → R (lxN par) j o (.inl (j1, trnB par v))) ∧
  (∀ par j o f, isS u n 33 j = false → R lxP j o (.inr f) → R (lxN par) j o (.inr f)) ∧
  (∀ j o, isS u n 40 j = true → o = 60 → R lxP j o (flV u n 3 j)) ∧
  (∀ j o f, isS u n 40 j = true → o ≠ 60 → nxT u n j = .inr f → R lxP j o (.inr f)) ∧
  (∀ j o j1 f, isS u n 40 j = true → o ≠ 60 → nxT u n j = .inl j1 → R (lxE 1) j1 (o + 1) (.inr f) → R lxP j o (.inr f)) ∧
  (∀ j o j1 j2 v, isS u n 40 j = true → o ≠ 60 → nxT u n j = .inl j1 → R (lxE 1) j1 (o + 1) (.inl (j2, v)) → R lxP j o (rsQ (tkT u n 41 (.inl j2)) v)) ∧
  (∀ j o, isS u n 40 j = false → tkK u n j ≠ 1 → R lxP j o (flV u n 2 j)) ∧
  (∀ j o, isS u n 40 j = false → tkK u n j = 1 → inNm u n ps j = false → R lxP j o (flV u n 11 j)) ∧
  (∀ j o i, isS u n 40 j = false → tkK u n j = 1 → i < ps.length → smNm u n (ps.getD i 0) j → R lxP j o (rsQ (nxT u n j) (vlI i)))
def LE (u : Nat → Int) (n : Nat) (ps : List Nat) (lx : Lx) (j o : Nat) (res : Rsv) : Prop := ∀ R, LEc u n ps R → R lx j o res
section LEK
variable {u : Nat → Int} {n : Nat} {ps : List Nat} {r j o j1 j2 i : Nat} {v w : Int} {f : Int × Int} {par : Bool} {res : Rsv}
theorem LE.ef (h : LE u n ps (sbL r) j o (.inr f)) : LE u n ps (lxE r) j o (.inr f) := fun R c => c.1 _ _ _ _ (h R c)
theorem LE.el (h : LE u n ps (sbL r) j o (.inl (j1, v))) (g : LE u n ps (lxL r v) j1 o res) : LE u n ps (lxE r) j o res := fun R c => c.2.1 _ _ _ _ _ _ (h R c) (g R c)
theorem LE.ls (h : isS u n (opc r) j = false) : LE u n ps (lxL r v) j o (.inl (j, v)) := fun R c => c.2.2.1 _ _ _ _ h
theorem LE.lf (h : isS u n (opc r) j = true) (g : nxT u n j = .inr f) : LE u n ps (lxL r v) j o (.inr f) := fun R c => c.2.2.2.1 _ _ _ _ _ h g
theorem LE.lg (h : isS u n (opc r) j = true) (g : nxT u n j = .inl j1) (k : LE u n ps (sbL r) j1 o (.inr f)) : LE u n ps (lxL r v) j o (.inr f) := fun R c => c.2.2.2.2.1 _ _ _ _ _ _ h g (k R c)
theorem LE.lc (h : isS u n (opc r) j = true) (g : nxT u n j = .inl j1) (k : LE u n ps (sbL r) j1 o (.inl (j2, w))) (l : LE u n ps (lxL r (cmb r v w)) j2 o res) : LE u n ps (lxL r v) j o res := fun R c => c.2.2.2.2.2.1 _ _ _ _ _ _ _ _ h g (k R c) (l R c)
theorem LE.nf (h : isS u n 33 j = true) (g : nxT u n j = .inr f) : LE u n ps (lxN par) j o (.inr f) := fun R c => c.2.2.2.2.2.2.1 _ _ _ _ h g
theorem LE.nc (h : isS u n 33 j = true) (g : nxT u n j = .inl j1) (k : LE u n ps (lxN (!par)) j1 o res) : LE u n ps (lxN par) j o res := fun R c => c.2.2.2.2.2.2.2.1 _ _ _ _ _ h g (k R c)
theorem LE.np (h : isS u n 33 j = false) (k : LE u n ps lxP j o (.inl (j1, v))) : LE u n ps (lxN par) j o (.inl (j1, trnB par v)) := fun R c => c.2.2.2.2.2.2.2.2.1 _ _ _ _ _ h (k R c)
theorem LE.ng (h : isS u n 33 j = false) (k : LE u n ps lxP j o (.inr f)) : LE u n ps (lxN par) j o (.inr f) := fun R c => c.2.2.2.2.2.2.2.2.2.1 _ _ _ _ h (k R c)
theorem LE.po (h : isS u n 40 j = true) (g : o = 60) : LE u n ps lxP j o (flV u n 3 j) := fun R c => c.2.2.2.2.2.2.2.2.2.2.1 _ _ h g
theorem LE.pf (h : isS u n 40 j = true) (g : o ≠ 60) (k : nxT u n j = .inr f) : LE u n ps lxP j o (.inr f) := fun R c => c.2.2.2.2.2.2.2.2.2.2.2.1 _ _ _ h g k
theorem LE.pg (h : isS u n 40 j = true) (g : o ≠ 60) (k : nxT u n j = .inl j1) (l : LE u n ps (lxE 1) j1 (o + 1) (.inr f)) : LE u n ps lxP j o (.inr f) := fun R c => c.2.2.2.2.2.2.2.2.2.2.2.2.1 _ _ _ _ h g k (l R c)
theorem LE.pc (h : isS u n 40 j = true) (g : o ≠ 60) (k : nxT u n j = .inl j1) (l : LE u n ps (lxE 1) j1 (o + 1) (.inl (j2, v))) : LE u n ps lxP j o (rsQ (tkT u n 41 (.inl j2)) v) := fun R c => c.2.2.2.2.2.2.2.2.2.2.2.2.2.1 _ _ _ _ _ h g k (l R c)
theorem LE.pn (h : isS u n 40 j = false) (g : tkK u n j ≠ 1) : LE u n ps lxP j o (flV u n 2 j) := fun R c => c.2.2.2.2.2.2.2.2.2.2.2.2.2.2.1 _ _ h g
theorem LE.pm (h : isS u n 40 j = false) (g : tkK u n j = 1) (k : inNm u n ps j = false) : LE u n ps lxP j o (flV u n 11 j) := fun R c => c.2.2.2.2.2.2.2.2.2.2.2.2.2.2.2.1 _ _ h g k
theorem LE.pk (h : isS u n 40 j = false) (g : tkK u n j = 1) (k : i < ps.length) (l : smNm u n (ps.getD i 0) j) : LE u n ps lxP j o (rsQ (nxT u n j) (vlI i)) := fun R c => c.2.2.2.2.2.2.2.2.2.2.2.2.2.2.2.2 _ _ _ h g k l
end LEK
section LEX2
variable {u : Nat → Int} {n N : Nat} {ps : List Nat}
theorem nxT_inl {j j1 : Nat} (h : nxT u n j = .inl j1) : j1 = j + 1 := by
  unfold nxT at h; split at h
  · cases h
  · injection h with h; exact h.symm
theorem isS_K {c : Int} {j : Nat} (h : isS u n c j = true) : tkK u n j = 3 := (of_decide_eq_true h).1
theorem tkT_inl {c : Int} {j j1 : Nat} (h : tkT u n c (.inl j) = .inl j1) : isS u n c j = true ∧ j1 = j + 1 := by
  unfold tkT bq flT at h
  dsimp only at h
  split at h
  · rename_i g; exact ⟨g, nxT_inl h⟩
  · cases h
theorem tkB_mono {i j : Nat} (h : i ≤ j) : tkB u n i ≤ tkB u n j := by
  induction j with
  | zero => rw [show i = 0 by omega]; exact Nat.le_refl _
  | succ j ih =>
    by_cases e : i = j + 1
    · rw [e]; exact Nat.le_refl _
    · have := ih (by omega)
      have h2 := tkB_le (u := u) (n := n) j
      have h3 := tkE_le (u := u) (n := n) j
      have h4 := (skE_rng (u := u) h3.2).1
      have h5 : tkB u n (j + 1) = skE u n (tkE u n j) := rfl
      omega
theorem tkB_slt {i j : Nat} (hi : tkB u n i < n) (h : i < j) : tkB u n i < tkB u n j := by
  have := tkB_lt hi
  have := tkB_mono (u := u) (n := n) (show i + 1 ≤ j by omega)
  omega
theorem sbL_ne : ∀ r r' w, sbL r ≠ lxL r' w := fun r r' w e => by
  unfold sbL at e
  split at e
  · cases e
  · cases e
/-- where an expression ends -/
theorem LE.le {lx : Lx} {j o : Nat} {res : Rsv} (hL : LstT u n N) (h : LE u n ps lx j o res) : j ≤ N → ∀ j' v, res = .inl (j', v) → j ≤ j' ∧ j' ≤ N ∧ ((∀ r w, lx ≠ lxL r w) → j < j') := by
  have k3 : ∀ {c : Int} {j : Nat}, isS u n c j = true → j ≤ N → j < N := fun h g => hL.le (by rw [isS_K h]; decide) g
  have k1 : ∀ {j : Nat}, tkK u n j = 1 → j ≤ N → j < N := fun h g => hL.le (by rw [h]; decide) g
  refine h (fun lx j _ res => j ≤ N → ∀ j' v, res = .inl (j', v) → j ≤ j' ∧ j' ≤ N ∧ ((∀ r w, lx ≠ lxL r w) → j < j')) ⟨?_, ?_, ?_, ?_, ?_, ?_, ?_, ?_, ?_, ?_, ?_, ?_, ?_, ?_, ?_, ?_, ?_⟩
  · intro r j o f _ _ j' v e; cases e
  · intro r j o j1 v res a b g j' v' e
    obtain ⟨a1, a2, a3⟩ := a g _ _ rfl
    obtain ⟨b1, b2, _⟩ := b a2 _ _ e
    have := a3 (sbL_ne r)
    exact ⟨by omega, b2, fun _ => by omega⟩
  · intro r v j o _ g j' v' e; injection e with e; injection e with e1 e2; subst e1; exact ⟨Nat.le_refl _, g, fun q => absurd rfl (q _ _)⟩
  · intro r v j o f _ _ _ j' v' e; cases e
  · intro r v j o j1 f _ _ _ _ j' v' e; cases e
  · intro r v j o j1 j2 w res h1 h2 a b g j' v' e
    have := nxT_inl h2
    have := k3 h1 g
    obtain ⟨a1, a2, a3⟩ := a (by omega) _ _ rfl
    obtain ⟨b1, b2, _⟩ := b a2 _ _ e
    exact ⟨by omega, b2, fun q => absurd rfl (q _ _)⟩
  · intro par j o f _ _ _ j' v e; cases e
  · intro par j o j1 res h1 h2 a g j' v e
    have := nxT_inl h2
    have := k3 h1 g
    obtain ⟨a1, a2, a3⟩ := a (by omega) _ _ e
    exact ⟨by omega, a2, fun _ => by omega⟩
  · intro par j o j1 v _ a g j' v' e
    injection e with e; injection e with e1 e2; subst e1
    obtain ⟨a1, a2, a3⟩ := a g _ _ rfl
    exact ⟨a1, a2, fun _ => a3 (fun _ _ q => by cases q)⟩
  · intro par j o f _ _ _ j' v e; cases e
  · intro j o _ _ _ j' v e; cases e
  · intro j o f _ _ _ _ j' v e; cases e
  · intro j o j1 f _ _ _ _ _ j' v e; cases e
  · intro j o j1 j2 v h1 _ h2 a g j' v' e
    have := nxT_inl h2
    have := k3 h1 g
    obtain ⟨a1, a2, a3⟩ := a (by omega) _ _ rfl
    unfold rsQ at e
    split at e
    · rename_i q hq
      injection e with e; injection e with e1 e2; subst e1
      obtain ⟨c1, c2⟩ := tkT_inl hq
      have := k3 c1 a2
      exact ⟨by omega, by omega, fun _ => by omega⟩
    · cases e
  · intro j o _ _ _ j' v e; cases e
  · intro j o _ _ _ _ j' v e; cases e
  · intro j o i h1 h2 _ _ g j' v e
    unfold rsQ at e
    split at e
    · rename_i q hq
      injection e with e; injection e with e1 e2; subst e1
      have := nxT_inl hq
      have := k1 h2 g
      exact ⟨by omega, by omega, fun _ => by omega⟩
    · cases e
theorem cmb_rng {r : Nat} {v w : Int} (hv : 0 ≤ v ∧ v < 256) (hw : 0 ≤ w ∧ w < 256) : 0 ≤ cmb r v w ∧ cmb r v w < 256 := by
  obtain ⟨a, rfl⟩ := Int.eq_ofNat_of_zero_le hv.1
  obtain ⟨b, rfl⟩ := Int.eq_ofNat_of_zero_le hw.1
  have ha : a < 2 ^ 8 := by omega
  have hb : b < 2 ^ 8 := by omega
  have h1 := Nat.or_lt_two_pow ha hb
  have h2 := Nat.xor_lt_two_pow ha hb
  have h3 := Nat.and_lt_two_pow a hb
  unfold cmb
  split
  · rw [aOr_nat (by omega) (by omega)]; omega
  · split
    · rw [aXor_nat (by omega) (by omega)]; omega
    · rw [aAnd_nat (by omega) (by omega)]; omega
theorem trnB_rng {par : Bool} {v : Int} (hv : 0 ≤ v ∧ v < 256) : 0 ≤ trnB par v ∧ trnB par v < 256 := by
  obtain ⟨a, rfl⟩ := Int.eq_ofNat_of_zero_le hv.1
  unfold trnB
  split
  · have ha : a < 2 ^ 8 := by omega
    have h2 := Nat.xor_lt_two_pow ha (show 255 < 2 ^ 8 by decide)
    have e := aXor_nat (a := a) (b := 255) (by omega) (by omega)
    rw [show (255 : Int) = ((255 : Nat) : Int) from rfl, e]; omega
  · omega
theorem vlI_rng (i : Nat) : 0 ≤ vlI i ∧ vlI i < 256 := by
  unfold vlI
  rcases i with _ | _ | _ | i
  · decide
  · decide
  · decide
  · show 0 ≤ (0 : Int) ∧ (0 : Int) < 256; decide
theorem LE.rng {lx : Lx} {j o : Nat} {res : Rsv} (h : LE u n ps lx j o res) : (∀ r w, lx = lxL r w → 0 ≤ w ∧ w < 256) → ∀ j' v, res = .inl (j', v) → 0 ≤ v ∧ v < 256 := by
  have hs : ∀ r, ∀ r' w, sbL r = lxL r' w → 0 ≤ w ∧ w < 256 := fun r r' w e => absurd e (sbL_ne r r' w)
  refine h (fun lx _ _ res => (∀ r w, lx = lxL r w → 0 ≤ w ∧ w < 256) → ∀ j' v, res = .inl (j', v) → 0 ≤ v ∧ v < 256) ⟨?_, ?_, ?_, ?_, ?_, ?_, ?_, ?_, ?_, ?_, ?_, ?_, ?_, ?_, ?_, ?_, ?_⟩
  · intro r j o f _ _ j' v e; cases e
  · intro r j o j1 v res a b g j' v' e
    have := a (hs _) _ _ rfl
    exact b (fun r w q => by injection q with q; injection q with q; injection q with q1 q2; subst q2; exact this) _ _ e
  · intro r v j o _ g j' v' e; injection e with e; injection e with e1 e2; subst e2; exact g _ _ rfl
  · intro r v j o f _ _ _ j' v' e; cases e
  · intro r v j o j1 f _ _ _ _ j' v' e; cases e
  · intro r v j o j1 j2 w res h1 h2 a b g j' v' e
    have h1 := a (hs _) _ _ rfl
    have h2 := g _ _ rfl
    exact b (fun r w q => by injection q with q; injection q with q; injection q with q1 q2; subst q2; exact cmb_rng h2 h1) _ _ e
  · intro par j o f _ _ _ j' v e; cases e
  · intro par j o j1 res h1 h2 a g j' v e; exact a (fun _ _ q => by cases q) _ _ e
  · intro par j o j1 v _ a g j' v' e
    injection e with e; injection e with e1 e2; subst e2
    exact trnB_rng (a (fun _ _ q => by cases q) _ _ rfl)
  · intro par j o f _ _ _ j' v e; cases e
  · intro j o _ _ _ j' v e; cases e
  · intro j o f _ _ _ _ j' v e; cases e
  · intro j o j1 f _ _ _ _ _ j' v e; cases e
  · intro j o j1 j2 v h1 _ h2 a g j' v' e
    have := a (fun _ _ q => by cases q) _ _ rfl
    unfold rsQ at e
    split at e
    · injection e with e; injection e with e1 e2; subst e2; exact this
    · cases e
  · intro j o _ _ _ j' v e; cases e
  · intro j o _ _ _ _ j' v e; cases e
  · intro j o i h1 h2 _ _ g j' v e
    unfold rsQ at e
    split at e
    · injection e with e; injection e with e1 e2; subst e2; exact vlI_rng _
    · cases e
end LEX2
