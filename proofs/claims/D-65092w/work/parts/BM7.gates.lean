/-! the gates in their order: what both programs make -/
abbrev MkS := List (Int × Int × Int × Int) × (Nat → Nat → Int)
def mkA (G : Dsg) (s : MkS) (n k : Nat) (g : Int × Int × Int × Int) : MkS := (s.1 ++ [g], fun a b => if a = n ∧ b = k then (gFi G : Int) - 1 + (s.1.length : Int) else s.2 a b)
/-- the net of an input, -1 if not there yet -/
noncomputable def inN (G : Dsg) (s : MkS) (x t : Nat) : Int := cG (InG G x) (s.2 x t) (if t = 0 then (if gFi G ≤ x then s.2 x 0 else (x : Int) - 1) else s.2 x 2)
noncomputable def inK (G : Dsg) (x t : Nat) : Nat := cG (InG G x) t (if t = 0 then 0 else 2)
def hasK (G : Dsg) (x t : Nat) : Prop := gFi G ≤ x ∨ t ≠ 0
noncomputable def mkI (G : Dsg) (run : Nat → Nat → MkS → MkS) (l : List Nat) (tu : Nat) (s : MkS) : Nat → MkS
  | 0 => s
  | i + 1 => cG (hasK G (l.getD i 0) (bitN tu i)) (run (l.getD i 0) (inK G (l.getD i 0) (bitN tu i)) (mkI G run l tu s i)) (mkI G run l tu s i)
noncomputable def inX (G : Dsg) (s : MkS) (l : List Nat) (tu i : Nat) : Int := if i < l.length then inN G s (l.getD i 0) (bitN tu i) else -1
noncomputable def mkF (G : Dsg) (B : Lib) (run : Nat → Nat → MkS → MkS) (n k : Nat) (s : MkS) : MkS :=
  if s.2 n k ≠ -1 then s
  else if k = 2 then mkA G (if gFi G ≤ n then run n 0 s else s) n 2 (lInv B, (if gFi G ≤ n then (run n 0 s).2 n 0 else (n : Int) - 1), -1, -1)
  else cG (trn G B n k) (mkA G (run n (1 - k) s) n k (lInv B, (run n (1 - k) s).2 n (1 - k), -1, -1))
    (match WW G B n k with
      | none => s
      | some y => mkA G (mkI G run y.2.2.2 y.2.2.1 s y.2.2.2.length) n k ((y.2.1 : Int), inX G (mkI G run y.2.2.2 y.2.2.1 s y.2.2.2.length) y.2.2.2 y.2.2.1 0, inX G (mkI G run y.2.2.2 y.2.2.1 s y.2.2.2.length) y.2.2.2 y.2.2.1 1, inX G (mkI G run y.2.2.2 y.2.2.1 s y.2.2.2.length) y.2.2.2 y.2.2.1 2))
noncomputable def mkR (G : Dsg) (B : Lib) : Nat → Nat → Nat → MkS → MkS
  | 0 => fun _ _ s => s
  | f + 1 => mkF G B (mkR G B f)
noncomputable def rkK (G : Dsg) (B : Lib) (n k : Nat) : Nat := 4 * n + (if k = 2 then 2 else bo (trn G B n k))
/-- every root can be made -/
def rOK (G : Dsg) (B : Lib) : Prop := ∀ n, AndG G n → Rt G n → ndR G B n 0 ≠ none
/-- what may be asked for -/
def GdK (G : Dsg) (B : Lib) (n k : Nat) : Prop := (k < 2 ∧ AndG G n ∧ (InG G n ∨ k = 0 ∨ trn G B n 0) ∧ ndR G B n k ≠ none) ∨ (k = 2 ∧ WdG G n ∧ ¬ InG G n)
/-- a state: nets are what gates give -/
def MkV (G : Dsg) (s : MkS) : Prop := ∀ n k, s.2 n k = -1 ∨ ((gFi G : Int) - 1 ≤ s.2 n k ∧ s.2 n k < (gFi G : Int) - 1 + (s.1.length : Int))
section GATES
variable {G : Dsg} {B : Lib} {n k x t i tu f : Nat} {s : MkS} {l : List Nat} {run run' : Nat → Nat → MkS → MkS}
theorem mkA_len {g : Int × Int × Int × Int} : (mkA G s n k g).1.length = s.1.length + 1 := by
  show (s.1 ++ [g]).length = _
  rw [List.length_append]; rfl
theorem mkA_net {g : Int × Int × Int × Int} : (mkA G s n k g).2 n k = (gFi G : Int) - 1 + (s.1.length : Int) := if_pos ⟨rfl, rfl⟩
theorem mkA_oth {g : Int × Int × Int × Int} {a b : Nat} (h : ¬ (a = n ∧ b = k)) : (mkA G s n k g).2 a b = s.2 a b := if_neg h
/-- what is there stays, gates are put behind -/
def MkLe (s s' : MkS) : Prop := (∃ r, s'.1 = s.1 ++ r) ∧ ∀ a b, s.2 a b ≠ -1 → s'.2 a b = s.2 a b
theorem MkLe.refl : MkLe s s := ⟨⟨[], (List.append_nil _).symm⟩, fun _ _ _ => rfl⟩
theorem MkLe.tr {s1 s2 : MkS} (h : MkLe s s1) (g : MkLe s1 s2) : MkLe s s2 := by
  obtain ⟨⟨r, e⟩, h2⟩ := h
  obtain ⟨⟨r', e'⟩, g2⟩ := g
  exact ⟨⟨r ++ r', by rw [e', e, List.append_assoc]⟩, fun a b q => by rw [g2 a b (by rw [h2 a b q]; exact q), h2 a b q]⟩
theorem MkLe.len {s' : MkS} (h : MkLe s s') : s.1.length ≤ s'.1.length := by
  obtain ⟨⟨r, e⟩, _⟩ := h
  rw [e, List.length_append]; omega
theorem MkLe.add {g : Int × Int × Int × Int} (h : s.2 n k = -1) : MkLe s (mkA G s n k g) := ⟨⟨[g], rfl⟩, fun a b q => mkA_oth (fun e => q (by rw [e.1, e.2]; exact h))⟩
/-- a net of a greater item is not touched -/
def RunQ (G : Dsg) (B : Lib) (run : Nat → Nat → MkS → MkS) : Prop := ∀ n k s, MkV G s → MkV G (run n k s) ∧ MkLe s (run n k s) ∧ ∀ a b, rkK G B n k < rkK G B a b → (run n k s).2 a b = s.2 a b
theorem MkV.add {g : Int × Int × Int × Int} (h : MkV G s) : MkV G (mkA G s n k g) := fun a b => by
  rw [mkA_len]
  by_cases q : a = n ∧ b = k
  · obtain ⟨rfl, rfl⟩ := q
    rw [mkA_net]; omega
  · rw [mkA_oth q]
    have := h a b
    omega
theorem trn_some (h : trn G B n k) : ∃ v, wCo (WW G B n (1 - k)) = some v ∧ invO B ≠ none ∧ ∃ u, invO B = some u ∧ ∀ c, wCo (WW G B n k) = some c → v + u < c := by
  obtain ⟨b, e, h2⟩ := h
  cases a : wCo (WW G B n (1 - k)) with
  | none => rw [a] at e; cases invO B <;> cases e
  | some v =>
    cases c : invO B with
    | none => rw [a, c] at e; cases e
    | some u =>
      rw [a, c] at e
      cases e
      exact ⟨v, rfl, (fun e => by cases e), u, rfl, h2⟩
theorem trn_not (hk : k < 2) (h : trn G B n k) : ¬ trn G B n (1 - k) := fun g => by
  obtain ⟨v, h1, _, u, h2, h3⟩ := trn_some h
  obtain ⟨v', g1, _, u', g2, g3⟩ := trn_some g
  have e : 1 - (1 - k) = k := by omega
  rw [e] at g1
  have a := h3 v' g1
  have b := g3 v h1
  omega
theorem ndR_sw (h : wCo (WW G B n t) ≠ none) : ndR G B n t ≠ none := fun e => by
  unfold ndR at e
  cases a : wCo (WW G B n t) with
  | none => exact h a
  | some v =>
    rw [a] at e
    cases c : oadd (wCo (WW G B n (1 - t))) (invO B) with
    | none => rw [c] at e; cases e
    | some u => rw [c] at e; cases e
theorem ndR_way (h : ndR G B n k ≠ none) (ht : ¬ trn G B n k) : ∃ y, WW G B n k = some y := by
  cases a : WW G B n k with
  | some y => exact ⟨y, rfl⟩
  | none =>
    refine (h ?_).elim
    unfold ndR
    have e : wCo (WW G B n k) = none := by rw [a]; rfl
    rw [e]
    cases c : oadd (wCo (WW G B n (1 - k))) (invO B) with
    | none => rfl
    | some u => exact (ht ⟨u, c, fun v e' => by rw [e] at e'; cases e'⟩).elim
theorem costO_in {nd : Nat → Nat → Option Nat} {A : Nat} : ∀ m v, costO A nd l tu m = some v → ∀ i, i < m → nd (l.getD i 0) (bitN tu i) ≠ none := by
  intro m
  induction m with
  | zero => exact fun v _ i h => absurd h (Nat.not_lt_zero _)
  | succ m ih =>
    intro v e i hi
    have e' : oadd (costO A nd l tu m) (nd (l.getD m 0) (bitN tu m)) = some v := e
    cases a : costO A nd l tu m with
    | none => rw [a] at e'; cases e'
    | some u =>
      by_cases g : i = m
      · subst g
        intro k
        rw [a, k] at e'; cases e'
      · exact ih u a i (by omega)
/-- the inputs of a way can be had -/
theorem WW_in (w : WFG G) (wl : WFL B) (hn : AndG G n) {y : Way} (h : WW G B n k = some y) : ∀ i, i < y.2.2.2.length → ndO G B (WW G B) (y.2.2.2.getD i 0) (bitN y.2.2.1 i) ≠ none := by
  have h' := h
  rw [WW_eq] at h'
  have ok := WW_ok w wl n hn k y h
  refine wyC_all (Q := fun y => ∀ i, i < y.2.2.2.length → ndO G B (WW G B) (y.2.2.2.getD i 0) (bitN y.2.2.1 i) ≠ none) (fun c cut o tu v hc hm hl ho ht hv i hi => ?_) (liN B) (Nat.le_refl _) k y h'
  have mem := cutZ_mem hm
  obtain ⟨_, lt⟩ := cut_cov w hn mem
  dsimp only at hi ⊢
  rw [nds_len] at hi
  have r := bI_rng wl hc
  have a := costO_in _ v hv i hi
  have xm : (nds cut (bI B c) o).getD i 0 ∈ cut := by rw [nds_get hi]; exact getD_mem (by rw [hl]; exact inpM_lt ⟨r.1, r.2.1⟩ ho hi)
  rw [← nd_st (lt _ xm)]; exact a
theorem GdK.turn (hk : k < 2) (h : GdK G B n k) (ht : trn G B n k) : GdK G B n (1 - k) := by
  rcases h with ⟨_, h1, h2, h3⟩ | ⟨q, _⟩
  · obtain ⟨v, e, _⟩ := trn_some ht
    refine .inl ⟨by omega, h1, ?_, ndR_sw (by rw [e]; exact fun q => by cases q)⟩
    by_cases g : k = 0
    · subst g; exact .inr (.inr ht)
    · have e1 : k = 1 := by omega
      subst e1
      rcases h2 with h2 | h2 | h2
      · exact .inl h2
      · omega
      · exact (trn_not (by omega) h2 ht).elim
  · omega
theorem GdK.inp (w : WFG G) (wl : WFL B) (hr : rOK G B) (hx : WdG G x) (ht : t < 2) (h : ndO G B (WW G B) x t ≠ none) (g : hasK G x t) : GdK G B x (inK G x t) := by
  unfold inK
  by_cases q : InG G x
  · rw [cG_t q]
    unfold ndO at h
    rw [cG_t q] at h
    exact .inl ⟨ht, q.and, .inl q, h⟩
  · rw [cG_f q]
    by_cases z : t = 0
    · rw [if_pos z]
      have gx : gFi G ≤ x := g.resolve_right (fun k => k z)
      have xa : AndG G x := ⟨gx, Wt_lt w hx.1, hx.1⟩
      have xr : Rt G x := Classical.byContradiction (fun r => q ⟨gx, Wt_lt w hx.1, hx.1, r⟩)
      exact .inl ⟨by omega, xa, .inr (.inl rfl), hr x xa xr⟩
    · rw [if_neg z]
      exact .inr ⟨rfl, hx, q⟩
theorem inK_rk (hx : x < n) (ht : t < 2) : rkK G B x (inK G x t) < 4 * n := by
  unfold rkK
  by_cases q : inK G x t = 2
  · rw [if_pos q]; omega
  · rw [if_neg q]; have := bo_le (p := trn G B x (inK G x t)); omega
end GATES
