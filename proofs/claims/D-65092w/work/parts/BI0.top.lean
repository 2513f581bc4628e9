/-! the forty that stand first: no program -/
def lx : List Nat → List Nat → Prop
  | [], [] => False
  | [], _ :: _ => True
  | _ :: _, [] => False
  | x :: p, y :: q => x < y ∨ (x = y ∧ lx p q)
theorem lx_irr : ∀ p, ¬ lx p p := by
  intro p
  induction p with
  | nil => exact fun h => h
  | cons x p ih => intro h; rcases h with h | ⟨_, h⟩; omega; exact ih h
theorem lx_tr : ∀ p q r, lx p q → lx q r → lx p r := by
  intro p
  induction p with
  | nil =>
    intro q r h g
    cases r with
    | nil =>
      cases q with
      | nil => exact g.elim
      | cons y q => exact g.elim
    | cons z r => trivial
  | cons x p ih =>
    intro q r h g
    cases q with
    | nil => exact h.elim
    | cons y q =>
      cases r with
      | nil => exact g.elim
      | cons z r =>
        rcases h with h | ⟨h1, h2⟩
        · rcases g with g | ⟨g1, _⟩
          · exact .inl (by omega)
          · exact .inl (by omega)
        · rcases g with g | ⟨g1, g2⟩
          · exact .inl (by omega)
          · exact .inr ⟨by omega, ih q r h2 g2⟩
theorem lx_tot : ∀ p q, p ≠ q → lx p q ∨ lx q p := by
  intro p
  induction p with
  | nil =>
    intro q h
    cases q with
    | nil => exact absurd rfl h
    | cons y q => exact .inl trivial
  | cons x p ih =>
    intro q h
    cases q with
    | nil => exact .inr trivial
    | cons y q =>
      by_cases e : x = y
      · subst e
        rcases ih q (fun e => h (by rw [e])) with g | g
        · exact .inl (.inr ⟨rfl, g⟩)
        · exact .inr (.inr ⟨rfl, g⟩)
      · rcases Nat.lt_or_ge x y with g | g
        · exact .inl (.inl g)
        · exact .inr (.inl (by omega))
/-- a prefix stands first -/
theorem lx_app : ∀ (p : List Nat) (a : Nat) (t : List Nat), lx p (p ++ a :: t) := by
  intro p
  induction p with
  | nil => exact fun _ _ => trivial
  | cons x p ih => exact fun a t => .inr ⟨rfl, ih a t⟩
/-- neither begins the other: what follows doesn't matter -/
theorem lx_ext : ∀ (p q s t : List Nat), ¬ p <+: q → ¬ q <+: p → lx p q → lx (p ++ s) (q ++ t) := by
  intro p
  induction p with
  | nil => intro q s t h _ _; exact absurd (List.nil_prefix) h
  | cons x p ih =>
    intro q s t h g l
    cases q with
    | nil => exact l.elim
    | cons y q =>
      rcases l with l | ⟨l1, l2⟩
      · exact .inl l
      · subst l1
        refine .inr ⟨rfl, ih q s t (fun e => h ?_) (fun e => g ?_) l2⟩
        · obtain ⟨u, hu⟩ := e; exact ⟨u, by rw [← hu]; rfl⟩
        · obtain ⟨u, hu⟩ := e; exact ⟨u, by rw [← hu]; rfl⟩
def Top {α : Type} (V : α → Prop) (R : α → α → Prop) (n : Nat) (f : Nat → α) : Prop :=
  n ≤ 40 ∧ (∀ i, i < n → V (f i)) ∧ (∀ i j, i < j → j < n → R (f i) (f j)) ∧ ∀ p, V p → (∃ i, i < n ∧ f i = p) ∨ (n = 40 ∧ ∀ i, i < n → R (f i) p)
section TOP
variable {α : Type} {V : α → Prop} {R : α → α → Prop} {n m : Nat} {f g : Nat → α}
theorem Top.same (irr : ∀ x, ¬ R x x) (tr : ∀ x y z, R x y → R y z → R x z) (h : Top V R n f) (k : Top V R m g) : ∀ i, i < n → i < m → f i = g i := by
  have key : ∀ N i, i < N → i < n → i < m → f i = g i := by
    intro N
    induction N with
    | zero => intro i h; omega
    | succ N ih =>
      intro i hi h1 h2
      have bel : ∀ j, j < i → f j = g j := fun j hj => ih j (by omega) (by omega) (by omega)
      -- g i is f i or stands behind it
      have A : f i = g i ∨ R (f i) (g i) := by
        rcases h.2.2.2 (g i) (k.2.1 i h2) with ⟨j, j1, j2⟩ | ⟨_, q⟩
        · rcases Nat.lt_trichotomy j i with l | l | l
          · have := k.2.2.1 j i l h2
            rw [← bel j l, j2] at this; exact absurd this (irr _)
          · subst l; exact .inl j2
          · right; rw [← j2]; exact h.2.2.1 i j l j1
        · exact .inr (q i h1)
      have B : g i = f i ∨ R (g i) (f i) := by
        rcases k.2.2.2 (f i) (h.2.1 i h1) with ⟨j, j1, j2⟩ | ⟨_, q⟩
        · rcases Nat.lt_trichotomy j i with l | l | l
          · have := h.2.2.1 j i l h1
            rw [bel j l, j2] at this; exact absurd this (irr _)
          · subst l; exact .inl j2
          · right; rw [← j2]; exact k.2.2.1 i j l j1
        · exact .inr (q i h2)
      rcases A with a | a
      · exact a
      · rcases B with b | b
        · exact b.symm
        · exact absurd (tr _ _ _ a b) (irr _)
  exact fun i h1 h2 => key (i + 1) i (by omega) h1 h2
theorem Top.le (irr : ∀ x, ¬ R x x) (tr : ∀ x y z, R x y → R y z → R x z) (h : Top V R n f) (k : Top V R m g) : m ≤ n := by
  refine Classical.byContradiction (fun no => ?_)
  have s := h.same irr tr k
  rcases h.2.2.2 (g n) (k.2.1 n (by omega)) with ⟨j, j1, j2⟩ | ⟨q, _⟩
  · have := k.2.2.1 j n j1 (by omega)
    rw [← s j j1 (by omega), j2] at this; exact irr _ this
  · have := k.1; omega
theorem Top.eq (irr : ∀ x, ¬ R x x) (tr : ∀ x y z, R x y → R y z → R x z) (h : Top V R n f) (k : Top V R m g) : n = m ∧ ∀ i, i < n → f i = g i := by
  have e : n = m := by have := h.le irr tr k; have := k.le irr tr h; omega
  exact ⟨e, fun i hi => h.same irr tr k i hi (by omega)⟩
end TOP
/-- several sources are merged -/
def Mrg {α : Type} (R : α → α → Prop) (H : Nat) (nT : Nat → Nat) (sF : Nat → Nat → α) (n : Nat) (out : Nat → α) (ptr : Nat → Nat) : Prop :=
  n ≤ 40 ∧ (∀ h, h < H → ptr h ≤ nT h) ∧ smN ptr H = n ∧ (∀ j, j < n → ∃ h i, h < H ∧ i < ptr h ∧ out j = sF h i) ∧ (∀ h i, h < H → i < ptr h → ∃ j, j < n ∧ out j = sF h i) ∧
  (∀ i j, i < j → j < n → R (out i) (out j)) ∧ ∀ h j, h < H → ptr h < nT h → j < n → R (out j) (sF h (ptr h))
section MRG
variable {α : Type} {R : α → α → Prop} {H n : Nat} {nT : Nat → Nat} {sF : Nat → Nat → α} {out : Nat → α} {ptr : Nat → Nat} {Vs : Nat → α → Prop}
theorem Mrg.start : Mrg R H nT sF 0 out (fun _ => 0) :=
  ⟨by omega, fun _ _ => Nat.zero_le _, smN_0 (fun _ _ => rfl), fun j hj => absurd hj (Nat.not_lt_zero _), fun _ i _ hi => absurd hi (Nat.not_lt_zero _), fun _ j _ hj => absurd hj (Nat.not_lt_zero _), fun _ j _ _ hj => absurd hj (Nat.not_lt_zero _)⟩
theorem Mrg.step (tr : ∀ x y z, R x y → R y z → R x z) (h : Mrg R H nT sF n out ptr) (hs : ∀ u i j, u < H → i < j → j < nT u → R (sF u i) (sF u j)) {b : Nat} (hb : b < H) (h40 : n < 40) (hd : ptr b < nT b) (best : ∀ u, u < H → u ≠ b → ptr u < nT u → R (sF b (ptr b)) (sF u (ptr u))) {out' : Nat → α} {ptr' : Nat → Nat} (eo : ∀ j, j < n → out' j = out j) (eo' : out' n = sF b (ptr b)) (ep : ∀ u, u < H → ptr' u = if u = b then ptr b + 1 else ptr u) : Mrg R H nT sF (n + 1) out' ptr' := by
  obtain ⟨h1, h2, h3, h4, h5, h6, h7⟩ := h
  have eb : ptr' b = ptr b + 1 := by rw [ep b hb, if_pos rfl]
  have en : ∀ u, u < H → u ≠ b → ptr' u = ptr u := fun u hu q => by rw [ep u hu, if_neg q]
  refine ⟨by omega, fun u hu => ?_, ?_, fun j hj => ?_, fun u i hu hi => ?_, fun i j hij hj => ?_, fun u j hu hd' hj => ?_⟩
  · by_cases q : u = b
    · rw [q, eb]; omega
    · rw [en u hu q]; exact h2 u hu
  · rw [smN_up (f := ptr) (g := ptr') hb eb (fun x hx ne => en x hx ne), h3]
  · by_cases q : j = n
    · rw [q, eo']; exact ⟨b, ptr b, hb, by rw [eb]; omega, rfl⟩
    · obtain ⟨u, i, x1, x2, x3⟩ := h4 j (by omega)
      refine ⟨u, i, x1, ?_, by rw [eo j (by omega)]; exact x3⟩
      by_cases q : u = b
      · rw [q, eb]; rw [q] at x2; omega
      · rw [en u x1 q]; exact x2
  · by_cases q : u = b
    · subst q
      rw [eb] at hi
      by_cases q2 : i = ptr u
      · exact ⟨n, by omega, by rw [eo', q2]⟩
      · obtain ⟨j, j1, j2⟩ := h5 u i hu (by omega)
        exact ⟨j, by omega, by rw [eo j j1]; exact j2⟩
    · rw [en u hu q] at hi
      obtain ⟨j, j1, j2⟩ := h5 u i hu hi
      exact ⟨j, by omega, by rw [eo j j1]; exact j2⟩
  · by_cases q : j = n
    · rw [q, eo', eo i (by omega)]; exact h7 b i hb hd (by omega)
    · rw [eo i (by omega), eo j (by omega)]; exact h6 i j hij (by omega)
  · by_cases q : u = b
    · subst q
      rw [eb] at hd' ⊢
      have s := hs u (ptr u) (ptr u + 1) hu (by omega) hd'
      by_cases q2 : j = n
      · rw [q2, eo']; exact s
      · rw [eo j (by omega)]; exact tr _ _ _ (h7 u j hu hd (by omega)) s
    · rw [en u hu q] at hd' ⊢
      by_cases q2 : j = n
      · rw [q2, eo']; exact best u hu q hd'
      · rw [eo j (by omega)]; exact h7 u j hu hd' (by omega)
theorem Mrg.top (tr : ∀ x y z, R x y → R y z → R x z) (h : Mrg R H nT sF n out ptr) (hT : ∀ u, u < H → Top (Vs u) R (nT u) (sF u)) (stop : n = 40 ∨ ∀ u, u < H → ptr u = nT u) : Top (fun p => ∃ u, u < H ∧ Vs u p) R n out := by
  obtain ⟨h1, h2, h3, h4, h5, h6, h7⟩ := h
  refine ⟨h1, fun j hj => ?_, h6, fun p hp => ?_⟩
  · obtain ⟨u, i, x1, x2, x3⟩ := h4 j hj
    exact ⟨u, x1, by rw [x3]; exact (hT u x1).2.1 i (by have := h2 u x1; omega)⟩
  · obtain ⟨u, hu, hp⟩ := hp
    obtain ⟨t1, t2, t3, t4⟩ := hT u hu
    have pu := h2 u hu
    have le := smN_ge (f := ptr) hu
    have head : ptr u < nT u → n = 40 := fun q => stop.elim id (fun g => by rw [g u hu] at q; omega)
    rcases t4 p hp with ⟨i, i1, i2⟩ | ⟨q1, q2⟩
    · by_cases q : i < ptr u
      · obtain ⟨j, j1, j2⟩ := h5 u i hu q
        exact .inl ⟨j, j1, by rw [j2, i2]⟩
      · have hd : ptr u < nT u := by omega
        refine .inr ⟨head hd, fun j hj => ?_⟩
        have a := h7 u j hu hd hj
        by_cases q2 : i = ptr u
        · rw [← i2, q2]; exact a
        · rw [← i2]; exact tr _ _ _ a (t3 _ _ (by omega) i1)
    · by_cases hd : ptr u < nT u
      · refine .inr ⟨head hd, fun j hj => tr _ _ _ (h7 u j hu hd hj) (q2 _ hd)⟩
      · have e40 : ptr u = 40 := by omega
        have n40 : n = 40 := by omega
        refine .inr ⟨n40, fun j hj => ?_⟩
        obtain ⟨u', i, x1, x2, x3⟩ := h4 j hj
        by_cases q : u' = u
        · subst q; rw [x3]; exact q2 i (by omega)
        · have := smN_ge2 (f := ptr) x1 hu q
          omega
end MRG
