/-! plain laws: what a model gives; no machine in sight -/
def WP {α : Type} (m : Option α) (P : α → Prop) : Prop := ∃ x, m = some x ∧ P x
theorem WP.mono {α : Type} {m : Option α} {P Q : α → Prop} (h : WP m P) (k : ∀ x, P x → Q x) : WP m Q := by
  obtain ⟨x, h1, h2⟩ := h; exact ⟨x, h1, k x h2⟩
/-- what holds of every outcome holds of the one that comes -/
theorem WP.also {α : Type} {m : Option α} {P R : α → Prop} (h : WP m P) (k : ∀ x, m = some x → R x) : WP m (fun x => P x ∧ R x) := by
  obtain ⟨x, h1, h2⟩ := h; exact ⟨x, h1, h2, k x h1⟩
theorem WP_some {α : Type} {x : α} {P : α → Prop} : WP (some x) P ↔ P x :=
  ⟨fun ⟨_, h1, h2⟩ => by cases h1; exact h2, fun h => ⟨x, rfl, h⟩⟩
theorem WP_none {α : Type} {P : α → Prop} : WP (none : Option α) P ↔ False := ⟨fun ⟨_, h, _⟩ => (nomatch h), fun h => False.elim h⟩
theorem WP_bX {σ τ : Type} {m : Option σ} {k : σ → Option τ} {P : τ → Prop} : WP (bX m k) P ↔ WP m (fun x => WP (k x) P) := by
  cases m with
  | none => exact ⟨fun ⟨_, h, _⟩ => (by cases h), fun ⟨_, h, _⟩ => (by cases h)⟩
  | some s => rw [WP_some]; exact Iff.rfl
/-- what is behind the early end of a loop -/
def WE {σ τ : Type} (Q : σ → Prop) (P : τ → Prop) : σ ⊕ τ → Prop
  | .inl s => Q s
  | .inr t => P t
theorem WP_bE {σ τ : Type} {m : Option (σ ⊕ τ)} {k : σ → Option τ} {P : τ → Prop} : WP (bE m k) P ↔ WP m (WE (fun s => WP (k s) P) P) := by
  cases m with
  | none => exact ⟨fun ⟨_, h, _⟩ => (by cases h), fun ⟨_, h, _⟩ => (by cases h)⟩
  | some s =>
    rw [WP_some]
    cases s with
    | inl s => exact Iff.rfl
    | inr t => exact WP_some
theorem WP_bT {σ τ : Type} {m : Option (σ ⊕ (Nat × Sto))} {k : σ → Option (τ ⊕ (Nat × Sto))} {P : τ ⊕ (Nat × Sto) → Prop} : WP (bT m k) P ↔ WP m (WE (fun s => WP (k s) P) (fun t => P (.inr t))) := by
  cases m with
  | none => exact ⟨fun ⟨_, h, _⟩ => (by cases h), fun ⟨_, h, _⟩ => (by cases h)⟩
  | some s =>
    rw [WP_some]
    cases s with
    | inl s => exact Iff.rfl
    | inr t => exact WP_some
theorem WE_inl {σ τ : Type} {Q : σ → Prop} {P : τ → Prop} {s : σ} : WE Q P (.inl s) ↔ Q s := Iff.rfl
theorem WE_inr {σ τ : Type} {Q : σ → Prop} {P : τ → Prop} {t : τ} : WE Q P (.inr t) ↔ P t := Iff.rfl
theorem WP_ite {α : Type} {c : Prop} [Decidable c] {A B : Option α} {P : α → Prop} : WP (if c then A else B) P ↔ (c → WP A P) ∧ (¬ c → WP B P) := by
  by_cases h : c
  · rw [if_pos h]; exact ⟨fun g => ⟨fun _ => g, fun n => absurd h n⟩, fun g => g.1 h⟩
  · rw [if_neg h]; exact ⟨fun g => ⟨fun n => absurd n h, fun _ => g⟩, fun g => g.2 h⟩
theorem WP_if {α : Type} {c : Prop} [Decidable c] {A : Option α} {P : α → Prop} : WP (if c then A else none) P ↔ c ∧ WP A P := by
  rw [WP_ite, WP_none]
  exact ⟨fun g => Decidable.byCases (fun h : c => ⟨h, g.1 h⟩) (fun h => (g.2 h).elim), fun g => ⟨fun _ => g.2, fun h => h g.1⟩⟩
section ARR
variable {τ : Type} {n : Nat} {S : Sto} {a : Nat} {P : τ → Prop}
theorem WP_rdI {j : Int} {k : Int → Option τ} : WP (rdI n S a j k) P ↔ (0 ≤ w32 j ∧ w32 j < n) ∧ WP (k (gI S a (ixn j))) P := WP_if
theorem WP_rdZ {j : Int} {k : Int → Option τ} : WP (rdZ n S a j k) P ↔ (0 ≤ w32 j ∧ w32 j < n) ∧ WP (k (bz (gI S a (ixn j)))) P := WP_if
theorem WP_rdL {j : Int} {k : Int64 → Option τ} : WP (rdL n S a j k) P ↔ (0 ≤ w32 j ∧ w32 j < n) ∧ WP (k (gL S a (ixn j))) P := WP_if
theorem WP_wrI {j v : Int} {k : Sto → Option τ} : WP (wrI n S a j v k) P ↔ (0 ≤ w32 j ∧ w32 j < n) ∧ WP (k (sI S a (ixn j) v)) P := WP_if
theorem WP_wrL {j : Int} {v : Int64} {k : Sto → Option τ} : WP (wrL n S a j v k) P ↔ (0 ≤ w32 j ∧ w32 j < n) ∧ WP (k (sL S a (ixn j) v)) P := WP_if
theorem WP_wf {i : Nat} {v : Int} {k : Sto → Option τ} : WP (wf S a i v k) P ↔ WP (k (sI S a i v)) P := Iff.rfl
theorem WP_wfL {i : Nat} {v : Int64} {k : Sto → Option τ} : WP (wfL S a i v k) P ↔ WP (k (sL S a i v)) P := Iff.rfl
theorem WP_wfR {i v : Nat} {k : Sto → Option τ} : WP (wfR S a i v k) P ↔ WP (k (sR S a i v)) P := Iff.rfl
theorem WP_gz {v : Int} {k : Option τ} : WP (gz v k) P ↔ (v = 0 ∨ v = 1) ∧ WP k P := WP_if
theorem WP_gk {e κ : Nat} {k : Nat → Option τ} : WP (gk e κ k) P ↔ kK e = κ ∧ WP (k e) P := WP_if
theorem WP_rdC {vs : List Int} {j : Int} {k : Int → Option τ} : WP (rdC vs j k) P ↔ (0 ≤ w32 j ∧ w32 j < vs.length) ∧ WP (k (vs.getD (ixn j) 0)) P := WP_if
end ARR
/-- loops -/
theorem WP_lp {σ ρ : Type} {f : σ → Option (σ ⊕ ρ)} {P : ρ → Prop} (I : σ → Prop) (μ : σ → Nat) (step : ∀ s, I s → WP (f s) (WE (fun s' => I s' ∧ μ s' < μ s) P)) : ∀ (n : Nat) (s : σ), I s → μ s < n → WP (lp f n s) P := by
  intro n
  induction n with
  | zero => intro s _ h; exact absurd h (Nat.not_lt_zero _)
  | succ n ih =>
    intro s hI hμ
    obtain ⟨r, h1, h2⟩ := step s hI
    cases r with
    | inl s' =>
      obtain ⟨x, g1, g2⟩ := ih s' h2.1 (by have := h2.2; omega)
      exact ⟨x, by show (match f s with | none => none | some (.inl s') => lp f n s' | some (.inr r) => some r) = _; rw [h1]; exact g1, g2⟩
    | inr r => exact ⟨r, by show (match f s with | none => none | some (.inl s') => lp f n s' | some (.inr r) => some r) = _; rw [h1], h2⟩
theorem WP_lpF {σ ρ : Type} {f : σ → Option (σ ⊕ ρ)} {P : ρ → Prop} {s : σ} (I : σ → Prop) (μ : σ → Nat) (h0 : I s) (hμ : μ s < cFU) (step : ∀ s, I s → WP (f s) (WE (fun s' => I s' ∧ μ s' < μ s) P)) : WP (lpF f s) P := WP_lp I μ step _ s h0 hμ
/-- what every round keeps -/
theorem lp_keeps {σ ρ : Type} {f : σ → Option (σ ⊕ ρ)} {I : σ → Prop} {R : ρ → Prop} (step : ∀ s r, I s → f s = some r → WE I R r) : ∀ (n : Nat) (s : σ) (x : ρ), I s → lp f n s = some x → R x := by
  intro n
  induction n with
  | zero => intro s x _ h; cases h
  | succ n ih =>
    intro s x hI h
    have h : (match f s with | none => none | some (.inl s') => lp f n s' | some (.inr r) => some r) = some x := h
    cases hf : f s with
    | none => rw [hf] at h; cases h
    | some r =>
      rw [hf] at h
      have hs := step s r hI hf
      cases r with
      | inl s' => exact ih s' x hs h
      | inr r => cases h; exact hs
/-! numbers -/
theorem w32_rng (x : Int) : -2147483648 ≤ w32 x ∧ w32 x < 2147483648 := by
  unfold w32
  have h1 : -2147483648 ≤ _ := Int32.minValue_le_toInt (Int32.ofInt x)
  have h2 := Int32.toInt_lt (Int32.ofInt x)
  exact ⟨h1, by omega⟩
theorem w32_id {x : Int} (h : -2147483648 ≤ x ∧ x < 2147483648) : w32 x = x := by
  unfold w32
  rw [Int32.toInt_ofInt]
  show Int.bmod x 4294967296 = x
  rw [Int.bmod_def]
  split <;> omega
theorem gI_rng (S : Sto) (a i : Nat) : -2147483648 ≤ gI S a i ∧ gI S a i < 2147483648 := by
  unfold gI
  have h1 : -2147483648 ≤ _ := Int32.minValue_le_toInt (S.1 a i)
  have h2 := Int32.toInt_lt (S.1 a i)
  exact ⟨h1, by omega⟩
theorem w32_gI (S : Sto) (a i : Nat) : w32 (gI S a i) = gI S a i := w32_id (gI_rng S a i)
theorem w32_w32 (x : Int) : w32 (w32 x) = w32 x := w32_id (w32_rng x)
theorem w32_bz (x : Int) : w32 (bz x) = bz x := by unfold bz; split <;> rfl
theorem hI_sI (S : Sto) (a i : Nat) (v : Int) (b j : Nat) : gI (sI S a i v) b j = if b = a ∧ j = i then w32 v else gI S b j := by
  unfold gI sI w32
  dsimp only
  split <;> rfl
theorem gI_sI_eq (S : Sto) (a i : Nat) (v : Int) : gI (sI S a i v) a i = w32 v := by rw [hI_sI, if_pos ⟨rfl, rfl⟩]
theorem hI_sI_a {S : Sto} {a i : Nat} {v : Int} {b j : Nat} (h : b ≠ a) : gI (sI S a i v) b j = gI S b j := by rw [hI_sI, if_neg (fun g => h g.1)]
theorem hI_sI_i {S : Sto} {a i : Nat} {v : Int} {b j : Nat} (h : j ≠ i) : gI (sI S a i v) b j = gI S b j := by rw [hI_sI, if_neg (fun g => h g.2)]
theorem gI_sL (S : Sto) (a i : Nat) (v : Int64) (b j : Nat) : gI (sL S a i v) b j = gI S b j := rfl
theorem gI_sR (S : Sto) (a i v : Nat) (b j : Nat) : gI (sR S a i v) b j = gI S b j := rfl
theorem gL_sI (S : Sto) (a i : Nat) (v : Int) (b j : Nat) : gL (sI S a i v) b j = gL S b j := rfl
theorem gL_sR (S : Sto) (a i v : Nat) (b j : Nat) : gL (sR S a i v) b j = gL S b j := rfl
theorem gL_sL (S : Sto) (a i : Nat) (v : Int64) (b j : Nat) : gL (sL S a i v) b j = if b = a ∧ j = i then v else gL S b j := rfl
theorem gR_sI (S : Sto) (a i : Nat) (v : Int) (b j : Nat) : gR (sI S a i v) b j = gR S b j := rfl
theorem gR_sL (S : Sto) (a i : Nat) (v : Int64) (b j : Nat) : gR (sL S a i v) b j = gR S b j := rfl
theorem gR_sR (S : Sto) (a i v : Nat) (b j : Nat) : gR (sR S a i v) b j = if b = a ∧ j = i then v else gR S b j := rfl

/-! partial correctness: what holds of every outcome -/
def PC {α : Type} (m : Option α) (P : α → Prop) : Prop := ∀ x, m = some x → P x
theorem PC.mono {α : Type} {m : Option α} {P Q : α → Prop} (h : PC m P) (k : ∀ x, P x → Q x) : PC m Q := fun x e => k x (h x e)
theorem PC_any {α : Type} {m : Option α} : PC m (fun _ => True) := fun _ _ => trivial
theorem PC_some {α : Type} {x : α} {P : α → Prop} (h : P x) : PC (some x) P := fun _ e => by cases e; exact h
theorem PC_none {α : Type} {P : α → Prop} : PC (none : Option α) P := fun _ e => by cases e
theorem PC_ite {α : Type} {c : Prop} [Decidable c] {A B : Option α} {P : α → Prop} (h : PC A P) (g : PC B P) : PC (if c then A else B) P := by
  by_cases hc : c
  · rw [if_pos hc]; exact h
  · rw [if_neg hc]; exact g
theorem PC_if {α : Type} {c : Prop} [Decidable c] {A : Option α} {P : α → Prop} (h : c → PC A P) : PC (if c then A else none) P := by
  by_cases hc : c
  · rw [if_pos hc]; exact h hc
  · rw [if_neg hc]; exact PC_none
theorem PC_bXs {σ τ : Type} {m : Option σ} {k : σ → Option τ} {P : τ → Prop} (R : σ → Prop) (h : PC m R) (g : ∀ x, R x → PC (k x) P) : PC (bX m k) P := by
  cases m with
  | none => exact PC_none
  | some s => exact g s (h s rfl)
theorem PC_bXn {σ τ : Type} {m : Option σ} {k : σ → Option τ} {P : τ → Prop} (g : ∀ x, PC (k x) P) : PC (bX m k) P := PC_bXs (fun _ => True) PC_any (fun x _ => g x)
theorem PC_bE {σ τ : Type} {m : Option (σ ⊕ τ)} {k : σ → Option τ} {P : τ → Prop} (R : σ → Prop) (h : PC m (WE R P)) (g : ∀ x, R x → PC (k x) P) : PC (bE m k) P := by
  cases m with
  | none => exact PC_none
  | some s => cases s with
    | inl s => exact g s (h _ rfl)
    | inr t => exact PC_some (h (.inr t) rfl)
theorem PC_bT {σ τ : Type} {m : Option (σ ⊕ (Nat × Sto))} {k : σ → Option (τ ⊕ (Nat × Sto))} {P : τ ⊕ (Nat × Sto) → Prop} (R : σ → Prop) (h : PC m (WE R (fun t => P (.inr t)))) (g : ∀ x, R x → PC (k x) P) : PC (bT m k) P := by
  cases m with
  | none => exact PC_none
  | some s => cases s with
    | inl s => exact g s (h _ rfl)
    | inr t => exact PC_some (h (.inr t) rfl)
theorem WE_map {σ τ : Type} {Q Q' : σ → Prop} {P P' : τ → Prop} (h : ∀ x, Q x → Q' x) (g : ∀ x, P x → P' x) : ∀ x, WE Q P x → WE Q' P' x
  | .inl s, hx => h s hx
  | .inr t, hx => g t hx
section PARR
variable {τ : Type} {n : Nat} {S : Sto} {a : Nat} {P : τ → Prop}
theorem PC_rdI {j : Int} {k : Int → Option τ} (h : ∀ v, PC (k v) P) : PC (rdI n S a j k) P := PC_if (fun _ => h _)
theorem PC_rdZ {j : Int} {k : Int → Option τ} (h : ∀ v, PC (k v) P) : PC (rdZ n S a j k) P := PC_if (fun _ => h _)
theorem PC_rdL {j : Int} {k : Int64 → Option τ} (h : ∀ v, PC (k v) P) : PC (rdL n S a j k) P := PC_if (fun _ => h _)
theorem PC_rdA {j : Int} {k : Nat → Option τ} (h : ∀ v, PC (k v) P) : PC (rdA n j k) P := PC_if (fun _ => h _)
theorem PC_rdC {vs : List Int} {j : Int} {k : Int → Option τ} (h : ∀ v, PC (k v) P) : PC (rdC vs j k) P := PC_if (fun _ => h _)
theorem PC_rdW {e : Nat} {j : Int} {k : Int → Option τ} (h : ∀ v, PC (k v) P) : PC (rdW S a e j k) P := PC_if (fun _ => h _)
theorem PC_gz {v : Int} {k : Option τ} (h : PC k P) : PC (gz v k) P := PC_if (fun _ => h)
theorem PC_gnz {v : Int} {k : Option τ} (h : PC k P) : PC (gnz v k) P := PC_ite PC_none h
theorem PC_gref {k : Option τ} (h : PC k P) : PC (gref a k) P := PC_ite PC_none h
theorem PC_gB {k : Option τ} (h : PC k P) : PC (gB a k) P := PC_if (fun _ => h)
theorem PC_gkc {κ : Nat} {k : Option τ} (h : PC k P) : PC (gkc a κ k) P := PC_if (fun _ => h)
theorem PC_gth {k : Option τ} (h : PC k P) : PC (gth S k) P := PC_if (fun _ => h)
theorem PC_gk {e b κ : Nat} {k : Nat → Option τ} (he : e = b) (h : PC (k b) P) : PC (gk e κ k) P := PC_if (fun _ => by rw [he]; exact h)
theorem PC_gkv {e κ : Nat} {k : Nat → Option τ} (h : ∀ e, PC (k e) P) : PC (gk e κ k) P := PC_if (fun _ => h e)
end PARR
theorem PC_lpF {σ ρ : Type} {f : σ → Option (σ ⊕ ρ)} {P : ρ → Prop} {I : σ → Prop} {s : σ} (h0 : I s) (step : ∀ s, I s → PC (f s) (WE I P)) : PC (lpF f s) P :=
  fun x e => lp_keeps (I := I) (R := P) (fun s r hs hr => step s hs r hr) _ s x h0 e
theorem WP.pc {α : Type} {m : Option α} {P R : α → Prop} (h : WP m P) (k : PC m R) : WP m (fun x => P x ∧ R x) := h.also k
/-! frames -/
def okP (L : List (Nat × Option Nat)) (a i : Nat) : Prop := ∀ z ∈ L, z.1 = a → z.2 ≠ none ∧ z.2 ≠ some i
def okL : List (Nat × Option Nat) → Nat → Nat → Bool
  | [], _, _ => true
  | (b, none) :: L, a, i => !(Nat.beq b a) && okL L a i
  | (b, some j) :: L, a, i => (!(Nat.beq b a) || !(Nat.beq j i)) && okL L a i
theorem okP_nil {a i : Nat} : okP [] a i := fun _ h => nomatch h
theorem okP_cons {z : Nat × Option Nat} {L : List (Nat × Option Nat)} {a i : Nat} (h : z.1 = a → z.2 ≠ none ∧ z.2 ≠ some i) (g : okP L a i) : okP (z :: L) a i := List.forall_mem_cons.2 ⟨h, g⟩
theorem okP_of {L : List (Nat × Option Nat)} {a i : Nat} (h : okL L a i = true) : okP L a i := by
  induction L with
  | nil => exact okP_nil
  | cons z L ih =>
    obtain ⟨b, o⟩ := z
    cases o with
    | none =>
      have h : (!(Nat.beq b a) && okL L a i) = true := h
      rw [Bool.and_eq_true] at h
      refine okP_cons (fun e => ?_) (ih h.2)
      have e : b = a := e
      subst e
      have := h.1
      rw [Nat.beq_refl] at this
      cases this
    | some j =>
      have h : ((!(Nat.beq b a) || !(Nat.beq j i)) && okL L a i) = true := h
      rw [Bool.and_eq_true] at h
      refine okP_cons (fun e => ⟨fun h => (nomatch h), fun hj => ?_⟩) (ih h.2)
      have e : b = a := e
      have hj : j = i := Option.some.inj hj
      subst e; subst hj
      have := h.1
      rw [Nat.beq_refl, Nat.beq_refl] at this
      cases this
theorem okP_sub {L M : List (Nat × Option Nat)} {a i : Nat} (h : okP M a i) (hs : ∀ z ∈ L, z ∈ M) : okP L a i := fun z hz => h z (hs z hz)
theorem sub_nil {L : List (Nat × Option Nat)} : ∀ z ∈ ([] : List (Nat × Option Nat)), z ∈ L := fun _ h => nomatch h
theorem sub_cons {L M : List (Nat × Option Nat)} {y : Nat × Option Nat} (h : y ∈ M) (g : ∀ z ∈ L, z ∈ M) : ∀ z ∈ y :: L, z ∈ M := List.forall_mem_cons.2 ⟨h, g⟩
/-- nothing but what the lists name is changed: whole labels, or single places; refs by the second list; the heap grows if the third tells so -/
def Fr (L V : List (Nat × Option Nat)) (G : Bool) (S S' : Sto) : Prop := (∀ a i, okP L a i → S'.1 a i = S.1 a i ∧ S'.2.1 a i = S.2.1 a i) ∧ (∀ a i, okP V a i → S'.2.2.1 a i = S.2.2.1 a i) ∧ (G = false → S'.2.2.2 = S.2.2.2)
section FRS
variable {L V : List (Nat × Option Nat)} {G : Bool} {S0 S : Sto} {a i : Nat}
theorem Fr.refl (L V : List (Nat × Option Nat)) (G : Bool) (S : Sto) : Fr L V G S S := ⟨fun _ _ _ => ⟨rfl, rfl⟩, fun _ _ _ => rfl, fun _ => rfl⟩
theorem Fr.tr {L' V' : List (Nat × Option Nat)} {G' : Bool} {S' : Sto} (h : Fr L V G S0 S) (g : Fr L' V' G' S S') (hl : ∀ z ∈ L', z ∈ L) (hv : ∀ z ∈ V', z ∈ V) (hg : G' = true → G = true) : Fr L V G S0 S' :=
  ⟨fun a i ho => ⟨(g.1 a i (okP_sub ho hl)).1.trans (h.1 a i ho).1, (g.1 a i (okP_sub ho hl)).2.trans (h.1 a i ho).2⟩, fun a i ho => (g.2.1 a i (okP_sub ho hv)).trans (h.2.1 a i ho),
   fun e => (g.2.2 (by cases hG : G' with | false => rfl | true => rw [hg hG] at e; cases e)).trans (h.2.2 e)⟩
theorem Fr.gi (h : Fr L V G S0 S) (ho : okP L a i) : gI S a i = gI S0 a i := by unfold gI; rw [(h.1 a i ho).1]
theorem Fr.gl (h : Fr L V G S0 S) (ho : okP L a i) : gL S a i = gL S0 a i := (h.1 a i ho).2
theorem Fr.rf (h : Fr L V G S0 S) (ho : okP V a i) : gR S a i = gR S0 a i := h.2.1 a i ho
/-- by evaluation -/
theorem Fr.ei (h : Fr L V G S0 S) (ho : okL L a i = true) : gI S a i = gI S0 a i := h.gi (okP_of ho)
theorem Fr.el (h : Fr L V G S0 S) (ho : okL L a i = true) : gL S a i = gL S0 a i := h.gl (okP_of ho)
theorem Fr.er (h : Fr L V G S0 S) (ho : okL V a i = true) : gR S a i = gR S0 a i := h.rf (okP_of ho)
theorem Fr.heap (h : Fr L V false S0 S) : nC S = nC S0 ∧ nS S = nS S0 := by unfold nC nS; rw [h.2.2 rfl]; exact ⟨rfl, rfl⟩
theorem Fr.w {S1 : Sto} (h : Fr L V G S0 S) (hi : ∀ b j, okP L b j → S1.1 b j = S.1 b j ∧ S1.2.1 b j = S.2.1 b j) (hr : ∀ b j, okP V b j → S1.2.2.1 b j = S.2.2.1 b j) (hh : G = false → S1.2.2.2 = S.2.2.2) : Fr L V G S0 S1 :=
  ⟨fun b j ho => ⟨(hi b j ho).1.trans (h.1 b j ho).1, (hi b j ho).2.trans (h.1 b j ho).2⟩, fun b j ho => (hr b j ho).trans (h.2.1 b j ho), fun e => (hh e).trans (h.2.2 e)⟩
theorem okP_ne {b j : Nat} (ho : okP L b j) (m : (a, none) ∈ L) : b ≠ a := fun e => (ho _ m e.symm).1 rfl
theorem okP_nf {b j : Nat} (ho : okP L b j) (m : (a, some i) ∈ L) : ¬ (b = a ∧ j = i) := fun e => (ho _ m e.1.symm).2 (by rw [e.2])
theorem Fr.sIa {v : Int} (h : Fr L V G S0 S) (m : (a, none) ∈ L) : Fr L V G S0 (sI S a i v) := h.w (fun b j ho => ⟨by
  show (if b = a ∧ j = i then _ else S.1 b j) = _
  rw [if_neg (fun g => okP_ne ho m g.1)], rfl⟩) (fun _ _ _ => rfl) (fun _ => rfl)
theorem Fr.sLa {v : Int64} (h : Fr L V G S0 S) (m : (a, none) ∈ L) : Fr L V G S0 (sL S a i v) := h.w (fun b j ho => ⟨rfl, by
  show (if b = a ∧ j = i then _ else S.2.1 b j) = _
  rw [if_neg (fun g => okP_ne ho m g.1)]⟩) (fun _ _ _ => rfl) (fun _ => rfl)
theorem Fr.sIf {v : Int} (h : Fr L V G S0 S) (m : (a, some i) ∈ L) : Fr L V G S0 (sI S a i v) := h.w (fun b j ho => ⟨by
  show (if b = a ∧ j = i then _ else S.1 b j) = _
  rw [if_neg (okP_nf ho m)], rfl⟩) (fun _ _ _ => rfl) (fun _ => rfl)
theorem Fr.sLf {v : Int64} (h : Fr L V G S0 S) (m : (a, some i) ∈ L) : Fr L V G S0 (sL S a i v) := h.w (fun b j ho => ⟨rfl, by
  show (if b = a ∧ j = i then _ else S.2.1 b j) = _
  rw [if_neg (okP_nf ho m)]⟩) (fun _ _ _ => rfl) (fun _ => rfl)
theorem Fr.sRf {v : Nat} (h : Fr L V G S0 S) (m : (a, some i) ∈ V) : Fr L V G S0 (sR S a i v) := h.w (fun _ _ _ => ⟨rfl, rfl⟩) (fun b j ho => by
  show (if b = a ∧ j = i then _ else S.2.2.1 b j) = _
  rw [if_neg (okP_nf ho m)]) (fun _ => rfl)
theorem Fr.sCp {b j n : Nat} (h : Fr L V G S0 S) (m : (b, none) ∈ L) : Fr L V G S0 (sCp S a i b j n) := h.w (fun c x ho => ⟨by
  show (if c = b ∧ j ≤ x ∧ x < j + n then _ else S.1 c x) = _
  rw [if_neg (fun g => okP_ne ho m g.1)], rfl⟩) (fun _ _ _ => rfl) (fun _ => rfl)
end FRS
section PFR
variable {τ : Type} {L V : List (Nat × Option Nat)} {G : Bool} {S0 S : Sto} {a i n : Nat} {P : τ → Prop} {k : Sto → Option τ}
theorem PC_wrI {j v : Int} (h : Fr L V G S0 S) (m : (a, none) ∈ L) (g : ∀ S1, Fr L V G S0 S1 → PC (k S1) P) : PC (wrI n S a j v k) P := PC_if (fun _ => g _ (h.sIa m))
theorem PC_wrL {j : Int} {v : Int64} (h : Fr L V G S0 S) (m : (a, none) ∈ L) (g : ∀ S1, Fr L V G S0 S1 → PC (k S1) P) : PC (wrL n S a j v k) P := PC_if (fun _ => g _ (h.sLa m))
theorem PC_wf {v : Int} (h : Fr L V G S0 S) (m : (a, some i) ∈ L) (g : ∀ S1, Fr L V G S0 S1 → PC (k S1) P) : PC (wf S a i v k) P := g _ (h.sIf m)
theorem PC_wfL {v : Int64} (h : Fr L V G S0 S) (m : (a, some i) ∈ L) (g : ∀ S1, Fr L V G S0 S1 → PC (k S1) P) : PC (wfL S a i v k) P := g _ (h.sLf m)
theorem PC_wfR {v : Nat} (h : Fr L V G S0 S) (m : (a, some i) ∈ V) (g : ∀ S1, Fr L V G S0 S1 → gR S1 a i = v → PC (k S1) P) : PC (wfR S a i v k) P := g _ (h.sRf m) (by rw [gR_sR, if_pos ⟨rfl, rfl⟩])
theorem PC_cpI {n1 n2 b : Nat} {i j n : Int} (h : Fr L V G S0 S) (m : (b, none) ∈ L) (g : ∀ S1, Fr L V G S0 S1 → PC (k S1) P) : PC (cpI n1 n2 S a i b j n k) P := PC_if (fun _ => g _ (h.sCp m))
end PFR
theorem fr_mX6_add {L V : List (Nat × Option Nat)} {S0 S : Sto} {a : Nat} {v : Int} (h : Fr L V true S0 S) (m1 : (a + 1, none) ∈ L) (m2 : (a, some 1) ∈ L) (m3 : (a, some 2) ∈ L) (m4 : (a, some 0) ∈ V) : PC (mX6_add S a v) (fun z => Fr L V true S0 z) := by
  have hg : PC (mX6_grow S a) (fun z => Fr L V true S0 z) := by
    unfold mX6_grow
    refine PC_ite (PC_if fun _ => PC_some ?_) (PC_some h)
    refine h.w (fun b j ho => ⟨?_, rfl⟩) (fun b j ho => ?_) (fun e => nomatch e)
    · show (if b = a + 1 ∧ _ then _ else if b = a ∧ j = 2 then _ else S.1 b j) = _
      rw [if_neg (fun g => okP_ne ho m1 g.1), if_neg (okP_nf ho m3)]
    · show (if b = a ∧ j = 0 then _ else S.2.2.1 b j) = _
      rw [if_neg (okP_nf ho m4)]
  unfold mX6_add
  refine PC_bXs _ hg fun z hz => PC_if fun _ => PC_some ?_
  exact (hz.sIf m2).sIa m1
