/-! loops by counting; joins of conditions -/
theorem lp_more {σ ρ : Type} {f : σ → Option (σ ⊕ ρ)} : ∀ (m m' : Nat) (s : σ) (r : ρ), lp f m s = some r → m ≤ m' → lp f m' s = some r := by
  intro m
  induction m with
  | zero => intro m' s r h _; cases h
  | succ m ih =>
    intro m' s r h hle
    obtain ⟨k, rfl⟩ : ∃ k, m' = k + 1 := ⟨m' - 1, by omega⟩
    have h : (match f s with | none => none | some (.inl s') => lp f m s' | some (.inr r) => some r) = some r := h
    show (match f s with | none => none | some (.inl s') => lp f k s' | some (.inr r) => some r) = some r
    cases hf : f s with
    | none => rw [hf] at h; cases h
    | some x =>
      rw [hf] at h
      cases x with
      | inl s' => exact ih k s' r h (by omega)
      | inr r' => exact h
theorem lp_in {σ ρ : Type} {f : σ → Option (σ ⊕ ρ)} {n : Nat} {s s' : σ} (h : f s = some (.inl s')) : lp f (n + 1) s = lp f n s' := by
  show (match f s with | none => none | some (.inl s') => lp f n s' | some (.inr r) => some r) = _
  rw [h]
theorem lp_out {σ ρ : Type} {f : σ → Option (σ ⊕ ρ)} {n : Nat} {s : σ} {r : ρ} (h : f s = some (.inr r)) : lp f (n + 1) s = some r := by
  show (match f s with | none => none | some (.inl s') => lp f n s' | some (.inr r) => some r) = _
  rw [h]
theorem WP_cnt {σ ρ : Type} {f : σ → Option (σ ⊕ ρ)} {P : ρ → Prop} {s : σ} (n : Nat) (I : Nat → σ → Prop) (hn : n < cFU) (h0 : I 0 s) (step : ∀ i s, i < n → I i s → WP (f s) (WE (I (i + 1)) P)) (stop : ∀ s, I n s → WP (f s) (WE (fun _ => False) P)) : WP (lpF f s) P := by
  have key : ∀ (d i : Nat) (s : σ), i + d = n → I i s → WP (lp f (d + 1) s) P := by
    intro d
    induction d with
    | zero =>
      intro i s hi hI
      have e : i = n := by omega
      subst e
      obtain ⟨x, h1, h2⟩ := stop s hI
      cases x with
      | inl s' => exact h2.elim
      | inr r => exact ⟨r, lp_out h1, h2⟩
    | succ d ih =>
      intro i s hi hI
      obtain ⟨x, h1, h2⟩ := step i s (by omega) hI
      cases x with
      | inl s' =>
        obtain ⟨y, g1, g2⟩ := ih (i + 1) s' (by omega) h2
        exact ⟨y, by rw [lp_in h1]; exact g1, g2⟩
      | inr r => exact ⟨r, lp_out h1, h2⟩
  obtain ⟨x, h1, h2⟩ := key n 0 s (by omega) h0
  exact ⟨x, lp_more _ _ _ _ h1 (by omega), h2⟩
/-- with what every round keeps -/
theorem WP_cntF {σ ρ : Type} {f : σ → Option (σ ⊕ ρ)} {P : ρ → Prop} {s : σ} {F : σ → Prop} {Q : ρ → Prop} (hF0 : F s) (hF : ∀ s, F s → PC (f s) (WE F Q)) (n : Nat) (I : Nat → σ → Prop) (hn : n < cFU) (h0 : I 0 s) (step : ∀ i s, i < n → F s → I i s → WP (f s) (WE (I (i + 1)) (fun r => Q r → P r))) (stop : ∀ s, F s → I n s → WP (f s) (WE (fun _ => False) (fun r => Q r → P r))) : WP (lpF f s) P := by
  refine WP_cnt n (fun i s => F s ∧ I i s) hn ⟨hF0, h0⟩ (fun i s hi h => ?_) (fun s h => ?_)
  · refine ((step i s hi h.1 h.2).pc (hF s h.1)).mono (fun x hx => ?_)
    cases x with
    | inl s' => exact ⟨hx.2, hx.1⟩
    | inr r => exact hx.1 hx.2
  · refine ((stop s h.1 h.2).pc (hF s h.1)).mono (fun x hx => ?_)
    cases x with
    | inl s' => exact hx.1
    | inr r => exact hx.1 hx.2
theorem WP_lpFF {σ ρ : Type} {f : σ → Option (σ ⊕ ρ)} {P : ρ → Prop} {s : σ} {F : σ → Prop} {Q : ρ → Prop} (hF0 : F s) (hF : ∀ s, F s → PC (f s) (WE F Q)) (I : σ → Prop) (μ : σ → Nat) (h0 : I s) (hμ : μ s < cFU) (step : ∀ s, F s → I s → WP (f s) (WE (fun s' => I s' ∧ μ s' < μ s) (fun r => Q r → P r))) : WP (lpF f s) P := by
  refine WP_lpF (fun s => F s ∧ I s) μ ⟨hF0, h0⟩ hμ (fun s h => ?_)
  refine ((step s h.1 h.2).pc (hF s h.1)).mono (fun x hx => ?_)
  cases x with
  | inl s' => exact ⟨⟨hx.2, hx.1.1⟩, hx.1.2⟩
  | inr r => exact hx.1 hx.2
/-- a call whose outcome is known by a contract, and what it keeps -/
theorem WP_callF {σ τ : Type} {m : Option σ} {k : σ → Option τ} {P : τ → Prop} {R Q : σ → Prop} (h : WP m R) (hF : PC m Q) (g : ∀ x, R x → Q x → WP (k x) P) : WP (bX m k) P := WP_bX.2 ((h.pc hF).mono (fun x hx => g x hx.1 hx.2))
theorem WP_call {σ τ : Type} {m : Option σ} {k : σ → Option τ} {P : τ → Prop} {R : σ → Prop} (h : WP m R) (g : ∀ x, R x → WP (k x) P) : WP (bX m k) P := WP_bX.2 (h.mono g)
theorem WP_eq {σ : Type} {m : Option σ} {v : σ} {P : σ → Prop} (h : m = some v) (g : P v) : WP m P := ⟨v, h, g⟩
theorem WP.of {σ : Type} {m : Option σ} {v : σ} (h : WP m (fun x => x = v)) : m = some v := by obtain ⟨x, h1, rfl⟩ := h; exact h1
/-- plain forms of conditions -/
theorem ite_some {α : Type} {c : Prop} [Decidable c] {a b : α} : (if c then some a else some b) = some (if c then a else b) := by split <;> rfl
theorem bX_some {σ τ : Type} {x : σ} {k : σ → Option τ} : bX (some x) k = k x := rfl
theorem bE_inl {σ τ : Type} {x : σ} {k : σ → Option τ} : bE (some (.inl x)) k = k x := rfl
theorem bE_inr {σ τ : Type} {x : τ} {k : σ → Option τ} : bE (some (.inr x)) k = some x := rfl
theorem bT_inl {σ τ : Type} {x : σ} {k : σ → Option (τ ⊕ (Nat × Sto))} : bT (some (.inl x)) k = k x := rfl
theorem bT_inr {σ τ : Type} {x : Nat × Sto} {k : σ → Option (τ ⊕ (Nat × Sto))} : bT (some (.inr x)) k = some (.inr x) := rfl
theorem tt_eq {c : Prop} [Decidable c] : ((if c then true else false) = true) = c := by
  by_cases h : c
  · rw [if_pos h]; exact propext ⟨fun _ => h, fun _ => rfl⟩
  · rw [if_neg h]; exact propext ⟨fun g => (nomatch g), fun g => absurd g h⟩
theorem iteb {c : Prop} [Decidable c] {a b : Bool} : ((if c then a else b) = true) = ((c ∧ a = true) ∨ (¬ c ∧ b = true)) := by
  by_cases h : c
  · rw [if_pos h]; exact propext ⟨fun g => Or.inl ⟨h, g⟩, fun g => g.elim (fun x => x.2) (fun x => absurd h x.1)⟩
  · rw [if_neg h]; exact propext ⟨fun g => Or.inr ⟨h, g⟩, fun g => g.elim (fun x => absurd x.1 h) (fun x => x.2)⟩
theorem w32_ite {c : Prop} [Decidable c] {a b : Int} : w32 (if c then a else b) = if c then w32 a else w32 b := by split <;> rfl
theorem ite01_0 {c : Prop} [Decidable c] : ((if c then (1 : Int) else 0) = 0) = ¬ c := by
  by_cases h : c
  · rw [if_pos h]; exact propext ⟨fun g => (nomatch g), fun g => absurd h g⟩
  · rw [if_neg h]; exact propext ⟨fun _ => h, fun _ => rfl⟩
theorem ite01_1 {c : Prop} [Decidable c] : ((if c then (1 : Int) else 0) = 1) = c := by
  by_cases h : c
  · rw [if_pos h]; exact propext ⟨fun _ => h, fun _ => rfl⟩
  · rw [if_neg h]; exact propext ⟨fun g => (nomatch g), fun g => absurd g h⟩
theorem w01 {c : Prop} [Decidable c] : w32 (if c then (1 : Int) else 0) = if c then 1 else 0 := by split <;> rfl
theorem gz_01 {τ : Type} {c : Prop} [Decidable c] {k : Option τ} : gz (if c then (1 : Int) else 0) k = k := by
  unfold gz
  rw [if_pos]
  split
  · exact Or.inr rfl
  · exact Or.inl rfl
section EVAL
variable {τ : Type} {n : Nat} {S : Sto} {a : Nat} {j v : Int}
theorem rdI_eq {k : Int → Option τ} (h : 0 ≤ w32 j ∧ w32 j < n) : rdI n S a j k = k (gI S a (ixn j)) := if_pos h
theorem rdZ_eq {k : Int → Option τ} (h : 0 ≤ w32 j ∧ w32 j < n) : rdZ n S a j k = k (bz (gI S a (ixn j))) := if_pos h
theorem rdL_eq {k : Int64 → Option τ} (h : 0 ≤ w32 j ∧ w32 j < n) : rdL n S a j k = k (gL S a (ixn j)) := if_pos h
theorem wrI_eq {k : Sto → Option τ} (h : 0 ≤ w32 j ∧ w32 j < n) : wrI n S a j v k = k (sI S a (ixn j) v) := if_pos h
theorem wrL_eq {v : Int64} {k : Sto → Option τ} (h : 0 ≤ w32 j ∧ w32 j < n) : wrL n S a j v k = k (sL S a (ixn j) v) := if_pos h
theorem wf_eq {i : Nat} {k : Sto → Option τ} : wf S a i v k = k (sI S a i v) := rfl
theorem wfL_eq {i : Nat} {v : Int64} {k : Sto → Option τ} : wfL S a i v k = k (sL S a i v) := rfl
theorem wfR_eq {i v : Nat} {k : Sto → Option τ} : wfR S a i v k = k (sR S a i v) := rfl
theorem gk_eq {e κ : Nat} {k : Nat → Option τ} (h : kK e = κ) : gk e κ k = k e := if_pos h
theorem gkc_eq {e κ : Nat} {k : Option τ} (h : kK e = κ) : gkc e κ k = k := if_pos h
end EVAL
theorem gI_sIn {S : Sto} {a i : Nat} {v : Int} {b j : Nat} (h : b ≠ a ∨ j ≠ i) : gI (sI S a i v) b j = gI S b j := by
  rw [hI_sI, if_neg]; rintro ⟨h1, h2⟩; exact h.elim (fun g => g h1) (fun g => g h2)
theorem gI_sIe {S : Sto} {a i : Nat} {v : Int} {b j : Nat} (h : b = a ∧ j = i) : gI (sI S a i v) b j = w32 v := by rw [hI_sI, if_pos h]
theorem gL_sLn {S : Sto} {a i : Nat} {v : Int64} {b j : Nat} (h : b ≠ a ∨ j ≠ i) : gL (sL S a i v) b j = gL S b j := by
  rw [gL_sL, if_neg]; rintro ⟨h1, h2⟩; exact h.elim (fun g => g h1) (fun g => g h2)
theorem gL_sLe {S : Sto} {a i : Nat} {v : Int64} {b j : Nat} (h : b = a ∧ j = i) : gL (sL S a i v) b j = v := by rw [gL_sL, if_pos h]
theorem gR_sRn {S : Sto} {a i v : Nat} {b j : Nat} (h : b ≠ a ∨ j ≠ i) : gR (sR S a i v) b j = gR S b j := by
  rw [gR_sR, if_neg]; rintro ⟨h1, h2⟩; exact h.elim (fun g => g h1) (fun g => g h2)
theorem gR_sRe {S : Sto} {a i v : Nat} {b j : Nat} (h : b = a ∧ j = i) : gR (sR S a i v) b j = v := by rw [gR_sR, if_pos h]
theorem hC_sI {S : Sto} {a i : Nat} {v : Int} : nC (sI S a i v) = nC S := rfl
theorem nS_sI {S : Sto} {a i : Nat} {v : Int} : nS (sI S a i v) = nS S := rfl
theorem nC_sL {S : Sto} {a i : Nat} {v : Int64} : nC (sL S a i v) = nC S := rfl
theorem nS_sL {S : Sto} {a i : Nat} {v : Int64} : nS (sL S a i v) = nS S := rfl
theorem gI_thr {S : Sto} {a i : Nat} : gI (thrS S) a i = gI S a i := rfl
theorem gL_thr {S : Sto} {a i : Nat} : gL (thrS S) a i = gL S a i := rfl
theorem gR_thr {S : Sto} {a i : Nat} : gR (thrS S) a i = gR S a i := rfl
theorem nC_thr {S : Sto} : nC (thrS S) = nC S + 1 := rfl
theorem nS_thr {S : Sto} : nS (thrS S) = nS S + 6 := rfl
theorem okP_lab {W : List (Nat × Option Nat)} {a i : Nat} (h : ∀ z ∈ W, z.1 ≠ a) : okP W a i := fun z hz e => absurd e (h z hz)
