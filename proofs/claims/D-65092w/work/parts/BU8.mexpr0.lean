/-! the reference tells designs: a whole expression without nodes -/
def mEx (u : Nat → Int) (n N : Nat) (res : Rv VD) (z : Sto) : Prop := match res with
  | .inl r => MsQ u n N z (.inl r.1) ∧ ∀ w, r.2.2 = [w] → gI z 2021 0 = w ∧ 1 ≤ w ∧ w ≤ 8
  | .inr f => MsQ u n N z (.inr f)
section MTX
variable {S z y : Sto} {u : Nat → Int} {n N h M : Nat} {q : Qq} {ms : List Mdl} {cur : Mdl} {j : Nat} {k : List Row3} {res : Rv VD} {f : Int × Int}
theorem PAQ_rc : ∀ a i, PAq QL a i → ¬ (2009 ≤ a ∧ a ≤ 2013) ∧ ¬ (a = 2000 ∧ i = 28) := fun a i q => by unfold PAq QL at q; omega
theorem PAQ_tk : ∀ a i, 2002 ≤ a → a ≤ 2006 → ¬ PAq QL a i := fun a i l1 l2 q => by unfold PAq QL at q; omega
theorem m_expr0 (t : MTk u n N S) (h27 : gI S 2000 27 = 0) (hq : MsQ u n N S (.inl j)) (hc : RCx u n N ms cur M S) (g : oGr (XD u n ms cur) (gE 0) j 0 (k, []) res) : WP (mX23_expression S) (fun z => ChW (PAq QL) S z ∧ mEx u n N res z) := by
  have c0 : ChW (fun a i => a = 2000 ∧ (i = 32 ∨ i = 33 ∨ i = 34)) S (sI (sI (sI S 2000 32 0) 2000 33 0) 2000 34 0) := ((ChW.refl.sI ⟨rfl, Or.inl rfl⟩).sI ⟨rfl, Or.inr (Or.inl rfl)⟩).sI ⟨rfl, Or.inr (Or.inr rfl)⟩
  have hR : Rp0 u n N ms cur M (k, []) (sI (sI (sI S 2000 32 0) 2000 33 0) 2000 34 0) := ⟨trivial, hc.ch c0 (fun a i q => by omega)⟩
  refine (sim_expr (X := XD u n ms cur) XD_in0 (XD_ok t.l) t h27 hq rfl hR g).mono (fun z hz => ⟨hz.1, ?_⟩)
  have hz2 := hz.2
  cases res with
  | inr f => exact hz2
  | inl r =>
    obtain ⟨r1, r2, r3⟩ := r
    obtain ⟨a1, a2, a3, a4⟩ := hz2
    refine ⟨a1, fun w e => ?_⟩
    have e : r3 = [w] := e
    subst e
    exact ⟨a3.1, a3.2.1⟩
/-- an expression when there was a fault before -/
theorem m_exprF (hq : MsQ u n N S (.inr f)) : WP (mX23_expression S) (fun z => ChW (PAq QL) S z ∧ MsQ u n N z (.inr f)) := by
  unfold mX23_expression
  rw [wf_eq, wf_eq, wf_eq]
  generalize hw : sI (sI (sI S 2000 32 0) 2000 33 0) 2000 34 0 = w
  have cw0 : ChW (fun a i => a = 2000 ∧ (i = 32 ∨ i = 33 ∨ i = 34)) S w := by rw [← hw]; exact ((ChW.refl.sI ⟨rfl, Or.inl rfl⟩).sI ⟨rfl, Or.inr (Or.inl rfl)⟩).sI ⟨rfl, Or.inr (Or.inr rfl)⟩
  have qw : MsQ u n N w (.inr f) := hq.ch cw0 (fun i l1 l2 q => by omega)
  refine WP_bX.2 (WP_lpF (fun s => s = (0, w)) (fun _ => 1) rfl (by decide) (fun s hs => ?_))
  subst hs
  unfold mX23_expression_L17
  dsimp only
  rw [m_isRight qw, bX_some, bIf]
  show WP (bX (if false = true then _ else some false) _) _
  rw [if_neg (by decide), bX_some, if_neg (by decide)]
  exact WP_some.2 (WP_some.2 ⟨ChW.refl.tr cw0 (fun a i q => by unfold PAq QL; omega), qw⟩)
end MTX
