/-! calls that change something -/
theorem str_disj {s d e i : Nat} (hne : d ≠ e) (h1 : s * d ≤ i) (h2 : i < s * d + s) (h3 : s * e ≤ i) (h4 : i < s * e + s) : False := by
  rcases Nat.lt_or_gt_of_ne hne with g | g
  · have : s * (d + 1) ≤ s * e := Nat.mul_le_mul_left s g
    rw [Nat.mul_add, Nat.mul_one] at this
    omega
  · have : s * (e + 1) ≤ s * d := Nat.mul_le_mul_left s g
    rw [Nat.mul_add, Nat.mul_one] at this
    omega
theorem HeapOk.up {c : Nat} {S S' : Sto} (h : HeapOk c S) (h1 : nC S' ≤ nC S + 10) (h2 : nS S' ≤ nS S + 20000) : HeapOk (c + 1) S' := by unfold HeapOk at h ⊢; omega
theorem Inv.putG {c d : Nat} {S S' : Sto} (h : Inv c S) (hd : d < 6) (e : ∀ a i, kept a i = true → ¬ (273 + 9 * d ≤ a ∧ a ≤ 273 + 9 * d + 8) → ¬ (2037 ≤ a ∧ a ≤ 2053 ∧ strG a * d ≤ i ∧ i < strG a * d + strG a) → ¬ ((a = 432 ∨ a = 2036) ∧ i = d) → gI S' a i = gI S a i) (eL : ∀ a i, (a = 365 ∨ a = 387 ∨ a = 409 ∨ a = 431) ∨ a = 2175 → gL S' a i = gL S a i) (h1 : nC S' ≤ nC S + 10) (h2 : nS S' ≤ nS S + 20000) (hn : InvG S' d) : Inv (c + 1) S' := by
  obtain ⟨g1, g2, g3, g4, g5, g6, g7⟩ := h
  have e' : ∀ a i, kept a i = true → (a < 273 ∨ 326 < a) → (a < 2037 ∨ 2053 < a) → ¬ ((a = 432 ∨ a = 2036) ∧ i = d) → gI S' a i = gI S a i := fun a i q q1 q2 q3 => e a i q (by omega) (by omega) q3
  refine ⟨g1.up h1 h2, ?_, ?_, ?_, fun f hf => ?_, fun f hf => ?_, fun f hf => ?_⟩
  · exact g2.cg (Nat.le_succ _) (e' _ _ (kept_rng (by omega)) (by omega) (by omega) (by omega)) (e' _ _ (kept_rng (by omega)) (by omega) (by omega) (by omega)) (fun i => e' _ _ (kept_rng (by omega)) (by omega) (by omega) (by omega)) (fun i => e' _ _ (kept_rng (by omega)) (by omega) (by omega) (by omega))
  · exact g3.cg (Nat.le_succ _) (e' _ _ (kept_rng (by omega)) (by omega) (by omega) (by omega)) (e' _ _ (kept_rng (by omega)) (by omega) (by omega) (by omega)) (fun a i q => e' a i (keptN_kept q) (by have := keptN_rng q; omega) (by have := keptN_rng q; omega) (by have := keptN_rng q; omega))
  · exact g4.cg (e' _ _ (kept_rng (by omega)) (by omega) (by omega) (by omega)) (e' _ _ (kept_rng (by omega)) (by omega) (by omega) (by omega)) (fun i => e' _ _ (kept_rng (by omega)) (by omega) (by omega) (by omega)) (fun i => e' _ _ (kept_rng (by omega)) (by omega) (by omega) (by omega))
  · by_cases q : f = d
    · subst q; exact hn
    · exact (g5 f hf).cg (e' _ _ (kept_rng (by omega)) (by omega) (by omega) (by omega)) (e' _ _ (kept_rng (by omega)) (by omega) (by omega) (by omega)) (fun a i l1 l2 => e _ _ (kept_rng (by omega)) (by omega) (by omega) (by omega)) (fun a i l1 l2 l3 l4 => e _ _ (kept_rng (by omega)) (by omega) (fun z => str_disj q l3 l4 z.2.2.1 z.2.2.2) (by omega))
  · exact (g6 f hf).cg (e' _ _ (kept_rng (by omega)) (by omega) (by omega) (by omega)) (e' _ _ (kept_rng (by omega)) (by omega) (by omega) (by omega)) (fun a i l1 l2 => e' _ _ (kept_rng (by omega)) (by omega) (by omega) (by omega)) (e' _ _ (kept_rng (by omega)) (by omega) (by omega) (by omega)) (fun a i l1 l2 _ _ => e' _ _ (kept_rng (by omega)) (by omega) (by omega) (by omega))
  · exact (g7 f hf).cg (e' _ _ (kept_rng (by omega)) (by omega) (by omega) (by omega)) (e' _ _ (kept_rng (by omega)) (by omega) (by omega) (by omega)) (fun a i l1 l2 => e' _ _ (kept_rng (by omega)) (by omega) (by omega) (by omega)) (fun i => eL _ _ (by omega)) (fun a i l => e' _ _ (ownC_kept l) (by have := l.1; omega) (by have := l.1; omega) (by have := l.1; omega)) (fun i l => eL _ _ (by omega))
theorem Inv.putC {c k : Nat} {S S' : Sto} (h : Inv c S) (hk : k < 4) (e : ∀ a i, kept a i = true → ¬ (344 + 22 * k ≤ a ∧ a ≤ 344 + 22 * k + 21) → ¬ ownC k a i → ¬ ((a = 434 ∨ a = 2105) ∧ i = k) → gI S' a i = gI S a i) (eL : ∀ a i, (a = 365 ∨ a = 387 ∨ a = 409 ∨ a = 431) ∨ a = 2175 → a ≠ 344 + 22 * k + 21 → ¬ ownC k a i → gL S' a i = gL S a i) (h1 : nC S' ≤ nC S + 10) (h2 : nS S' ≤ nS S + 20000) (hn : InvC S' k) : Inv (c + 1) S' := by
  obtain ⟨g1, g2, g3, g4, g5, g6, g7⟩ := h
  have e' : ∀ a i, kept a i = true → (a < 344 ∨ 431 < a) → a < 2106 → ¬ ((a = 434 ∨ a = 2105) ∧ i = k) → gI S' a i = gI S a i := fun a i q q1 q2 q3 => e a i q (by omega) (fun z => by have := z.1; omega) q3
  refine ⟨g1.up h1 h2, ?_, ?_, ?_, fun f hf => ?_, fun f hf => ?_, fun f hf => ?_⟩
  · exact g2.cg (Nat.le_succ _) (e' _ _ (kept_rng (by omega)) (by omega) (by omega) (by omega)) (e' _ _ (kept_rng (by omega)) (by omega) (by omega) (by omega)) (fun i => e' _ _ (kept_rng (by omega)) (by omega) (by omega) (by omega)) (fun i => e' _ _ (kept_rng (by omega)) (by omega) (by omega) (by omega))
  · exact g3.cg (Nat.le_succ _) (e' _ _ (kept_rng (by omega)) (by omega) (by omega) (by omega)) (e' _ _ (kept_rng (by omega)) (by omega) (by omega) (by omega)) (fun a i q => e' a i (keptN_kept q) (by have := keptN_rng q; omega) (by have := keptN_rng q; omega) (by have := keptN_rng q; omega))
  · exact g4.cg (e' _ _ (kept_rng (by omega)) (by omega) (by omega) (by omega)) (e' _ _ (kept_rng (by omega)) (by omega) (by omega) (by omega)) (fun i => e' _ _ (kept_rng (by omega)) (by omega) (by omega) (by omega)) (fun i => e' _ _ (kept_rng (by omega)) (by omega) (by omega) (by omega))
  · exact (g5 f hf).cg (e' _ _ (kept_rng (by omega)) (by omega) (by omega) (by omega)) (e' _ _ (kept_rng (by omega)) (by omega) (by omega) (by omega)) (fun a i l1 l2 => e' _ _ (kept_rng (by omega)) (by omega) (by omega) (by omega)) (fun a i l1 l2 l3 l4 => e' _ _ (kept_rng (by omega)) (by omega) (by omega) (by omega))
  · exact (g6 f hf).cg (e' _ _ (kept_rng (by omega)) (by omega) (by omega) (by omega)) (e' _ _ (kept_rng (by omega)) (by omega) (by omega) (by omega)) (fun a i l1 l2 => e' _ _ (kept_rng (by omega)) (by omega) (by omega) (by omega)) (e' _ _ (kept_rng (by omega)) (by omega) (by omega) (by omega)) (fun a i l1 l2 _ _ => e' _ _ (kept_rng (by omega)) (by omega) (by omega) (by omega))
  · by_cases q : f = k
    · subst q; exact hn
    · have dj : ∀ a i, ownC f a i → ¬ ownC k a i := fun a i x y => str_disj q x.2.1 x.2.2 y.2.1 y.2.2
      exact (g7 f hf).cg (e' _ _ (kept_rng (by omega)) (by omega) (by omega) (by omega)) (e' _ _ (kept_rng (by omega)) (by omega) (by omega) (by omega)) (fun a i l1 l2 => e _ _ (kept_rng (by omega)) (by omega) (fun z => by have := z.1; omega) (by omega)) (fun i => eL _ _ (by omega) (by omega) (fun z => by have := z.1; omega)) (fun a i l => e _ _ (ownC_kept l) (by have := l.1; omega) (dj _ _ l) (by have := l.1; omega)) (fun i l => eL _ _ (by omega) (by omega) (dj _ _ l))
theorem Inv.putL {c d : Nat} {S S' : Sto} (h : Inv c S) (hd : d < 3) (e : ∀ a i, kept a i = true → ¬ (328 + 5 * d ≤ a ∧ a ≤ 328 + 5 * d + 4) → ¬ ((a = 2067 ∧ i = d) ∨ (2068 ≤ a ∧ a ≤ 2071 ∧ 12 * d ≤ i ∧ i < 12 * d + 12)) → ¬ ((a = 433 ∨ a = 2066) ∧ i = d) → gI S' a i = gI S a i) (eL : ∀ a i, (a = 365 ∨ a = 387 ∨ a = 409 ∨ a = 431) ∨ a = 2175 → gL S' a i = gL S a i) (h1 : nC S' ≤ nC S + 10) (h2 : nS S' ≤ nS S + 20000) (hn : InvL S' d) : Inv (c + 1) S' := by
  obtain ⟨g1, g2, g3, g4, g5, g6, g7⟩ := h
  have e' : ∀ a i, kept a i = true → (a < 328 ∨ 342 < a) → (a < 2067 ∨ 2071 < a) → ¬ ((a = 433 ∨ a = 2066) ∧ i = d) → gI S' a i = gI S a i := fun a i q q1 q2 q3 => e a i q (by omega) (by omega) q3
  refine ⟨g1.up h1 h2, ?_, ?_, ?_, fun f hf => ?_, fun f hf => ?_, fun f hf => ?_⟩
  · exact g2.cg (Nat.le_succ _) (e' _ _ (kept_rng (by omega)) (by omega) (by omega) (by omega)) (e' _ _ (kept_rng (by omega)) (by omega) (by omega) (by omega)) (fun i => e' _ _ (kept_rng (by omega)) (by omega) (by omega) (by omega)) (fun i => e' _ _ (kept_rng (by omega)) (by omega) (by omega) (by omega))
  · exact g3.cg (Nat.le_succ _) (e' _ _ (kept_rng (by omega)) (by omega) (by omega) (by omega)) (e' _ _ (kept_rng (by omega)) (by omega) (by omega) (by omega)) (fun a i q => e' a i (keptN_kept q) (by have := keptN_rng q; omega) (by have := keptN_rng q; omega) (by have := keptN_rng q; omega))
  · exact g4.cg (e' _ _ (kept_rng (by omega)) (by omega) (by omega) (by omega)) (e' _ _ (kept_rng (by omega)) (by omega) (by omega) (by omega)) (fun i => e' _ _ (kept_rng (by omega)) (by omega) (by omega) (by omega)) (fun i => e' _ _ (kept_rng (by omega)) (by omega) (by omega) (by omega))
  · exact (g5 f hf).cg (e' _ _ (kept_rng (by omega)) (by omega) (by omega) (by omega)) (e' _ _ (kept_rng (by omega)) (by omega) (by omega) (by omega)) (fun a i l1 l2 => e' _ _ (kept_rng (by omega)) (by omega) (by omega) (by omega)) (fun a i l1 l2 l3 l4 => e' _ _ (kept_rng (by omega)) (by omega) (by omega) (by omega))
  · by_cases q : f = d
    · subst q; exact hn
    · exact (g6 f hf).cg (e' _ _ (kept_rng (by omega)) (by omega) (by omega) (by omega)) (e' _ _ (kept_rng (by omega)) (by omega) (by omega) (by omega)) (fun a i l1 l2 => e _ _ (kept_rng (by omega)) (by omega) (by omega) (by omega)) (e _ _ (kept_rng (by omega)) (by omega) (by omega) (by omega)) (fun a i l1 l2 l3 l4 => e _ _ (kept_rng (by omega)) (by omega) (by omega) (by omega))
  · exact (g7 f hf).cg (e' _ _ (kept_rng (by omega)) (by omega) (by omega) (by omega)) (e' _ _ (kept_rng (by omega)) (by omega) (by omega) (by omega)) (fun a i l1 l2 => e' _ _ (kept_rng (by omega)) (by omega) (by omega) (by omega)) (fun i => eL _ _ (by omega)) (fun a i l => e' _ _ (ownC_kept l) (by have := l.1; omega) (by have := l.1; omega) (by have := l.1; omega)) (fun i l => eL _ _ (by omega))
theorem L_modF {c : Nat} {S : Sto} {m : Option ((Int × Sto) ⊕ (Nat × Sto))} {m1 : Sto → Option (Int × Sto)} {cs : List (Nat × Int)} (code : Int) (kd : Nat) (h : Inv c S) (hc : c < 64)
    (hx : m = some (.inr (kd, thrS S))) (hcs : cs.lookup kd = some code) (hcode : 0 < code ∧ code < 10)
    (hm : ∀ S1, (∀ a i, gI S1 a i = gI S a i) → m1 S1 = some (0, sI S1 2000 0 code)) :
    WP (bX (bC m (fun x1 => wrL 1 x1.2 2178 0 (i2l x1.1) fun S2 => some (0, S2)) cs) fun x1 => bX (m1 x1.2) fun x2 => bX (mX23_thrown x2.2) fun x3 => if ¬ w32 x3 = w32 x1.1 then none else bX (if w32 x1.1 = 0 then rdL 1 x2.2 2178 0 fun v4 => if ¬ w32 (lCmp v4 (i2l x2.1)) = 0 then some true else some false else some false) fun b => if b = true then none else some x2.2) (Inv (c + 1)) := by
  refine L_val (bC_WP ?_)
  rw [hx, WP_some, WE_inr]
  refine ⟨code, hcs, ?_⟩
  show WP (m1 (thrS S)) _
  rw [hm (thrS S) (fun _ _ => rfl)]
  refine WP_some.2 ⟨?_, fun g => absurd g (by omega), .inr (by rw [w32_id (by omega)]; omega), h.q2 hc⟩
  rw [hI_sI, if_pos ⟨rfl, rfl⟩, w32_w32]
theorem L_modS {c : Nat} {m : Option ((Int × Sto) ⊕ (Nat × Sto))} {m1 : Sto → Option (Int × Sto)} {cs : List (Nat × Int)}
    (hm : WP m (WE (fun x => WP (m1 (sL x.2 2178 0 (i2l x.1))) (fun y => y.1 = x.1 ∧ gI y.2 2000 0 = 0 ∧ gL y.2 2178 0 = i2l x.1 ∧ Inv (c + 1) y.2)) (fun _ => False))) :
    WP (bX (bC m (fun x1 => wrL 1 x1.2 2178 0 (i2l x1.1) fun S2 => some (0, S2)) cs) fun x1 => bX (m1 x1.2) fun x2 => bX (mX23_thrown x2.2) fun x3 => if ¬ w32 x3 = w32 x1.1 then none else bX (if w32 x1.1 = 0 then rdL 1 x2.2 2178 0 fun v4 => if ¬ w32 (lCmp v4 (i2l x2.1)) = 0 then some true else some false else some false) fun b => if b = true then none else some x2.2) (Inv (c + 1)) := by
  refine L_val (bC_WP (hm.mono fun z hz => ?_))
  cases z with
  | inr t => exact False.elim hz
  | inl x =>
    show WP (wrL 1 x.2 2178 0 (i2l x.1) _) _
    rw [wrL_e (by omega)]
    refine WP_some.2 ?_
    refine WP.mono (m := m1 (sL x.2 2178 0 (i2l x.1))) hz (fun y hy => ?_)
    obtain ⟨q1, q2, q3, q4⟩ := hy
    exact ⟨by rw [q2], fun _ => by rw [q3, q1], .inl rfl, q4⟩
/-- a field of a record is another one now -/
def setD (G : Dsg) (f : Nat) (v : Int) : Dsg := fun f' i => if f' = f then v else G f' i
theorem RepG.st {S S' : Sto} {L : Nat} {G : Dsg} {v : Int} (h : RepG S L G) (e : ∀ a i, L ≤ a → a ≤ L + 8 → ¬ (a = L ∧ i = 8) → gI S' a i = gI S a i) (ev : gI S' L 8 = v) : RepG S' L (setD G 12 v) := by
  obtain ⟨h1, h2, h3, h4, h5, h6⟩ := h
  refine ⟨?_, fun n q1 q2 => ?_, fun n q1 => ?_, fun n q1 => ?_, fun n q1 => ?_, fun n q1 => ?_⟩
  · obtain ⟨a1, a2, a3, a4, a5, a6, a7, a8⟩ := h1
    exact ⟨(e _ _ (by omega) (by omega) (by omega)).trans a1, (e _ _ (by omega) (by omega) (by omega)).trans a2, (e _ _ (by omega) (by omega) (by omega)).trans a3, (e _ _ (by omega) (by omega) (by omega)).trans a4, (e _ _ (by omega) (by omega) (by omega)).trans a5, ev, (e _ _ (by omega) (by omega) (by omega)).trans a7, (e _ _ (by omega) (by omega) (by omega)).trans a8⟩
  · exact ⟨(e _ _ (by omega) (by omega) (by omega)).trans (h2 n q1 q2).1, (e _ _ (by omega) (by omega) (by omega)).trans (h2 n q1 q2).2⟩
  · exact ⟨(e _ _ (by omega) (by omega) (by omega)).trans (h3 n q1).1, (e _ _ (by omega) (by omega) (by omega)).trans (h3 n q1).2⟩
  · exact (e _ _ (by omega) (by omega) (by omega)).trans (h4 n q1)
  · exact (e _ _ (by omega) (by omega) (by omega)).trans (h5 n q1)
  · exact ⟨(e _ _ (by omega) (by omega) (by omega)).trans (h6 n q1).1, (e _ _ (by omega) (by omega) (by omega)).trans (h6 n q1).2⟩
theorem RefG.st {S S' : Sto} {d : Nat} {G : Dsg} {v : Int} (h : RefG S d G) (e : ∀ a i, 2037 ≤ a → a ≤ 2053 → a ≠ 2041 → gI S' a i = gI S a i) (ev : gI S' 2041 d = v) : RefG S' d (setD G 12 v) := by
  obtain ⟨h1, h2, h3, h4, h5, h6⟩ := h
  refine ⟨?_, fun n q1 q2 => ?_, fun n q1 => ?_, fun n q1 => ?_, fun n q1 => ?_, fun n q1 => ?_⟩
  · obtain ⟨a1, a2, a3, a4, a5, a6, a7, a8, a9, a10⟩ := h1
    exact ⟨(e _ _ (by omega) (by omega) (by omega)).trans a1, (e _ _ (by omega) (by omega) (by omega)).trans a2, (e _ _ (by omega) (by omega) (by omega)).trans a3, (e _ _ (by omega) (by omega) (by omega)).trans a4, (e _ _ (by omega) (by omega) (by omega)).trans a5, (e _ _ (by omega) (by omega) (by omega)).trans a6, ev, (e _ _ (by omega) (by omega) (by omega)).trans a8, (e _ _ (by omega) (by omega) (by omega)).trans a9, (e _ _ (by omega) (by omega) (by omega)).trans a10⟩
  · exact ⟨(e _ _ (by omega) (by omega) (by omega)).trans (h2 n q1 q2).1, (e _ _ (by omega) (by omega) (by omega)).trans (h2 n q1 q2).2⟩
  · exact (e _ _ (by omega) (by omega) (by omega)).trans (h3 n q1)
  · exact (e _ _ (by omega) (by omega) (by omega)).trans (h4 n q1)
  · exact (e _ _ (by omega) (by omega) (by omega)).trans (h5 n q1)
  · exact ⟨(e _ _ (by omega) (by omega) (by omega)).trans (h6 n q1).1, (e _ _ (by omega) (by omega) (by omega)).trans (h6 n q1).2⟩
theorem WFG.st {G : Dsg} {v : Int} (w : WFG G) (hv : 0 ≤ v ∧ v < 2 ^ gSt G) : WFG (setD G 12 v) := by
  obtain ⟨w1, w2, w3, w4, w5, w6, w7⟩ := w
  exact ⟨w1, w2, w3, w4, w5, w6, w7.1, w7.2.1, hv.1, hv.2, w7.2.2.2.2⟩
/-- the state of a design is another one on both sides -/
theorem Inv.stG {c d : Nat} {S S' : Sto} {G : Dsg} {v : Int} (h : Inv c S) (hd : d < 6) (ht : thG S d) (w : WFG G) (r : RepG S (273 + 9 * d) G) (m : RefG S d G) (hv : 0 ≤ v ∧ v < 2 ^ gSt G)
    (e : ∀ a i, kept a i = true → ¬ (a = 273 + 9 * d ∧ i = 8) → ¬ (a = 2041 ∧ i = d) → gI S' a i = gI S a i) (e1 : gI S' (273 + 9 * d) 8 = v) (e2 : gI S' 2041 d = v) (eL : ∀ a i, (a = 365 ∨ a = 387 ∨ a = 409 ∨ a = 431) ∨ a = 2175 → gL S' a i = gL S a i) (h1 : nC S' ≤ nC S + 10) (h2 : nS S' ≤ nS S + 20000) : Inv (c + 1) S' := by
  refine h.putG hd (fun a i q q1 q2 _ => e a i q (by omega) (fun z => q2 ?_)) eL h1 h2 ?_
  · obtain ⟨rfl, rfl⟩ := z
    exact ⟨by omega, by omega, show 1 * i ≤ i by omega, show i < 1 * i + 1 by omega⟩
  · have hg := h.2.2.2.2.1 d hd
    have e432 : gI S' 432 d = gI S 432 d := e _ _ (kept_rng (by omega)) (by omega) (by omega)
    unfold InvG at hg ⊢
    refine ⟨by rw [e432]; exact hg.1, by rw [e432, e 2036 d (kept_rng (by omega)) (by omega) (by omega)]; exact hg.2.1, fun _ => ⟨setD G 12 v, w.st hv, r.st (fun a i l1 l2 l3 => e _ _ (kept_rng (by omega)) l3 (by omega)) e1, ?_⟩⟩
    have m2 : RefG (sI S 2041 d v) d (setD G 12 v) := m.st (fun a i l1 l2 l3 => hI_sI_a l3) (by rw [hI_sI, if_pos ⟨rfl, rfl⟩, w32_id]; have := w.1; have q9 : 2 ^ gSt G ≤ 2 ^ 6 := Nat.pow_le_pow_right (by omega) (by unfold gSt; omega); have q8 := ipow (gSt G); omega)
    refine m2.cg (w.st hv) (fun a i l1 l2 l3 l4 => ?_)
    rw [hI_sI]
    split
    · rename_i z
      obtain ⟨rfl, rfl⟩ := z
      rw [e2, w32_id]; have := w.1; have q9 : 2 ^ gSt G ≤ 2 ^ 6 := Nat.pow_le_pow_right (by omega) (by unfold gSt; omega); have q8 := ipow (gSt G); omega
    · rename_i z
      exact e _ _ (kept_rng (by omega)) (by omega) z
theorem thG.of {c : Nat} {S : Sto} {k : Nat} (h : Inv c S) (hq : isDs S (k : Int)) (hk : k < 6) : thG S k := by
  have hC := (h.2.2.2.2.1 k hk).1
  rcases hC with g | g
  · exact absurd g hq.2.2
  · exact g
theorem WFG.st64 {G : Dsg} (w : WFG G) : 0 ≤ G 11 0 ∧ G 11 0 < 64 ∧ 0 ≤ G 12 0 ∧ G 12 0 < 64 ∧ ∀ p, p < 2 ^ (gIn G + gSt G) → 0 ≤ G 10 p ∧ G 10 p < 64 ∧ 0 ≤ G 9 p ∧ G 9 p < 65536 := by
  have hn := w.nums
  have wv := w.2.2.2.2.2.2
  have wp := w.2.2.2.2.2.1
  have q9 : 2 ^ gSt G ≤ 2 ^ 6 := Nat.pow_le_pow_right (by omega) (by omega)
  have q8 := ipow (gSt G)
  have q7 : 2 ^ gOu G ≤ 2 ^ 16 := Nat.pow_le_pow_right (by omega) (by omega)
  have q6 := ipow (gOu G)
  refine ⟨by omega, by omega, by omega, by omega, fun p hp => ?_⟩
  have := wp p hp
  omega
theorem m_isBelow {p : Int} {n P : Nat} (hP : 2 ^ n = P) (hn : n ≤ 30) (hp : -2147483648 ≤ p ∧ p < 2147483648) : mX23_isBelow p (n : Int) = some (if ¬ p < 0 then (if p < (P : Int) then 1 else 0) else 0) := by
  have hq := pow_le31 hn
  rw [hP] at hq
  unfold mX23_isBelow
  rw [aShl1 hn, hP, w32_id hp, w32_id (by omega)]
  by_cases h1 : p < 0
  · rw [if_neg (by omega), if_neg (by omega)]; rfl
  · rw [if_pos (by omega), if_pos h1]
    by_cases h2 : p < (P : Int)
    · rw [if_pos h2, if_pos h2]; rfl
    · rw [if_neg h2, if_neg h2]; rfl
theorem Inv.stG' {c d : Nat} {S : Sto} {G : Dsg} {v z : Int} {x : Int64} (h : Inv c S) (hd : d < 6) (ht : thG S d) (w : WFG G) (r : RepG S (273 + 9 * d) G) (m : RefG S d G) (hv : 0 ≤ v ∧ v < 2 ^ gSt G) : Inv (c + 1) (sI (sI (sL (sI S (273 + 9 * d) 8 v) 2178 0 x) 2000 0 z) 2041 d v) := by
  have q9 : 2 ^ gSt G ≤ 2 ^ 6 := Nat.pow_le_pow_right (by omega) (by have := w.nums; omega)
  have q8 := ipow (gSt G)
  have eS : ∀ a i, gI (sL (sI S (273 + 9 * d) 8 v) 2178 0 x) a i = if a = 273 + 9 * d ∧ i = 8 then v else gI S a i := fun a i => by show gI (sI S (273 + 9 * d) 8 v) a i = _; rw [hI_sI, w32_id (by omega)]
  refine h.stG hd ht w r m (v := v) hv (fun a i z z1 z2 => ?_) ?_ ?_ (fun a i z => ?_) (Nat.le_add_right _ _) (Nat.le_add_right _ _)
  · rw [hI_sI, if_neg z2, hI_sI, if_neg, eS, if_neg z1]
    rintro ⟨rfl, rfl⟩; exact absurd z (by decide)
  · rw [hI_sI_a (by omega), hI_sI_a (by omega), eS, if_pos ⟨rfl, rfl⟩]
  · rw [hI_sI, if_pos ⟨rfl, rfl⟩, w32_id (by omega)]
  · show gL (sL (sI S (273 + 9 * d) 8 v) 2178 0 x) a i = _
    rw [gL_sL, if_neg (by omega)]; rfl
section MODD
variable {c : Nat} {S : Sto}
theorem L14 {p1 : Int} (h : Inv c S) (hc : c < 64) (h1 : i32 p1) : WP (mL_14 S p1) (Inv (c + 1)) := by
  have rx := h.1.x hc
  unfold mL_14 mX0_restart
  by_cases hq : isDs S p1
  · have hx := designIn_t hq; obtain ⟨k, G, hk, rfl, w, r, m⟩ := InvG.get h hq; rw [Int.toNat_natCast] at hx; have hn := w.nums
    have ht := thG.of h hq hk
    have wv := w.st64
    refine L_modS (m1 := fun S1 => mX23_restart S1 _) ?_
    simp (disch := omega) only [mX1_restart, hx, gI_thr, gz_0, gz_1, true_or, or_true, or_false, false_or, rdI_e, rdZ_e, rdL_e, wrI_e, wrL_e, bX_some, bE_inl, bE_inr, bT_inl, bT_inr, wf_eq, wfL_eq, wfR_eq, gkc_chip, gkc_dsg, gkc_lib, gk_chip, gk_dsg, gk_lib, gth_e rx, inside_0 rx, inside_1, need_0 rx, need_1, now_0 rx, now_1, roomX_0 rx, roomX_1, w32_id, w32_gI, ← Int.not_lt, not_true_eq_false, not_false_eq_true, if_true, if_false, reduceIte, Bool.false_eq_true, Int.toNat_natCast, Int.reduceToNat, Int.toNat_add, Int.toNat_mul, Int.reduceLT, Int.reduceEq, Int.reduceNeg, Nat.reduceAdd, hI_sI, and_self, Nat.reduceEqDiff, true_and, and_true, and_false, false_and, ne_eq, WP_some, WE_inl, r.1.2.2.2.2.1, r.1.2.2.2.2.2.1]
    generalize hS1 : sL (sI S (273 + 9 * k) 8 (G 11 0)) 2178 0 (i2l (G 12 0)) = S1
    have eS : ∀ a i, gI S1 a i = if a = 273 + 9 * k ∧ i = 8 then G 11 0 else gI S a i := fun a i => by rw [← hS1]; show gI (sI S (273 + 9 * k) 8 (G 11 0)) a i = _; rw [hI_sI, w32_id (by omega)]
    have eL : ∀ a i, ¬ (a = 2178 ∧ i = 0) → gL S1 a i = gL S a i := fun a i z => by rw [← hS1, gL_sL, if_neg z]; rfl
    have eN : ∀ a i, ¬ (a = 273 + 9 * k ∧ i = 8) → gI S1 a i = gI S a i := fun a i z => by rw [eS, if_neg z]
    simp (disch := omega) only [mX23_restart, m_isDesign_w h (fun i => eN 432 i (by omega)) (fun i => eN 2036 i (by omega)) h1 hq, gI_thr, gz_0, gz_1, true_or, or_true, or_false, false_or, rdI_e, rdZ_e, rdL_e, wrI_e, wrL_e, bX_some, bE_inl, bE_inr, bT_inl, bT_inr, wf_eq, wfL_eq, wfR_eq, gkc_chip, gkc_dsg, gkc_lib, gk_chip, gk_dsg, gk_lib, gth_e rx, inside_0 rx, inside_1, need_0 rx, need_1, now_0 rx, now_1, roomX_0 rx, roomX_1, w32_id, w32_gI, ← Int.not_lt, not_true_eq_false, not_false_eq_true, if_true, if_false, reduceIte, Bool.false_eq_true, Int.toNat_natCast, Int.reduceToNat, Int.toNat_add, Int.toNat_mul, Int.reduceLT, Int.reduceEq, Int.reduceNeg, Nat.reduceAdd, hI_sI, and_self, Nat.reduceEqDiff, true_and, and_true, and_false, false_and, ne_eq, eN, m.1.2.2.2.2.2.1, m.1.2.2.2.2.2.2.1, WP_some]
    exact ⟨by rw [← hS1]; rfl, by rw [← hS1]; exact h.stG' hk ht w r m ⟨w.2.2.2.2.2.2.1, w.2.2.2.2.2.2.2.1⟩⟩
  · refine L_modF (m1 := fun S1 => mX23_restart S1 _) 1 1 h hc ?_ rfl (by omega) (fun S1 eS => ?_)
    · rw [mX1_restart, designIn_f hq rx h1]; rfl
    · unfold mX23_restart; rw [m_isDesign_f h eS h1 hq]; rfl
theorem L12 {p1 p2 : Int} (h : Inv c S) (hc : c < 64) (h1 : i32 p1) (h2 : i32 p2) : WP (mL_12 S p1 p2) (Inv (c + 1)) := by
  have rx := h.1.x hc
  unfold mL_12 mX0_play
  by_cases hq : isDs S p1
  · have hx := designIn_t hq; obtain ⟨k, G, hk, rfl, w, r, m⟩ := InvG.get h hq; rw [Int.toNat_natCast] at hx; have hn := w.nums
    have ht := thG.of h hq hk
    have wv := w.st64
    unfold i32 at h2
    have ri : gI S (273 + 9 * k) 4 = gIn G := by rw [r.1.1, w.i]
    have mi : gI S 2037 k = gIn G := by rw [m.1.1, w.i]
    have hsh := aShl1 (k := gIn G) (by omega)
    obtain ⟨P, hP⟩ : ∃ P, 2 ^ gIn G = P := ⟨_, rfl⟩
    have hpl : P ≤ 4096 := by rw [← hP]; exact Nat.pow_le_pow_right (n := 2) (by omega) (show gIn G ≤ 12 by omega)
    rw [hP] at hsh
    have ib := m_isBelow hP (by omega) h2
    by_cases q1 : p2 < 0
    · refine L_modF (m1 := fun S1 => mX23_play S1 _ _) 2 2 h hc ?_ rfl (by omega) (fun S1 eS => ?_)
      · simp (disch := omega) only [mX1_play, hx, gI_thr, gz_0, gz_1, true_or, or_true, or_false, false_or, rdI_e, rdZ_e, rdL_e, wrI_e, wrL_e, bX_some, bE_inl, bE_inr, bT_inl, bT_inr, wf_eq, wfL_eq, wfR_eq, gkc_chip, gkc_dsg, gkc_lib, gk_chip, gk_dsg, gk_lib, gth_e rx, inside_0 rx, inside_1, need_0 rx, need_1, now_0 rx, now_1, roomX_0 rx, roomX_1, w32_id, w32_gI, ← Int.not_lt, not_true_eq_false, not_false_eq_true, if_true, if_false, reduceIte, Bool.false_eq_true, Int.toNat_natCast, Int.reduceToNat, Int.toNat_add, Int.toNat_mul, Int.reduceLT, Int.reduceEq, Int.reduceNeg, Nat.reduceAdd, hI_sI, and_self, Nat.reduceEqDiff, true_and, and_true, and_false, false_and, ne_eq, q1]
      · simp (disch := omega) only [mX23_play, m_isDesign_t h eS h1 hq, gI_thr, gz_0, gz_1, true_or, or_true, or_false, false_or, rdI_e, rdZ_e, rdL_e, wrI_e, wrL_e, bX_some, bE_inl, bE_inr, bT_inl, bT_inr, wf_eq, wfL_eq, wfR_eq, gkc_chip, gkc_dsg, gkc_lib, gk_chip, gk_dsg, gk_lib, gth_e rx, inside_0 rx, inside_1, need_0 rx, need_1, now_0 rx, now_1, roomX_0 rx, roomX_1, w32_id, w32_gI, ← Int.not_lt, not_true_eq_false, not_false_eq_true, if_true, if_false, reduceIte, Bool.false_eq_true, Int.toNat_natCast, Int.reduceToNat, Int.toNat_add, Int.toNat_mul, Int.reduceLT, Int.reduceEq, Int.reduceNeg, Nat.reduceAdd, hI_sI, and_self, Nat.reduceEqDiff, true_and, and_true, and_false, false_and, ne_eq, q1, ib, eS, mi]
    by_cases q2 : p2 < (P : Int)
    · obtain ⟨p, rfl⟩ : ∃ p : Nat, p2 = (p : Int) := ⟨p2.toNat, by omega⟩
      have hpp : p < 2 ^ gIn G := by rw [hP]; omega
      have hx0 : (G 12 0).toNat * P ≤ 64 * 4096 := Nat.mul_le_mul (by omega) hpl
      have es : aShl (G 12 0) (gIn G : Int) = (((G 12 0).toNat * P : Nat) : Int) := by
        rw [← hP, ← aShl_nat (a := (G 12 0).toNat) (k := gIn G) (by omega) (by rw [hP]; omega), Int.toNat_of_nonneg wv.2.2.1]
      have hx2 : (G 12 0).toNat * P + p < 2 ^ (gIn G + gSt G) := by
        have q9 := ipow (gSt G)
        have := w.2.2.2.2.2.2
        have a1 : (G 12 0).toNat + 1 ≤ 2 ^ gSt G := by omega
        have a2 := Nat.mul_le_mul_right P a1
        rw [Nat.pow_add, Nat.mul_comm (2 ^ gIn G), hP]
        rw [Nat.add_mul, Nat.one_mul] at a2
        omega
      have hx3 : 2 ^ (gIn G + gSt G) ≤ 4096 := Nat.pow_le_pow_right (n := 2) (by omega) hn.2.1
      have eo : aOr (((G 12 0).toNat * P : Nat) : Int) (p : Int) = (((G 12 0).toNat * P + p : Nat) : Int) := by
        rw [aOr_nat (by omega) (by omega), ← hP, or_shl hpp]
      have eo2 : aOr (p : Int) (((G 12 0).toNat * P : Nat) : Int) = (((G 12 0).toNat * P + p : Nat) : Int) := by rw [aOr_comm, eo]
      generalize hs : (G 12 0).toNat * P + p = s at *
      have e1 := r.2.2.2.2.2 s hx2
      have f1 := m.2.2.2.2.2 s hx2
      have w1 := wv.2.2.2.2 s hx2
      refine L_modS (m1 := fun S1 => mX23_play S1 _ _) ?_
      simp (disch := omega) only [mX1_play, hx, gI_thr, gz_0, gz_1, true_or, or_true, or_false, false_or, rdI_e, rdZ_e, rdL_e, wrI_e, wrL_e, bX_some, bE_inl, bE_inr, bT_inl, bT_inr, wf_eq, wfL_eq, wfR_eq, gkc_chip, gkc_dsg, gkc_lib, gk_chip, gk_dsg, gk_lib, gth_e rx, inside_0 rx, inside_1, need_0 rx, need_1, now_0 rx, now_1, roomX_0 rx, roomX_1, w32_id, w32_gI, ← Int.not_lt, not_true_eq_false, not_false_eq_true, if_true, if_false, reduceIte, Bool.false_eq_true, Int.toNat_natCast, Int.reduceToNat, Int.toNat_add, Int.toNat_mul, Int.reduceLT, Int.reduceEq, Int.reduceNeg, Nat.reduceAdd, hI_sI, and_self, Nat.reduceEqDiff, true_and, and_true, and_false, false_and, ne_eq, WP_some, WE_inl, ri, hsh, q1, q2, r.1.2.2.2.2.2.1, es, eo, e1.2]
      have et : (if 273 + 9 * k + 7 = 273 + 9 * k ∧ s = 8 then G 10 s else gI S (273 + 9 * k + 7) s) = G 9 s := by rw [if_neg (by omega)]; exact e1.1
      simp only [et]
      generalize hS1 : sL (sI S (273 + 9 * k) 8 (G 10 s)) 2178 0 (i2l (G 9 s)) = S1
      have eS : ∀ a i, gI S1 a i = if a = 273 + 9 * k ∧ i = 8 then G 10 s else gI S a i := fun a i => by rw [← hS1]; show gI (sI S (273 + 9 * k) 8 (G 10 s)) a i = _; rw [hI_sI, w32_id (by omega)]
      have eL : ∀ a i, ¬ (a = 2178 ∧ i = 0) → gL S1 a i = gL S a i := fun a i z => by rw [← hS1, gL_sL, if_neg z]; rfl
      have eN : ∀ a i, ¬ (a = 273 + 9 * k ∧ i = 8) → gI S1 a i = gI S a i := fun a i z => by rw [eS, if_neg z]
      have z1 : (4096 * (k : Int) + (s : Int)).toNat = 4096 * k + s := by omega
      simp (disch := omega) only [mX23_play, m_isDesign_w h (fun i => eN 432 i (by omega)) (fun i => eN 2036 i (by omega)) h1 hq, gI_thr, gz_0, gz_1, true_or, or_true, or_false, false_or, rdI_e, rdZ_e, rdL_e, wrI_e, wrL_e, bX_some, bE_inl, bE_inr, bT_inl, bT_inr, wf_eq, wfL_eq, wfR_eq, gkc_chip, gkc_dsg, gkc_lib, gk_chip, gk_dsg, gk_lib, gth_e rx, inside_0 rx, inside_1, need_0 rx, need_1, now_0 rx, now_1, roomX_0 rx, roomX_1, w32_id, w32_gI, ← Int.not_lt, not_true_eq_false, not_false_eq_true, if_true, if_false, reduceIte, Bool.false_eq_true, Int.toNat_natCast, Int.reduceToNat, Int.toNat_add, Int.toNat_mul, Int.reduceLT, Int.reduceEq, Int.reduceNeg, Nat.reduceAdd, hI_sI, and_self, Nat.reduceEqDiff, true_and, and_true, and_false, false_and, ne_eq, eN, mi, ib, q1, q2, m.1.2.2.2.2.2.2.1, es, eo2, z1, f1.1, f1.2, WP_some]
      rw [← hS1]
      exact ⟨rfl, h.stG' hk ht w r m (v := G 10 s) ⟨w1.1, (w.2.2.2.2.2.1 s hx2).2.2.2⟩⟩
    · refine L_modF (m1 := fun S1 => mX23_play S1 _ _) 2 2 h hc ?_ rfl (by omega) (fun S1 eS => ?_)
      · simp (disch := omega) only [mX1_play, hx, gI_thr, gz_0, gz_1, true_or, or_true, or_false, false_or, rdI_e, rdZ_e, rdL_e, wrI_e, wrL_e, bX_some, bE_inl, bE_inr, bT_inl, bT_inr, wf_eq, wfL_eq, wfR_eq, gkc_chip, gkc_dsg, gkc_lib, gk_chip, gk_dsg, gk_lib, gth_e rx, inside_0 rx, inside_1, need_0 rx, need_1, now_0 rx, now_1, roomX_0 rx, roomX_1, w32_id, w32_gI, ← Int.not_lt, not_true_eq_false, not_false_eq_true, if_true, if_false, reduceIte, Bool.false_eq_true, Int.toNat_natCast, Int.reduceToNat, Int.toNat_add, Int.toNat_mul, Int.reduceLT, Int.reduceEq, Int.reduceNeg, Nat.reduceAdd, hI_sI, and_self, Nat.reduceEqDiff, true_and, and_true, and_false, false_and, ne_eq, q1, q2, ri, hsh]
      · simp (disch := omega) only [mX23_play, m_isDesign_t h eS h1 hq, gI_thr, gz_0, gz_1, true_or, or_true, or_false, false_or, rdI_e, rdZ_e, rdL_e, wrI_e, wrL_e, bX_some, bE_inl, bE_inr, bT_inl, bT_inr, wf_eq, wfL_eq, wfR_eq, gkc_chip, gkc_dsg, gkc_lib, gk_chip, gk_dsg, gk_lib, gth_e rx, inside_0 rx, inside_1, need_0 rx, need_1, now_0 rx, now_1, roomX_0 rx, roomX_1, w32_id, w32_gI, ← Int.not_lt, not_true_eq_false, not_false_eq_true, if_true, if_false, reduceIte, Bool.false_eq_true, Int.toNat_natCast, Int.reduceToNat, Int.toNat_add, Int.toNat_mul, Int.reduceLT, Int.reduceEq, Int.reduceNeg, Nat.reduceAdd, hI_sI, and_self, Nat.reduceEqDiff, true_and, and_true, and_false, false_and, ne_eq, q1, q2, ib, eS, mi]
  · refine L_modF (m1 := fun S1 => mX23_play S1 _ _) 1 1 h hc ?_ rfl (by omega) (fun S1 eS => ?_)
    · rw [mX1_play, designIn_f hq rx h1]; rfl
    · unfold mX23_play; rw [m_isDesign_f h eS h1 hq]; rfl
end MODD
