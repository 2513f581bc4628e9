/-! pins as the class has them -/
def KPins (S : Sto) (C : Chp) (s : Pst) : Prop :=
  (gI S 219 1) = (s.1 : Int) ∧ (∀ p, p < s.1 → (gI S 220 p) = ((s.2 p).1 : Int) ∧ (gI S 221 p) = (s.2 p).2.1 ∧ (gI S 222 p) = ((s.2 p).2.2 : Int) ∧ (gI S 225 p) = pPrev s.2 (s.2 p).1 p) ∧
  (∀ n, n < kN C → (gI S 224 n) = pPrev s.2 n s.1 ∧ (gI S 223 n) = (pMany s.2 n s.1 : Int))
section KPINS
variable {S : Sto} {C : Chp} {s : Pst} {L : Nat}
theorem k_add (h : KPins S C s) (w : WFC C) {net o : Int} {j : Nat} (hc : s.1 < 640) (hn : net < kN C ∧ -2 ≤ net) (ho : -2 ≤ o ∧ o < 1000) (hj : j < 1000) : WP (mX13_add S net o (j : Int)) (fun S' => KPins S' C (pAdd s net o j)) := by
  have hnn := w.nums
  obtain ⟨h1, h2, h3⟩ := h
  unfold mX13_add
  rw [w32_id (by omega)]
  by_cases q : net < 0
  · rw [if_pos q]
    have e : pAdd s net o j = s := if_pos q
    rw [e]
    exact WP_some.2 ⟨h1, h2, h3⟩
  · rw [if_neg q]
    obtain ⟨n, rfl⟩ : ∃ n : Nat, net = (n : Int) := ⟨net.toNat, by omega⟩
    have e : pAdd s (n : Int) o j = (s.1 + 1, updN s.2 s.1 (n, o, j)) := by unfold pAdd; rw [if_neg q, Int.toNat_natCast]
    rw [e]
    have c1 : gI (sI S 220 s.1 (n : Int)) 219 1 = (s.1 : Int) := by rw [hI_sI_a (by omega)]; exact h1
    have c2 : gI (sI (sI S 220 s.1 (n : Int)) 221 s.1 o) 219 1 = (s.1 : Int) := by rw [hI_sI_a (by omega)]; exact c1
    have c3 : gI (sI (sI (sI S 220 s.1 (n : Int)) 221 s.1 o) 222 s.1 (j : Int)) 219 1 = (s.1 : Int) := by rw [hI_sI_a (by omega)]; exact c2
    have v4 : gI (sI (sI (sI S 220 s.1 (n : Int)) 221 s.1 o) 222 s.1 (j : Int)) 224 n = pPrev s.2 n s.1 := by rw [hI_sI_a (by omega), hI_sI_a (by omega), hI_sI_a (by omega)]; exact (h3 n (by omega)).1
    have pr := pPrev_rng (f := s.2) (n := n) (m := s.1)
    have c5 : gI (sI (sI (sI (sI S 220 s.1 (n : Int)) 221 s.1 o) 222 s.1 (j : Int)) 225 s.1 (pPrev s.2 n s.1)) 219 1 = (s.1 : Int) := by rw [hI_sI_a (by omega)]; exact c3
    rw [h1, wrI_e (by omega), Int.toNat_natCast, c1, wrI_e (by omega), Int.toNat_natCast, c2, wrI_e (by omega), Int.toNat_natCast, rdI_e (by omega), Int.toNat_natCast, v4, c3, wrI_e (by omega), Int.toNat_natCast, wf_eq, c5, wrI_e (by omega), Int.toNat_natCast, rdI_e (by omega), Int.toNat_natCast]
    have v8 : gI (sI (sI (sI (sI (sI (sI S 220 s.1 (n : Int)) 221 s.1 o) 222 s.1 (j : Int)) 225 s.1 (pPrev s.2 n s.1)) 219 1 ((s.1 : Int) + 1)) 224 n (s.1 : Int)) 223 n = (pMany s.2 n s.1 : Int) := by
      rw [hI_sI_a (by omega), hI_sI_a (by omega), hI_sI_a (by omega), hI_sI_a (by omega), hI_sI_a (by omega), hI_sI_a (by omega)]; exact (h3 n (by omega)).2
    have pm := pMany_le (f := s.2) (n := n) (m := s.1)
    rw [v8, wrI_e (by omega), Int.toNat_natCast]
    have cg : ∀ m, m ≤ s.1 → ∀ p, p < m → updN s.2 s.1 (n, o, j) p = s.2 p := fun m hm p hp => updN_ne (by omega)
    refine WP_some.2 ⟨?_, fun p hp => ?_, fun m hm => ?_⟩
    · show gI _ 219 1 = ((s.1 + 1 : Nat) : Int)
      rw [hI_sI_a (by omega), hI_sI_a (by omega), hI_sI, if_pos ⟨rfl, rfl⟩, w32_id (by omega)]; omega
    · have hp : p < s.1 + 1 := hp
      show gI _ 220 p = ((updN s.2 s.1 (n, o, j) p).1 : Int) ∧ gI _ 221 p = (updN s.2 s.1 (n, o, j) p).2.1 ∧ gI _ 222 p = ((updN s.2 s.1 (n, o, j) p).2.2 : Int) ∧ gI _ 225 p = pPrev (updN s.2 s.1 (n, o, j)) (updN s.2 s.1 (n, o, j) p).1 p
      rw [pPrev_cg (g := s.2) (cg p (by omega))]
      have o' := h2 p
      by_cases z : p = s.1
      · have ez : updN s.2 s.1 (n, o, j) p = (n, o, j) := by rw [z]; exact updN_eq
        rw [ez]
        subst z
        refine ⟨?_, ?_, ?_, ?_⟩
        · rw [hI_sI_a (by omega), hI_sI_a (by omega), hI_sI_a (by omega), hI_sI_a (by omega), hI_sI_a (by omega), hI_sI_a (by omega), hI_sI, if_pos ⟨rfl, rfl⟩, w32_id (by omega)]
        · rw [hI_sI_a (by omega), hI_sI_a (by omega), hI_sI_a (by omega), hI_sI_a (by omega), hI_sI_a (by omega), hI_sI, if_pos ⟨rfl, rfl⟩, w32_id (by omega)]
        · rw [hI_sI_a (by omega), hI_sI_a (by omega), hI_sI_a (by omega), hI_sI_a (by omega), hI_sI, if_pos ⟨rfl, rfl⟩, w32_id (by omega)]
        · rw [hI_sI_a (by omega), hI_sI_a (by omega), hI_sI_a (by omega), hI_sI, if_pos ⟨rfl, rfl⟩, w32_id (by omega)]
      · have ez : updN s.2 s.1 (n, o, j) p = s.2 p := updN_ne z
        rw [ez]
        have o' := o' (by omega)
        refine ⟨?_, ?_, ?_, ?_⟩
        · rw [hI_sI_a (by omega), hI_sI_a (by omega), hI_sI_a (by omega), hI_sI_a (by omega), hI_sI_a (by omega), hI_sI_a (by omega), hI_sI, if_neg (fun g => z g.2)]; exact o'.1
        · rw [hI_sI_a (by omega), hI_sI_a (by omega), hI_sI_a (by omega), hI_sI_a (by omega), hI_sI_a (by omega), hI_sI, if_neg (fun g => z g.2), hI_sI_a (by omega)]; exact o'.2.1
        · rw [hI_sI_a (by omega), hI_sI_a (by omega), hI_sI_a (by omega), hI_sI_a (by omega), hI_sI, if_neg (fun g => z g.2), hI_sI_a (by omega), hI_sI_a (by omega)]; exact o'.2.2.1
        · rw [hI_sI_a (by omega), hI_sI_a (by omega), hI_sI_a (by omega), hI_sI, if_neg (fun g => z g.2), hI_sI_a (by omega), hI_sI_a (by omega), hI_sI_a (by omega)]; exact o'.2.2.2
    · have o' := h3 m hm
      have e1 : pPrev (updN s.2 s.1 (n, o, j)) m (s.1 + 1) = if n = m then (s.1 : Int) else pPrev s.2 m s.1 := by
        show (if (updN s.2 s.1 (n, o, j) s.1).1 = m then (s.1 : Int) else pPrev (updN s.2 s.1 (n, o, j)) m s.1) = _
        rw [updN_eq, pPrev_cg (g := s.2) (cg s.1 (Nat.le_refl _))]
      have e2 : pMany (updN s.2 s.1 (n, o, j)) m (s.1 + 1) = pMany s.2 m s.1 + (if n = m then 1 else 0) := by
        show pMany (updN s.2 s.1 (n, o, j)) m s.1 + (if (updN s.2 s.1 (n, o, j) s.1).1 = m then 1 else 0) = _
        rw [updN_eq, pMany_cg (g := s.2) (cg s.1 (Nat.le_refl _))]
      show gI _ 224 m = pPrev (updN s.2 s.1 (n, o, j)) m (s.1 + 1) ∧ gI _ 223 m = (pMany (updN s.2 s.1 (n, o, j)) m (s.1 + 1) : Int)
      rw [e1, e2]
      refine ⟨?_, ?_⟩
      · rw [hI_sI_a (by omega), hI_sI]
        by_cases z : m = n
        · rw [if_pos ⟨rfl, z⟩, if_pos z.symm, w32_id (by omega)]
        · rw [if_neg (fun g => z g.2), if_neg (fun g => z g.symm), hI_sI_a (by omega), hI_sI_a (by omega), hI_sI_a (by omega), hI_sI_a (by omega), hI_sI_a (by omega)]; exact o'.1
      · rw [hI_sI]
        by_cases z : m = n
        · rw [if_pos ⟨rfl, z⟩, if_pos z.symm, w32_id (by omega), z]; omega
        · rw [if_neg (fun g => z g.2), if_neg (fun g => z g.symm), hI_sI_a (by omega), hI_sI_a (by omega), hI_sI_a (by omega), hI_sI_a (by omega), hI_sI_a (by omega), hI_sI_a (by omega)]; exact o'.2
theorem k_netOfPin (r : RepK S L C) (w : WFC C) {e j : Nat} (he : e < kE C) (hj : j < kSz C e) : WP (mX22_netOfPin S L (e : Int) (j : Int)) (fun x => (x = kNp C e j ∨ (kNp C e j < 0 ∧ x = -1))) := by
  have hn := w.nums
  have he' : e < kR C + kG C := he
  have er := r.1.2.1
  rw [w.r] at er
  have ei := r.1.1
  rw [w.i] at ei
  have sz := kSz_rng w he
  unfold mX22_netOfPin kNp
  rw [er, w32_id (by omega), w32_id (by omega)]
  by_cases q : e < kR C
  · rw [if_pos (by omega), if_pos q, w32_id (by omega)]
    by_cases z : j = 1
    · rw [if_pos (by omega), if_pos z, bX_some, ei]
      exact WP_some.2 (.inl (by omega))
    · have e7 := r.2.2.2.2.1 e q
      have w7 := w.2.2.2.2.1 e q
      rw [w.i, w.r, w.g] at w7
      rw [if_neg (by omega), if_neg z, rdI_e (by omega), Int.toNat_natCast, e7, w32_id (by omega)]
      by_cases g : C 7 e < 0
      · rw [if_pos g]; exact WP_some.2 (.inr ⟨g, rfl⟩)
      · rw [if_neg g, rdI_e (by omega), Int.toNat_natCast, e7]; exact WP_some.2 (.inl rfl)
  · have hs : kSz C e = kAr C (e - kR C) + 1 := if_neg q
    have zz : ((e : Int) - (kR C : Int)).toNat = e - kR C := by omega
    have ze : ((e : Int) - (kR C : Int)) = ((e - kR C : Nat) : Int) := by omega
    rw [if_neg (by omega), if_neg q, k_inputsOf r w (by omega), bX_some, zz, w32_id (by omega), w32_id (by omega)]
    by_cases z : j = kAr C (e - kR C)
    · rw [if_pos (by omega), if_pos z, k_netOfGate r w, bX_some, bX_some]
      exact WP_some.2 (.inl (by omega))
    · have e5 := r.2.2.1 (3 * (e - kR C) + j) (by have := w.ar (g := e - kR C) (by omega); omega)
      have z3 : (3 * ((e : Int) - (kR C : Int)) + (j : Int)).toNat = 3 * (e - kR C) + j := by omega
      have := w.ar (g := e - kR C) (by omega)
      rw [if_neg (by omega), if_neg z, rdI_e (by omega), z3, e5, bX_some]
      exact WP_some.2 (.inl rfl)
end KPINS
