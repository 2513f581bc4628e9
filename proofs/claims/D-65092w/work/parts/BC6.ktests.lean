/-! sets of tests: the class's loops -/
section KTESTS
variable {S : Sto} {k : Nat} {C : Chp}
/-- what the class's loops keep -/
def KTs (k : Nat) (C : Chp) (S z : Sto) (s : (Nat → Int) × Nat) : Prop := gR z 264 0 = 344 + 22 * k ∧ KAll z k C ∧ KSet z k C s.1 s.2 ∧ ChQ k S z
theorem KTs.row {z : Sto} {s : (Nat → Int) × Nat} (h : KTs k C S z s) : KRow z k C := ⟨h.1, fun f hf p hp => (h.2.1.2 f hf).2 p hp⟩
theorem ChQ.s25 {z : Sto} (h : ChQ k S z) (hk : k < 4) {a i : Nat} {v : Int} (q : (a = 344 + 22 * k ∧ (i = 25 ∨ i = 30)) ∨ (344 + 22 * k + 18 ≤ a ∧ a ≤ 344 + 22 * k + 21)) : ChQ k S (sI z a i v) :=
  ⟨fun b j g1 g2 g3 => by rw [hI_sI, if_neg (fun e => by omega)]; exact h.1 b j g1 g2 g3, h.2.1, h.2.2.1, h.2.2.2⟩
theorem k_tests28 (hk : k < 4) (r : RepK S (344 + 22 * k) C) (w : WFC C) (h0 : KTs k C S S (tsS C 0)) : WP (lpF (mX19_tests_L28 (kFa C : Int)) (0, S)) (fun z => KTs k C S z (tsS C (kFa C))) := by
  have hn := w.nums
  have fa := kFa_le w
  have p12 : 2 ^ kB C ≤ 4096 := Nat.pow_le_pow_right (n := 2) (by omega) hn.2.1
  refine WP_cnt (kFa C) (fun f z => z.1 = (f : Int) ∧ KTs k C S z.2 (tsS C f)) (by unfold cFU; omega) ⟨rfl, h0⟩ (fun f z hf hI => ?_) (fun z hI => ?_)
  · obtain ⟨z1, z2⟩ := z
    obtain ⟨b1, b2⟩ := hI
    dsimp only at b1 b2
    subst b1
    have row := b2.row
    have le := tsS_le (C := C) f
    have lr := kLeast_rng w (f := f)
    have eT : tsS C (f + 1) = if cntS C (tsS C f).1 f (tsS C f).2 = 0 ∧ kLeast C f ≠ -1 then (putS (tsS C f).1 (tsS C f).2 (kLeast C f).toNat, (tsS C f).2 + 1) else tsS C f := rfl
    obtain ⟨c1, c2, c3, c4⟩ := b2
    unfold mX19_tests_L28
    dsimp only
    rw [w32_id (by omega), w32_id (by omega), if_pos (by omega), c1, gk_chip hk, rdI_e (by omega), Int.toNat_natCast, (c2.2 f hf).1, w32_id (by omega)]
    have fin : ∀ y, KTs k C S y (tsS C (f + 1)) → WP (some (Sum.inl ((f : Int) + 1, y) : (Int × Sto) ⊕ Sto)) (WE (fun z => z.1 = ((f + 1 : Nat) : Int) ∧ KTs k C S z.2 (tsS C (f + 1))) (fun z => KTs k C S z (tsS C (kFa C)))) := fun y hy => WP_some.2 ⟨by show (f : Int) + 1 = _; omega, hy⟩
    by_cases q2 : kLeast C f = -1
    · rw [if_neg (fun g => g q2), bX_some, if_neg (by decide), bX_some]
      refine fin z2 ?_
      rw [eT, if_neg (fun g => g.2 q2)]; exact ⟨c1, c2, c3, c4⟩
    · rw [if_pos q2, k_isShown hk w (by omega) row c3 hf, bX_some, w32_b2i]
      cases e : anyX C (tsS C f).1 f (-1) (tsS C f).2 with
      | true =>
        rw [if_neg (by decide), bX_some, if_neg (by decide), bX_some]
        refine fin z2 ?_
        have q : ¬ cntS C (tsS C f).1 f (tsS C f).2 = 0 := fun g => by rw [cntS_0.1 g] at e; exact absurd e (by decide)
        rw [eT, if_neg (fun g => q g.1)]; exact ⟨c1, c2, c3, c4⟩
      | false =>
        have q := cntS_0.2 e
        have lt := kLeast_lt q2
        have e25 := c3.1
        have s1 : gI (sI z2 (344 + 22 * k) 25 (((tsS C f).2 : Int) + 1)) (344 + 22 * k + 20) f = kLeast C f := by rw [hI_sI_a (by omega)]; exact (c2.2 f hf).1
        rw [if_pos (by decide), bX_some, if_pos rfl, gk_chip hk, gk_chip hk, wf_eq, e25, gR_sI, c1, gk_chip hk, rdI_e (by omega), Int.toNat_natCast, s1, wrI_e (by omega), Int.toNat_natCast, bX_some]
        refine fin _ ?_
        rw [eT, if_pos ⟨q, q2⟩]
        refine ⟨by rw [gR_sI, gR_sI]; exact c1, ⟨by rw [hI_sI_a (by omega), hI_sI_i (by omega)]; exact c2.1, fun g hg => ⟨by rw [hI_sI_a (by omega), hI_sI_a (by omega)]; exact (c2.2 g hg).1, fun p hp => (c2.2 g hg).2 p hp⟩⟩, ⟨by rw [hI_sI_a (by omega), gI_set, w32_id (by omega)]; show _ = (((tsS C f).2 + 1 : Nat) : Int); omega, by show (tsS C f).2 + 1 ≤ 1224; omega, fun i hi => ?_⟩, (c4.s25 hk (by omega)).s25 hk (by omega)⟩
        have hi : i < (tsS C f).2 + 1 := hi
        show gI _ _ i = putS (tsS C f).1 (tsS C f).2 (kLeast C f).toNat i ∧ 0 ≤ putS (tsS C f).1 (tsS C f).2 (kLeast C f).toNat i ∧ putS (tsS C f).1 (tsS C f).2 (kLeast C f).toNat i < _
        unfold putS
        by_cases l : i = (tsS C f).2
        · rw [if_pos l, l, gI_set, w32_id (by omega)]
          refine ⟨by omega, by omega, ?_⟩
          generalize ((2 ^ kB C : Nat) : Int) = P at *; omega
        · rw [if_neg l, hI_sI_i l, hI_sI_a (by omega)]; exact c3.2.2 i (by omega)
  · obtain ⟨z1, z2⟩ := z
    obtain ⟨b1, b2⟩ := hI
    dsimp only at b1 b2
    subst b1
    unfold mX19_tests_L28
    dsimp only
    rw [w32_id (by omega), if_neg (by omega)]
    exact WP_some.2 b2
theorem KSet.rng {s : (Nat → Int) × Nat} (h : KSet S k C s.1 s.2) : rngS C s := fun i hi => (h.2.2 i hi).2
theorem k_tests102 (hk : k < 4) (w : WFC C) {s : (Nat → Int) × Nat} (h0 : KTs k C S S s) : WP (lpF (mX19_tests_L102 (kFa C : Int)) ((s.2 : Int) - 1, S)) (fun z => KTs k C S z (trS C s.2 s)) := by
  have fa := kFa_le w
  have n12 := h0.2.2.1.2.1
  refine WP_cnt s.2 (fun i z => z.1 = ((s.2 - i : Nat) : Int) - 1 ∧ ∃ t, KTs k C S z.2 t ∧ trS C (s.2 - i) t = trS C s.2 s ∧ s.2 - i ≤ t.2 ∧ t.2 ≤ s.2) (by unfold cFU; omega) ⟨by show (s.2 : Int) - 1 = _; omega, s, h0, rfl, by omega, Nat.le_refl _⟩ (fun i z hi hI => ?_) (fun z hI => ?_)
  · obtain ⟨z1, z2⟩ := z
    obtain ⟨b1, t, b2, b4, b5, b6⟩ := hI
    dsimp only at b1 b2
    obtain ⟨d, hd⟩ : ∃ d, s.2 - i = d + 1 := ⟨s.2 - i - 1, by omega⟩
    have e1 : z1 = (d : Int) := by omega
    subst e1
    rw [hd] at b4 b5
    have hdt : d < t.2 := by omega
    have row := b2.row
    obtain ⟨c1, c2, c3, c4⟩ := b2
    unfold mX19_tests_L102
    dsimp only
    rw [w32_id (by omega), if_pos (by omega), k_canGo hk w row c3 hdt, bX_some, w32_b2i]
    have fin : ∀ y, (∃ t', KTs k C S y t' ∧ t' = (if okGo C t.1 d t.2 (kFa C) = true then (cutS t.1 d, t.2 - 1) else t)) → WP (some (Sum.inl ((d : Int) + (-1), y) : (Int × Sto) ⊕ Sto)) (WE (fun z => z.1 = ((s.2 - (i + 1) : Nat) : Int) - 1 ∧ ∃ t, KTs k C S z.2 t ∧ trS C (s.2 - (i + 1)) t = trS C s.2 s ∧ s.2 - (i + 1) ≤ t.2 ∧ t.2 ≤ s.2) (fun z => KTs k C S z (trS C s.2 s))) := by
      rintro y ⟨t', y1, y3⟩
      refine WP_some.2 ⟨by show (d : Int) + (-1) = _; omega, t', y1, ?_, ?_, ?_⟩
      · rw [show s.2 - (i + 1) = d by omega, ← b4, y3]; rfl
      · rw [y3]; split
        · show s.2 - (i + 1) ≤ t.2 - 1; omega
        · omega
      · rw [y3]; split
        · show t.2 - 1 ≤ s.2; omega
        · omega
    cases e : okGo C t.1 d t.2 (kFa C) with
    | true =>
      rw [if_pos (by decide)]
      refine WP_call (R := fun y => ∃ t', KTs k C S y t' ∧ t' = (if okGo C t.1 d t.2 (kFa C) = true then (cutS t.1 d, t.2 - 1) else t)) ?_ (fun y hy => fin y hy)
      refine WP_callF (k_take19 hk c1 c3 hdt (KSet.rng c3 |>.in32 w)) (fr_mX19_take c1) (fun x hx hg => WP_some.2 ?_)
      have ok : ∀ a i, ¬ (a = 344 + 22 * k ∧ i = 25) → a ≠ 344 + 22 * k + 18 → okP (W_mX19_take (344 + 22 * k)) a i := fun a i q1 q2 =>
        okP_cons (fun e => ⟨fun g => (nomatch g), fun g => q1 ⟨e.symm, (Option.some.inj g).symm⟩⟩) <| okP_cons (fun e => absurd e.symm q2) okP_nil
      refine ⟨(cutS t.1 d, t.2 - 1), ⟨(hg.er rfl).trans c1, ⟨(hg.gi (ok _ _ (by omega) (by omega))).trans c2.1, fun g hg' => ⟨(hg.gi (ok _ _ (by omega) (by omega))).trans (c2.2 g hg').1, fun p hp => by rw [hg.gl (ok _ _ (by omega) (by omega))]; exact (c2.2 g hg').2 p hp⟩⟩, hx, c4.tr ⟨fun a i g1 g2 g3 => hg.gi (ok _ _ (by omega) (by omega)), fun a i g1 g2 => hg.gl (ok _ _ (by omega) (by omega)), hg.heap.1, hg.heap.2⟩⟩, by rw [if_pos e]⟩
    | false =>
      rw [if_neg (by decide), bX_some]
      exact fin z2 ⟨t, ⟨c1, c2, c3, c4⟩, by rw [e, if_neg (by decide)]⟩
  · obtain ⟨z1, z2⟩ := z
    obtain ⟨b1, t, b2, b4, b5, b6⟩ := hI
    dsimp only at b1 b2
    have e1 : z1 = -1 := by omega
    subst e1
    rw [Nat.sub_self] at b4
    unfold mX19_tests_L102
    dsimp only
    rw [w32_id (by omega), if_neg (by omega)]
    refine WP_some.2 ?_
    show KTs k C S z2 (trS C s.2 s)
    rw [← b4]; exact b2
theorem k_tests128 (hk : k < 4) {s : (Nat → Int) × Nat} (h0 : KTs k C S S s) : WP (lpF mX19_tests_L128 (0, S)) (fun z => KTs k C S z s ∧ ∀ i, i < s.2 → gI z (344 + 22 * k + 19) i = 0) := by
  have n12 := h0.2.2.1.2.1
  refine WP_cnt s.2 (fun i z => z.1 = (i : Int) ∧ KTs k C S z.2 s ∧ ∀ j, j < i → gI z.2 (344 + 22 * k + 19) j = 0) (by unfold cFU; omega) ⟨rfl, h0, fun j hj => absurd hj (Nat.not_lt_zero _)⟩ (fun i z hi hI => ?_) (fun z hI => ?_)
  · obtain ⟨z1, z2⟩ := z
    obtain ⟨b1, b2, b3⟩ := hI
    dsimp only at b1 b2 b3
    subst b1
    obtain ⟨c1, c2, c3, c4⟩ := b2
    unfold mX19_tests_L128
    dsimp only
    rw [c1, gk_chip hk, c3.1, w32_id (by omega), w32_id (by omega), if_pos (by omega), gk_chip hk, wrI_e (by omega), Int.toNat_natCast]
    refine WP_some.2 ⟨by show (i : Int) + 1 = _; omega, ⟨by rw [gR_sI]; exact c1, ⟨by rw [hI_sI_a (by omega)]; exact c2.1, fun g hg => ⟨by rw [hI_sI_a (by omega)]; exact (c2.2 g hg).1, fun p hp => (c2.2 g hg).2 p hp⟩⟩, ⟨by rw [hI_sI_a (by omega)]; exact c3.1, c3.2.1, fun j hj => by rw [hI_sI_a (by omega)]; exact c3.2.2 j hj⟩, c4.s25 hk (by omega)⟩, fun j hj => ?_⟩
    dsimp only
    by_cases q : j = i
    · rw [q, gI_set]; rfl
    · rw [hI_sI_i q]; exact b3 j (by omega)
  · obtain ⟨z1, z2⟩ := z
    obtain ⟨b1, b2, b3⟩ := hI
    dsimp only at b1 b2 b3
    subst b1
    unfold mX19_tests_L128
    dsimp only
    rw [b2.1, gk_chip hk, b2.2.2.1.1, w32_id (by omega), if_neg (by omega)]
    exact WP_some.2 ⟨b2, b3⟩
/-- the set that comes -/
def tstS (C : Chp) : (Nat → Int) × Nat := trS C (tsS C (kFa C)).2 (tsS C (kFa C))
theorem trS_le {C : Chp} : ∀ (d : Nat) (s : (Nat → Int) × Nat), (trS C d s).2 ≤ s.2 := by
  intro d
  induction d with
  | zero => exact fun s => Nat.le_refl _
  | succ d ih =>
    intro s
    show (trS C d (if okGo C s.1 d s.2 (kFa C) = true then (cutS s.1 d, s.2 - 1) else s)).2 ≤ s.2
    refine Nat.le_trans (ih _) ?_
    split
    · show s.2 - 1 ≤ s.2; omega
    · exact Nat.le_refl _
theorem k_tests19 (hk : k < 4) (r : RepK S (344 + 22 * k) C) (w : WFC C) (rT : RepT S (344 + 22 * k) C) : WP (mX19_tests S (344 + 22 * k)) (fun x => x.1 = ((tstS C).2 : Int) ∧ ChQ k S x.2 ∧ RepT x.2 (344 + 22 * k) (teC C ((tstS C).2 : Int) (tstS C).1 (fun _ => 0)) ∧ KSet x.2 k C (tstS C).1 (tstS C).2) := by
  have fa := kFa_le w
  unfold mX19_tests
  refine WP_call (k_all hk r w rT) (fun x1 hx1 => ?_)
  obtain ⟨a1, a2, _, _⟩ := hx1
  rw [wfR_eq, gR_sR, if_pos ⟨rfl, rfl⟩, gk_chip hk, wf_eq, gR_sI, gR_sR, if_pos ⟨rfl, rfl⟩, gk_chip hk]
  obtain ⟨S4, hS4⟩ : ∃ S4, sI (sR x1 264 0 (344 + 22 * k)) (344 + 22 * k) 25 0 = S4 := ⟨_, rfl⟩
  rw [hS4]
  have q4 : ChQ k x1 S4 := by
    rw [← hS4]
    exact ChQ.s25 (S := x1) (z := sR x1 264 0 (344 + 22 * k)) ⟨fun _ _ _ _ _ => rfl, fun _ _ _ _ => rfl, rfl, rfl⟩ hk (by omega)
  have r4 : RepK S4 (344 + 22 * k) C := (a2.tr q4).K hk r
  have t4 : KTs k C S4 S4 (tsS C 0) := by
    refine ⟨?_, ?_, ⟨?_, by show 0 ≤ 1224; omega, fun i hi => absurd hi (Nat.not_lt_zero _)⟩, ChQ.refl⟩
    · rw [← hS4, gR_sI, gR_sR, if_pos ⟨rfl, rfl⟩]
    · rw [← hS4]
      exact ⟨by rw [hI_sI_i (by omega)]; exact a1.1, fun f hf => ⟨by rw [hI_sI_a (by omega)]; exact (a1.2 f hf).1, fun p hp => (a1.2 f hf).2 p hp⟩⟩
    · rw [← hS4, gI_set]; rfl
  rw [k_faults r4 w, bX_some]
  refine WP_call (k_tests28 hk r4 w t4) (fun y18 h18 => ?_)
  have s18 : KTs k C y18 y18 (tsS C (kFa C)) := ⟨h18.1, h18.2.1, h18.2.2.1, ChQ.refl⟩
  rw [h18.1, gk_chip hk, h18.2.2.1.1]
  refine WP_call (k_tests102 hk w s18) (fun y24 h24 => ?_)
  have s24 : KTs k C y24 y24 (tstS C) := ⟨h24.1, h24.2.1, h24.2.2.1, ChQ.refl⟩
  refine WP_call (k_tests128 hk s24) (fun y29 h29 => ?_)
  obtain ⟨b1, b2⟩ := h29
  rw [b1.1, gk_chip hk, b1.2.2.1.1]
  refine WP_some.2 ⟨rfl, (((a2.tr q4).tr h18.2.2.2).tr h24.2.2.2).tr b1.2.2.2, b1.2.1.T b1.2.2.1.1 (fun i hi => ?_), b1.2.2.1⟩
  rw [Int.toNat_natCast] at hi
  exact ⟨(b1.2.2.1.2.2 i hi).1, b2 i hi⟩
end KTESTS
