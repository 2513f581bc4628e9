/-! sets of tests: the reference's loops -/
/-- faults one after the other: the set so far -/
def tsS (C : Chp) : Nat → (Nat → Int) × Nat
  | 0 => (fun _ => 0, 0)
  | f + 1 => if cntS C (tsS C f).1 f (tsS C f).2 = 0 ∧ kLeast C f ≠ -1 then (putS (tsS C f).1 (tsS C f).2 (kLeast C f).toNat, (tsS C f).2 + 1) else tsS C f
/-- patterns from the last one on: what can go is taken out -/
def trS (C : Chp) : Nat → (Nat → Int) × Nat → (Nat → Int) × Nat
  | 0, s => s
  | d + 1, s => trS C d (if okGo C s.1 d s.2 (kFa C) = true then (cutS s.1 d, s.2 - 1) else s)
/-- all are patterns -/
def rngS (C : Chp) (s : (Nat → Int) × Nat) : Prop := ∀ i, i < s.2 → 0 ≤ s.1 i ∧ s.1 i < ((2 ^ kB C : Nat) : Int)
theorem kLeast_lt {C : Chp} {f : Nat} (h : kLeast C f ≠ -1) : 0 ≤ kLeast C f ∧ kLeast C f < ((2 ^ kB C : Nat) : Int) := by
  have key : ∀ n, leastN (kShow C f) n = -1 ∨ (0 ≤ leastN (kShow C f) n ∧ leastN (kShow C f) n < (n : Int)) := by
    intro n
    induction n with
    | zero => exact .inl rfl
    | succ n ih =>
      show (if leastN (kShow C f) n = -1 then (if kShow C f n = true then (n : Int) else -1) else leastN (kShow C f) n) = -1 ∨ (0 ≤ (if leastN (kShow C f) n = -1 then (if kShow C f n = true then (n : Int) else -1) else leastN (kShow C f) n) ∧ (if leastN (kShow C f) n = -1 then (if kShow C f n = true then (n : Int) else -1) else leastN (kShow C f) n) < ((n + 1 : Nat) : Int))
      by_cases q : leastN (kShow C f) n = -1
      · rw [if_pos q]
        by_cases q2 : kShow C f n = true
        · rw [if_pos q2]; exact .inr (by omega)
        · rw [if_neg q2]; exact .inl rfl
      · rw [if_neg q]; rcases ih with ih | ih
        · exact absurd ih q
        · exact .inr (by omega)
  exact (key _).resolve_left h
theorem tsS_le {C : Chp} (f : Nat) : (tsS C f).2 ≤ f := by
  induction f with
  | zero => exact Nat.le_refl _
  | succ f ih =>
    show (if cntS C (tsS C f).1 f (tsS C f).2 = 0 ∧ kLeast C f ≠ -1 then (putS (tsS C f).1 (tsS C f).2 (kLeast C f).toNat, (tsS C f).2 + 1) else tsS C f).2 ≤ f + 1
    split
    · show (tsS C f).2 + 1 ≤ f + 1; omega
    · omega
theorem tsS_rng {C : Chp} (f : Nat) : rngS C (tsS C f) := by
  induction f with
  | zero => exact fun i hi => absurd hi (Nat.not_lt_zero _)
  | succ f ih =>
    show rngS C (if cntS C (tsS C f).1 f (tsS C f).2 = 0 ∧ kLeast C f ≠ -1 then (putS (tsS C f).1 (tsS C f).2 (kLeast C f).toNat, (tsS C f).2 + 1) else tsS C f)
    by_cases q : cntS C (tsS C f).1 f (tsS C f).2 = 0 ∧ kLeast C f ≠ -1
    · rw [if_pos q]
      have lt := kLeast_lt q.2
      intro i hi
      have hi : i < (tsS C f).2 + 1 := hi
      show 0 ≤ putS (tsS C f).1 (tsS C f).2 (kLeast C f).toNat i ∧ putS (tsS C f).1 (tsS C f).2 (kLeast C f).toNat i < _
      unfold putS
      by_cases e : i = (tsS C f).2
      · rw [if_pos e]; generalize ((2 ^ kB C : Nat) : Int) = P at *; omega
      · rw [if_neg e]; exact ih i (by omega)
    · rw [if_neg q]; exact ih
theorem rngS.cut {C : Chp} {s : (Nat → Int) × Nat} (h : rngS C s) {d : Nat} (hd : d < s.2) : rngS C (cutS s.1 d, s.2 - 1) := by
  intro i hi
  have hi : i < s.2 - 1 := hi
  show 0 ≤ cutS s.1 d i ∧ cutS s.1 d i < _
  unfold cutS
  by_cases q : i < d
  · rw [if_pos q]; exact h i (by omega)
  · rw [if_neg q]; exact h (i + 1) (by omega)
theorem rngS.in32 {C : Chp} (w : WFC C) {s : (Nat → Int) × Nat} (h : rngS C s) : ∀ i, i < s.2 → i32 (s.1 i) := fun i hi => by
  have hn := w.nums
  have p12 : 2 ^ kB C ≤ 4096 := Nat.pow_le_pow_right (n := 2) (by omega) hn.2.1
  have := h i hi
  unfold i32
  omega
section MTESTS
variable {S : Sto} {k : Nat} {C : Chp}
theorem MSet.cg {z : Sto} {set : Nat → Int} {n : Nat} (h : MSet S k C set n) (e : ∀ a i, a = 2172 ∨ a = 2173 → gI z a i = gI S a i) (eL : ∀ i, gL z 2175 i = gL S 2175 i) : MSet z k C set n :=
  ⟨(e _ _ (.inl rfl)).trans h.1, h.2.1, fun i hi => (e _ _ (.inr rfl)).trans (h.2.2.1 i hi), fun i f hi hf => by rw [eL]; exact h.2.2.2 i f hi hf⟩
/-- what the reference's loops keep -/
def MTs (k : Nat) (C : Chp) (S z : Sto) (s : (Nat → Int) × Nat) : Prop := MSet z k C s.1 s.2 ∧ MLeast z k C ∧ KeM S z ∧ (∀ i, i < s.2 → gI z 2174 (1280 * k + i) = 0) ∧ OutM k S z ∧ ∀ i, i < 1280 * k ∨ 1280 * (k + 1) ≤ i → gI z 2177 i = gI S 2177 i
theorem m_tests35 (r : RefK S k C) (w : WFC C) (hk : k < 4) (h0 : MTs k C S S (tsS C 0)) : WP (lpF (mX23_tests_L35 (k : Int)) (0, S)) (fun z => MTs k C S z (tsS C (kFa C))) := by
  have fa := kFa_le w
  refine WP_cnt (kFa C) (fun f z => z.1 = (f : Int) ∧ MTs k C S z.2 (tsS C f)) (by unfold cFU; omega) ⟨rfl, h0⟩ (fun f z hf hI => ?_) (fun z hI => ?_)
  · obtain ⟨z1, z2⟩ := z
    obtain ⟨b1, b2⟩ := hI
    dsimp only at b1 b2
    subst b1
    have le := tsS_le (C := C) f
    have eT : tsS C (f + 1) = if cntS C (tsS C f).1 f (tsS C f).2 = 0 ∧ kLeast C f ≠ -1 then (putS (tsS C f).1 (tsS C f).2 (kLeast C f).toNat, (tsS C f).2 + 1) else tsS C f := rfl
    obtain ⟨c1, c2, c3, c4, c5, c6⟩ := b2
    have rz := c3.K r
    have cl := cntS_le (C := C) (set := (tsS C f).1) (f := f) (n := (tsS C f).2)
    unfold mX23_tests_L35
    dsimp only
    rw [m_faultCount rz w hk, bX_some, w32_id (by omega), w32_id (by omega), if_pos (by omega), m_manyShow w hk c1 hf, bX_some, w32_id (by omega)]
    by_cases q : cntS C (tsS C f).1 f (tsS C f).2 = 0
    · rw [if_pos (by omega)]
      refine WP_call (R := fun y => y.1 = kLeast C f ∧ MTs k C S y.2 (tsS C f)) ?_ (fun y8 h8 => ?_)
      · refine WP_callF (m_leastPattern rz w hk hf c2) fr_mX23_leastPattern (fun x hx hg => ?_)
        obtain ⟨a1, a2, a3⟩ := hx
        have e : ∀ a i, a = 2172 ∨ a = 2173 ∨ a = 2174 → gI x.2 a i = gI z2 a i := fun a i q => by rcases q with rfl | rfl | rfl <;> exact hg.ei rfl
        have eL : ∀ i, gL x.2 2175 i = gL z2 2175 i := fun i => hg.el rfl
        refine WP_some.2 ⟨a1, c1.cg (fun a i q => e a i (by omega)) eL, a2, c3.tr (KeM.fr hg rfl), fun i hi => (e _ _ (by omega)).trans (c4 i hi), c5.tr ⟨fun i _ => e _ _ (by omega), fun i _ => ⟨e _ _ (by omega), e _ _ (by omega)⟩, fun i _ => eL i, fun i => hg.ei rfl⟩, fun i hi => (a3 i hi).trans (c6 i hi)⟩
      · obtain ⟨y1, y2⟩ := h8
        have lr := kLeast_rng w (f := f)
        rw [y1, w32_id (by omega)]
        by_cases q2 : kLeast C f = -1
        · rw [if_neg (fun g => g q2), bX_some]
          refine WP_some.2 ⟨by show (f : Int) + 1 = _; omega, ?_⟩
          show MTs k C S y8.2 (tsS C (f + 1))
          rw [eT, if_neg (fun g => g.2 q2)]; exact y2
        · have lt := kLeast_lt q2
          obtain ⟨p, hp⟩ : ∃ p : Nat, kLeast C f = (p : Int) := ⟨(kLeast C f).toNat, by omega⟩
          have tp : (kLeast C f).toNat = p := by rw [hp, Int.toNat_natCast]
          have hp2 : p < 2 ^ kB C := by rw [hp] at lt; exact Int.ofNat_lt.1 lt.2
          obtain ⟨d1, d2, d3, d4, d5, d6⟩ := y2
          rw [if_pos q2, hp]
          refine WP_call (R := fun y => MTs k C S y (tsS C (f + 1))) ?_ (fun y10 h10 => WP_some.2 ⟨by show (f : Int) + 1 = _; omega, h10⟩)
          refine WP_callF (m_addPattern (d3.K r) w hk d1 (by omega) hp2) fr_mX23_addPattern (fun x hx hg => WP_some.2 ?_)
          obtain ⟨a1, a2, a3, a4⟩ := hx
          rw [eT, if_pos ⟨q, q2⟩, tp]
          have e7 : ∀ i, gI x 2177 i = gI y8.2 2177 i := fun i => hg.ei rfl
          refine ⟨a1, fun g hg' => by rw [e7]; exact d2 g hg', d3.tr (KeM.fr hg rfl), fun i hi => ?_, d5.tr a4, fun i hi => (e7 i).trans (d6 i hi)⟩
          have hi : i < (tsS C f).2 + 1 := hi
          by_cases l : i = (tsS C f).2
          · rw [l]; exact a2
          · rw [a3 _ (by omega)]; exact d4 i (by omega)
    · rw [if_neg (by omega), bX_some, if_neg (fun g => g rfl), bX_some]
      refine WP_some.2 ⟨by show (f : Int) + 1 = _; omega, ?_⟩
      show MTs k C S z2 (tsS C (f + 1))
      rw [eT, if_neg (fun g => q g.1)]
      exact ⟨c1, c2, c3, c4, c5, c6⟩
  · obtain ⟨z1, z2⟩ := z
    obtain ⟨b1, b2⟩ := hI
    dsimp only at b1 b2
    subst b1
    unfold mX23_tests_L35
    dsimp only
    rw [m_faultCount (b2.2.2.1.K r) w hk, bX_some, w32_id (by omega), if_neg (by omega)]
    exact WP_some.2 b2
theorem m_tests90 (r : RefK S k C) (w : WFC C) (hk : k < 4) {s : (Nat → Int) × Nat} (h0 : MTs k C S S s) (hr : rngS C s) : WP (lpF (mX23_tests_L90 (k : Int)) ((s.2 : Int) - 1, S)) (fun z => MTs k C S z (trS C s.2 s)) := by
  have fa := kFa_le w
  have n12 := h0.1.2.1
  refine WP_cnt s.2 (fun i z => z.1 = ((s.2 - i : Nat) : Int) - 1 ∧ ∃ t, MTs k C S z.2 t ∧ rngS C t ∧ trS C (s.2 - i) t = trS C s.2 s ∧ s.2 - i ≤ t.2 ∧ t.2 ≤ s.2) (by unfold cFU; omega) ⟨by show (s.2 : Int) - 1 = _; omega, s, h0, hr, rfl, by omega, Nat.le_refl _⟩ (fun i z hi hI => ?_) (fun z hI => ?_)
  · obtain ⟨z1, z2⟩ := z
    obtain ⟨b1, t, b2, b3, b4, b5, b6⟩ := hI
    dsimp only at b1 b2
    obtain ⟨d, hd⟩ : ∃ d, s.2 - i = d + 1 := ⟨s.2 - i - 1, by omega⟩
    have e1 : z1 = (d : Int) := by omega
    subst e1
    rw [hd] at b4 b5
    have hdt : d < t.2 := by omega
    obtain ⟨c1, c2, c3, c4, c5, c6⟩ := b2
    unfold mX23_tests_L90
    dsimp only
    rw [w32_id (by omega), if_pos (by omega), m_canGo (c3.K r) w hk c1 hdt, bX_some, w32_b2i]
    have fin : ∀ y, (∃ t', MTs k C S y t' ∧ rngS C t' ∧ t' = (if okGo C t.1 d t.2 (kFa C) = true then (cutS t.1 d, t.2 - 1) else t)) → WP (some (Sum.inl ((d : Int) + (-1), y) : (Int × Sto) ⊕ Sto)) (WE (fun z => z.1 = ((s.2 - (i + 1) : Nat) : Int) - 1 ∧ ∃ t, MTs k C S z.2 t ∧ rngS C t ∧ trS C (s.2 - (i + 1)) t = trS C s.2 s ∧ s.2 - (i + 1) ≤ t.2 ∧ t.2 ≤ s.2) (fun z => MTs k C S z (trS C s.2 s))) := by
      rintro y ⟨t', y1, y2, y3⟩
      refine WP_some.2 ⟨by show (d : Int) + (-1) = _; omega, t', y1, y2, ?_, ?_, ?_⟩
      · rw [show s.2 - (i + 1) = d by omega, ← b4, y3]; rfl
      · rw [y3]; split
        · show s.2 - (i + 1) ≤ t.2 - 1; omega
        · omega
      · rw [y3]; split
        · show t.2 - 1 ≤ s.2; omega
        · omega
    cases e : okGo C t.1 d t.2 (kFa C) with
    | true =>
      rw [if_pos (by decide)]
      refine WP_call (R := fun y => ∃ t', MTs k C S y t' ∧ rngS C t' ∧ t' = (if okGo C t.1 d t.2 (kFa C) = true then (cutS t.1 d, t.2 - 1) else t)) ?_ (fun y hy => fin y hy)
      refine WP_callF (m_dropPattern w hk c1 hdt (b3.in32 w)) fr_mX23_dropPattern (fun x hx hg => WP_some.2 ?_)
      obtain ⟨a1, a2, a3⟩ := hx
      have e7 : ∀ i, gI x 2177 i = gI z2 2177 i := fun i => hg.ei rfl
      refine ⟨(cutS t.1 d, t.2 - 1), ⟨a1, fun g hg' => by rw [e7]; exact c2 g hg', c3.tr (KeM.fr hg rfl), fun j hj => ?_, c5.tr a2, fun j hj => (e7 j).trans (c6 j hj)⟩, b3.cut hdt, by rw [if_pos e]⟩
      have hj : j < t.2 - 1 := hj
      rw [a3]; exact c4 j (by omega)
    | false =>
      rw [if_neg (by decide), bX_some]
      exact fin z2 ⟨t, ⟨c1, c2, c3, c4, c5, c6⟩, b3, by rw [e, if_neg (by decide)]⟩
  · obtain ⟨z1, z2⟩ := z
    obtain ⟨b1, t, b2, b3, b4, b5, b6⟩ := hI
    dsimp only at b1 b2
    have e1 : z1 = -1 := by omega
    subst e1
    rw [Nat.sub_self] at b4
    unfold mX23_tests_L90
    dsimp only
    rw [w32_id (by omega), if_neg (by omega)]
    refine WP_some.2 ?_
    show MTs k C S z2 (trS C s.2 s)
    rw [← b4]; exact b2
end MTESTS
