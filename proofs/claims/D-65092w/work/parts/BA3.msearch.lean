/-! the least pattern that shows a fault: the reference's search -/
theorem leastN_none {b : Nat → Bool} {n : Nat} (h : ∀ i, i < n → b i = false) : leastN b n = -1 := by
  induction n with
  | zero => rfl
  | succ n ih =>
    have e := ih (fun i hi => h i (by omega))
    show (if leastN b n = -1 then (if b n = true then (n : Int) else -1) else leastN b n) = -1
    rw [if_pos e, h n (by omega), if_neg (by decide)]
theorem leastN_at {b : Nat → Bool} {n m : Nat} (hm : m < n) (hb : b m = true) (h : ∀ i, i < m → b i = false) : leastN b n = (m : Int) := by
  induction n with
  | zero => omega
  | succ n ih =>
    show (if leastN b n = -1 then (if b n = true then (n : Int) else -1) else leastN b n) = _
    by_cases q : m = n
    · subst q; rw [if_pos (leastN_none h), if_pos hb]
    · rw [ih (by omega), if_neg (by omega)]
theorem least_ex {b : Nat → Bool} {n : Nat} (h : b n = true) : ∃ m, m ≤ n ∧ b m = true ∧ ∀ i, i < m → b i = false := by
  induction n using Nat.strongRecOn with
  | ind n ih =>
    by_cases q : ∃ i, i < n ∧ b i = true
    · obtain ⟨i, hi, bi⟩ := q
      obtain ⟨m, m1, m2, m3⟩ := ih i hi bi
      exact ⟨m, by omega, m2, m3⟩
    · refine ⟨n, Nat.le_refl _, h, fun i hi => ?_⟩
      cases e : b i with
      | false => rfl
      | true => exact absurd ⟨i, hi, e⟩ q
theorem tb_ne0 {x : Int64} (h : ¬ x = 0) : ∃ m, m < 64 ∧ tb x m = true ∧ ∀ i, i < m → tb x i = false := by
  by_cases q : ∃ i, i < 64 ∧ tb x i = true
  · obtain ⟨i, hi, e⟩ := q
    obtain ⟨m, m1, m2, m3⟩ := least_ex (b := fun i => tb x i) e
    exact ⟨m, by omega, m2, m3⟩
  · refine absurd (tb_ext (fun i hi => ?_)) h
    rw [tb_0]
    cases e : tb x i with
    | false => rfl
    | true => exact absurd ⟨i, hi, e⟩ q
section MSEARCH
variable {S : Sto} {k : Nat} {C : Chp}
theorem m_low {x : Int64 × Sto} {m : Nat} (hm : m < 64) (h1 : tb x.1 m = true) (h2 : ∀ i, i < m → tb x.1 i = false) : lpF (mX23_searchPattern_L77 x) 0 = some (m : Int) := by
  refine WP.of ?_
  refine WP_cnt m (fun i z => z = (i : Int)) (by unfold cFU; omega) rfl (fun i z hi hI => ?_) (fun z hI => ?_)
  · subst hI
    unfold mX23_searchPattern_L77
    have e : w32 (lCmp (lUsh x.1 (i : Int) &&& 1) 0) = 0 := by
      rw [lCmp_eq0, and1_cases, tb_ush (by omega), Nat.add_zero, h2 i hi]; rfl
    rw [if_pos e]
    exact WP_some.2 (by show (i : Int) + 1 = _; omega)
  · subst hI
    unfold mX23_searchPattern_L77
    have e : ¬ w32 (lCmp (lUsh x.1 (m : Int) &&& 1) 0) = 0 := by
      rw [lCmp_eq0, and1_cases, tb_ush (by omega), Nat.add_zero, h1]; decide
    rw [if_neg e]
    exact WP_some.2 rfl
/-- words of all patterns -/
def kWds (C : Chp) : Nat := if kB C < 6 then 1 else 2 ^ (kB C - 6)
theorem kWds_rng (w : WFC C) : kWds C ≤ 64 := by
  have hn := w.nums
  unfold kWds
  by_cases q : kB C < 6
  · rw [if_pos q]; omega
  · rw [if_neg q]; exact Nat.pow_le_pow_right (n := 2) (by omega) (show kB C - 6 ≤ 6 by omega)
theorem kWds_le : 2 ^ kB C ≤ 64 * kWds C := by
  unfold kWds
  by_cases q : kB C < 6
  · rw [if_pos q]; exact Nat.pow_le_pow_right (n := 2) (by omega) (show kB C ≤ 6 by omega)
  · rw [if_neg q]
    obtain ⟨e, he⟩ : ∃ e, kB C = 6 + e := ⟨kB C - 6, by omega⟩
    rw [he, Nat.pow_add, show 6 + e - 6 = e by omega]; exact Nat.le_refl _
theorem kWds_in {n m : Nat} (hn : n < kWds C) (hm : m < 64) (h : (decide (6 ≤ kB C) || decide (m < 2 ^ kB C)) = true) : 64 * n + m < 2 ^ kB C := by
  unfold kWds at hn
  by_cases q : kB C < 6
  · rw [if_pos q] at hn
    rw [decide_eq_false (show ¬ 6 ≤ kB C by omega), Bool.false_or] at h
    have := of_decide_eq_true h
    omega
  · rw [if_neg q] at hn
    obtain ⟨e, he⟩ : ∃ e, kB C = 6 + e := ⟨kB C - 6, by omega⟩
    rw [he, Nat.pow_add]
    rw [he, show 6 + e - 6 = e by omega] at hn
    omega
theorem m_searchPattern (r : RefK S k C) (w : WFC C) (hk : k < 4) {f : Nat} (hf : f < kFa C) : WP (mX23_searchPattern S (k : Int) (f : Int)) (fun z => z.1 = kLeast C f) := by
  have hn := w.nums
  have e0 := r.1.1
  rw [w.i] at e0
  have e1 := r.1.2.1
  rw [w.r] at e1
  have es : (kI C : Int) + (kR C : Int) = ((kB C : Nat) : Int) := by omega
  have kw := kWds_rng w
  unfold mX23_searchPattern
  rw [rdI_e (by omega), Int.toNat_natCast, e0, rdI_e (by omega), Int.toNat_natCast, e1, es, w32_id (by omega)]
  refine WP_call (R := fun y => y = (kWds C : Int)) ?_ (fun y5 hy5 => ?_)
  · unfold kWds
    by_cases q : kB C < 6
    · rw [if_pos (by omega), if_pos q]; exact WP_some.2 rfl
    · rw [if_neg (by omega), if_neg q, rdI_e (by omega), Int.toNat_natCast, e0, rdI_e (by omega), Int.toNat_natCast, e1, es]
      rw [show ((kB C : Nat) : Int) - 6 = ((kB C - 6 : Nat) : Int) by omega, aShl1 (by omega)]
      exact WP_some.2 rfl
  subst hy5
  refine WP_bE.2 ?_
  refine WP_cnt (kWds C) (fun n z => z.1 = (n : Int) ∧ KeM S z.2 ∧ ∀ p, p < 64 * n → p < 2 ^ kB C → kShow C f p = false) (by unfold cFU; omega) ⟨rfl, KeM.refl, fun p hp => absurd hp (by omega)⟩ (fun n z hn' hI => ?_) (fun z hI => ?_)
  · obtain ⟨b1, b2, b3⟩ := hI
    unfold mX23_searchPattern_L44
    rw [b1, w32_id (by omega), w32_id (by omega), if_pos (by omega)]
    refine WP_callF (m_layRight (b2.K r) w hk (by omega)) fr_mX23_layRight (fun x7 h7 g7 => ?_)
    have k7 := b2.tr (KeM.fr g7 rfl)
    refine WP_callF (m_shownWord (k7.K r) w hk (by omega) hf h7) fr_mX23_shownWord (fun x8 h8 g8 => ?_)
    have k8 := k7.tr (KeM.fr g8 rfl)
    by_cases q : x8.1 = 0
    · have q' : w32 (lCmp x8.1 0) = 0 := by rw [lCmp_eq0]; exact q
      rw [if_neg (fun g => g q')]
      refine WP_some.2 ⟨by show (n : Int) + 1 = _; omega, k8, fun p hp hp2 => ?_⟩
      by_cases l : p < 64 * n
      · exact b3 p l hp2
      · have t := h8 (p - 64 * n) (by omega)
        rw [q, tb_0, show 64 * n + (p - 64 * n) = p by omega] at t
        have msk : (decide (6 ≤ kB C) || decide (p - 64 * n < 2 ^ kB C)) = true := by
          rw [decide_eq_true (show p - 64 * n < 2 ^ kB C by omega), Bool.or_true]
        rw [msk, Bool.and_true] at t
        exact t.symm
    · have q' : ¬ w32 (lCmp x8.1 0) = 0 := by rw [lCmp_eq0]; exact q
      obtain ⟨m, m1, m2, m3⟩ := tb_ne0 q
      rw [if_pos q', m_low m1 m2 m3, bX_some]
      have t := h8 m m1
      rw [m2] at t
      have t := t.symm
      rw [Bool.and_eq_true] at t
      have inn := kWds_in hn' m1 t.2
      refine WP_some.2 ?_
      show 64 * (n : Int) + (m : Int) = kLeast C f
      unfold kLeast
      rw [leastN_at inn t.1 (fun i hi => ?_)]
      · omega
      · by_cases l : i < 64 * n
        · exact b3 i l (by omega)
        · have s := h8 (i - 64 * n) (by omega)
          rw [m3 _ (by omega), show 64 * n + (i - 64 * n) = i by omega] at s
          have msk : (decide (6 ≤ kB C) || decide (i - 64 * n < 2 ^ kB C)) = true := by
            rw [decide_eq_true (show i - 64 * n < 2 ^ kB C by omega), Bool.or_true]
          rw [msk, Bool.and_true] at s
          exact s.symm
  · obtain ⟨b1, b2, b3⟩ := hI
    unfold mX23_searchPattern_L44
    rw [b1, w32_id (by omega), if_neg (by omega)]
    refine WP_some.2 (WP_some.2 ?_)
    show (-1 : Int) = kLeast C f
    have := kWds_le (C := C)
    unfold kLeast
    rw [leastN_none (fun i hi => b3 i (by omega) hi)]
theorem kLeast_rng (w : WFC C) {f : Nat} : -1 ≤ kLeast C f ∧ kLeast C f < 4096 := by
  have hn := w.nums
  have p12 : 2 ^ kB C ≤ 4096 := Nat.pow_le_pow_right (n := 2) (by omega) hn.2.1
  have key : ∀ n, -1 ≤ leastN (kShow C f) n ∧ leastN (kShow C f) n < (n : Int) + 1 := by
    intro n
    induction n with
    | zero => show (-1 : Int) ≤ -1 ∧ (-1 : Int) < ((0 : Nat) : Int) + 1; omega
    | succ n ih =>
      show -1 ≤ (if leastN (kShow C f) n = -1 then (if kShow C f n = true then (n : Int) else -1) else leastN (kShow C f) n) ∧ (if leastN (kShow C f) n = -1 then (if kShow C f n = true then (n : Int) else -1) else leastN (kShow C f) n) < _
      split
      · split <;> omega
      · omega
  have h := key (2 ^ kB C)
  have h2 : leastN (kShow C f) (2 ^ kB C) < (2 ^ kB C : Nat) ∨ leastN (kShow C f) (2 ^ kB C) = ((2 ^ kB C : Nat) : Int) := by omega
  unfold kLeast
  generalize 2 ^ kB C = P at *
  by_cases q : leastN (kShow C f) P < (P : Int)
  · omega
  · have ih := key
    cases P with
    | zero => omega
    | succ P =>
      have a := key P
      have e : leastN (kShow C f) (P + 1) = (if leastN (kShow C f) P = -1 then (if kShow C f P = true then (P : Int) else -1) else leastN (kShow C f) P) := rfl
      rw [e] at q
      split at q
      · split at q <;> omega
      · omega
/-- kept in between -/
def MLeast (S : Sto) (k : Nat) (C : Chp) : Prop := ∀ f, f < kFa C → gI S 2177 (1280 * k + f) = 0 ∨ gI S 2177 (1280 * k + f) = 2 + kLeast C f
theorem m_leastPattern (r : RefK S k C) (w : WFC C) (hk : k < 4) {f : Nat} (hf : f < kFa C) (hM : MLeast S k C) : WP (mX23_leastPattern S (k : Int) (f : Int)) (fun z => z.1 = kLeast C f ∧ MLeast z.2 k C ∧ ∀ i, i < 1280 * k ∨ 1280 * (k + 1) ≤ i → gI z.2 2177 i = gI S 2177 i) := by
  have hn := w.nums
  have fa := kFa_le w
  have lr := kLeast_rng w (f := f)
  have zt : (1280 * (k : Int) + (f : Int)).toNat = 1280 * k + f := by omega
  unfold mX23_leastPattern
  rw [rdI_e (by omega), zt]
  refine WP_call (R := fun y => gI y 2177 (1280 * k + f) = 2 + kLeast C f ∧ MLeast y k C ∧ ∀ i, i < 1280 * k ∨ 1280 * (k + 1) ≤ i → gI y 2177 i = gI S 2177 i) ?_ (fun y hy => ?_)
  · rcases hM f hf with h | h
    · rw [h, if_pos (by decide)]
      refine WP_callF (m_searchPattern r w hk hf) fr_mX23_searchPattern (fun x hx hg => ?_)
      have e : ∀ i, gI x.2 2177 i = gI S 2177 i := fun i => hg.ei rfl
      rw [wrI_e (by omega), zt, hx]
      refine WP_some.2 ⟨by rw [gI_set, w32_id (by omega)], fun g hg' => ?_, fun i hi => ?_⟩
      · by_cases q : g = f
        · subst q; exact .inr (by rw [gI_set, w32_id (by omega)])
        · rw [hI_sI_i (by omega), e]; exact hM g hg'
      · rw [hI_sI_i (by omega), e]
    · rw [h, if_neg (by rw [w32_id (by omega)]; omega)]
      by_cases q : 2 + kLeast C f = 0
      · omega
      · exact WP_some.2 ⟨h, hM, fun i _ => rfl⟩
  obtain ⟨h1, h2, h3⟩ := hy
  rw [rdI_e (by omega), zt, h1]
  exact WP_some.2 ⟨by show 2 + kLeast C f - 2 = _; omega, h2, h3⟩
end MSEARCH
