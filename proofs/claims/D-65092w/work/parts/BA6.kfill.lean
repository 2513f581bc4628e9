/-! the class's words: patterns, gates -/
section KFILL
variable {S : Sto} {k : Nat} {C : Chp}
theorem tb_bit {s i : Nat} (hs : s < 64) (hi : i < 64) : tb (lShl 1 (s : Int)) i = decide (i = s) := by
  have h1 : ∀ j, tb 1 j = decide (j = 0) := fun j => by
    show (1#64).getLsbD j = _
    rw [BitVec.getLsbD_one]; simp
  rw [tb_shl hs, h1, decide_eq_true hi, Bool.true_and]
  by_cases q : i = s
  · rw [decide_eq_true q, decide_eq_false (by omega), decide_eq_true (by omega)]; rfl
  · rw [decide_eq_false q]
    by_cases l : i < s
    · rw [decide_eq_true l]; rfl
    · rw [decide_eq_false (show ¬ i - s = 0 by omega), Bool.and_false]
theorem k_pattern {n u : Nat} (hn : n < 12) (hu : u < 64) : WP (mX9_pattern (n : Int) (u : Int)) (fun x => ∀ i, i < 64 → tb x i = (64 * u + i).testBit n) := by
  unfold mX9_pattern
  rw [w32_id (by omega)]
  by_cases q : 6 ≤ n
  · rw [if_pos (by omega), show (n : Int) - 6 = ((n - 6 : Nat) : Int) by omega, aBit (by omega) (by omega), w32_b2i]
    cases e : u.testBit (n - 6) with
    | true => rw [if_pos (by decide), bX_some]; exact WP_some.2 (fun i hi => by rw [testBit_split hi, if_neg (by omega), e, tb_m1 hi])
    | false => rw [if_neg (by decide), bX_some]; exact WP_some.2 (fun i hi => by rw [testBit_split hi, if_neg (by omega), e, tb_0])
  · rw [if_neg (by omega)]
    refine WP_call (R := fun x => ∀ i, i < 64 → tb x i = (64 * u + i).testBit n) ?_ (fun x hx => WP_some.2 hx)
    refine WP_cnt 64 (fun s t => t.2 = (s : Int) ∧ ∀ i, i < 64 → tb t.1 i = (decide (i < s) && i.testBit n)) (by unfold cFU; omega) ⟨rfl, fun i hi => by rw [tb_0]; rfl⟩ (fun s t hs hI => ?_) (fun t hI => ?_)
    · obtain ⟨b1, b2⟩ := hI
      unfold mX9_pattern_L31
      rw [b1, w32_id (by omega), if_pos (by omega), aBit (by omega) (by omega), w32_b2i]
      cases e : s.testBit n with
      | true =>
        rw [if_pos (by decide), bX_some]
        refine WP_some.2 ⟨by show (s : Int) + 1 = _; omega, fun i hi => ?_⟩
        dsimp only
        rw [tb_or, b2 i hi, tb_bit hs hi]
        by_cases l : i = s
        · subst l; rw [e, decide_eq_true rfl, decide_eq_true (show i < i + 1 by omega), Bool.or_true]; rfl
        · rw [decide_eq_false l, Bool.or_false]
          by_cases m : i < s
          · rw [decide_eq_true m, decide_eq_true (show i < s + 1 by omega)]
          · rw [decide_eq_false m, decide_eq_false (show ¬ i < s + 1 by omega)]
      | false =>
        rw [if_neg (by decide), bX_some]
        refine WP_some.2 ⟨by show (s : Int) + 1 = _; omega, fun i hi => ?_⟩
        dsimp only
        rw [b2 i hi]
        by_cases l : i = s
        · subst l; rw [e, Bool.and_false, Bool.and_false]
        · by_cases m : i < s
          · rw [decide_eq_true m, decide_eq_true (show i < s + 1 by omega)]
          · rw [decide_eq_false m, decide_eq_false (show ¬ i < s + 1 by omega)]
    · obtain ⟨b1, b2⟩ := hI
      unfold mX9_pattern_L31
      rw [b1, w32_id (by omega), if_neg (by omega)]
      exact WP_some.2 (fun i hi => by rw [b2 i hi, decide_eq_true hi, Bool.true_and, testBit_split hi, if_pos (by omega)])
theorem and_b : ∀ s : Fin 8, (w32 (aAnd (s.val : Int) 1) = 1 ↔ s.val.testBit 0 = true) ∧ (w32 (aAnd (s.val : Int) 2) = 2 ↔ s.val.testBit 1 = true) ∧ (w32 (aAnd (s.val : Int) 4) = 4 ↔ s.val.testBit 2 = true) := by decide
/-- a word, or its complement -/
theorem lit_b {x : Int64} {c : Prop} [Decidable c] {b : Bool} (h : c ↔ b = true) : WP (if c then some x else some (x ^^^ (-1))) (fun y => ∀ i, i < 64 → tb y i = (tb x i == b)) := by
  cases b with
  | true => rw [if_pos (h.2 rfl)]; exact WP_some.2 (fun i hi => by cases tb x i <;> rfl)
  | false => rw [if_neg (fun g => absurd (h.1 g) (by decide))]; exact WP_some.2 (fun i hi => by rw [tb_not hi]; cases tb x i <;> rfl)
theorem k_word19 (hk : k < 4) (r : RepK S (344 + 22 * k) C) (w : WFC C) (hR : gR S 264 0 = 344 + 22 * k) {c : Nat} (hc : c < kL C) {x y z : Int64} :
    WP (mX19_word S (c : Int) x y z) (fun v => ∀ i, i < 64 → tb v i = ((kLf C c).testBit (idx3 (kLi C c) (tb x i) (tb y i) (tb z i)) && tb (gL S 264 2) i)) := by
  have hn := w.nums
  have li := w.li hc
  have e2 := (r.2.2.2.2.2 c hc).1
  rw [li.1] at e2
  have m8 : 2 ^ kLi C c ≤ 2 ^ 3 := Nat.pow_le_pow_right (by omega) li.2.2
  unfold mX19_word
  refine WP_call (R := fun v => ∀ i, i < 64 → tb v i = (kLf C c).testBit (idx3 (kLi C c) (tb x i) (tb y i) (tb z i))) ?_ (fun v hv => WP_some.2 (fun i hi => by rw [tb_and, hv i hi]))
  refine WP_cnt (2 ^ kLi C c) (fun s t => t.2 = (s : Int) ∧ ∀ i, i < 64 → tb t.1 i = (decide (idx3 (kLi C c) (tb x i) (tb y i) (tb z i) < s) && (kLf C c).testBit (idx3 (kLi C c) (tb x i) (tb y i) (tb z i)))) (by unfold cFU; omega) ⟨rfl, fun i hi => by rw [tb_0]; rfl⟩ (fun s t hs hI => ?_) (fun t hI => ?_)
  · obtain ⟨a1, a2⟩ := hI
    have s8 : s < 8 := by omega
    obtain ⟨f1, f2, f3⟩ := and_b ⟨s, s8⟩
    dsimp only at f1 f2 f3
    unfold mX19_word_L6
    rw [hR, gk_chip hk, rdI_e (by omega), Int.toNat_natCast, e2, aShl1 (by omega), a1, w32_id (by omega), w32_id (by omega), if_pos (by omega), gk_chip hk, k_tells r w (by omega) (by omega), bX_some, w32_b2i, Int.toNat_natCast]
    refine WP_call (R := fun v => ∀ i, i < 64 → tb v i = (decide (idx3 (kLi C c) (tb x i) (tb y i) (tb z i) < s + 1) && (kLf C c).testBit (idx3 (kLi C c) (tb x i) (tb y i) (tb z i)))) ?_ (fun v hv => WP_some.2 ⟨by show (s : Int) + 1 = _; omega, hv⟩)
    have ex : ∀ i, idx3 (kLi C c) (tb x i) (tb y i) (tb z i) = s ↔ _ := fun i => idx3_eq li.2 hs (tb x i) (tb y i) (tb z i)
    by_cases q : (kLf C c).testBit s = true
    · rw [q, if_neg (by decide)]
      refine WP_call (lit_b f1) (fun y6 h6 => ?_)
      rw [gk_chip hk, rdI_e (by omega), Int.toNat_natCast, e2, w32_id (by omega)]
      refine WP_call (R := fun v => ∀ i, i < 64 → tb v i = ((tb x i == s.testBit 0) && (decide (1 < kLi C c → tb y i = s.testBit 1)))) ?_ (fun y10 h10 => ?_)
      · by_cases g : 1 < kLi C c
        · rw [if_pos (by omega)]
          refine WP_call (lit_b f2) (fun y9 h9 => WP_some.2 (fun i hi => ?_))
          rw [tb_and, h6 i hi, h9 i hi]
          cases tb y i <;> cases s.testBit 1 <;> simp [g]
        · rw [if_neg (by omega)]
          exact WP_some.2 (fun i hi => by rw [h6 i hi, decide_eq_true (fun g' => absurd g' g), Bool.and_true])
      rw [gk_chip hk, rdI_e (by omega), Int.toNat_natCast, e2, w32_id (by omega)]
      refine WP_call (R := fun v => ∀ i, i < 64 → tb v i = ((tb x i == s.testBit 0) && (decide (1 < kLi C c → tb y i = s.testBit 1)) && (decide (2 < kLi C c → tb z i = s.testBit 2)))) ?_ (fun y14 h14 => ?_)
      · by_cases g : 2 < kLi C c
        · rw [if_pos (by omega)]
          refine WP_call (lit_b f3) (fun y9 h9 => WP_some.2 (fun i hi => ?_))
          rw [tb_and, h10 i hi, h9 i hi]
          cases tb z i <;> cases s.testBit 2 <;> simp [g]
        · rw [if_neg (by omega)]
          exact WP_some.2 (fun i hi => by rw [h10 i hi, decide_eq_true (show (2 < kLi C c → tb z i = s.testBit 2) from fun g' => absurd g' g), Bool.and_true])
      refine WP_some.2 (fun i hi => ?_)
      rw [tb_or, a2 i hi, h14 i hi]
      by_cases hq : idx3 (kLi C c) (tb x i) (tb y i) (tb z i) = s
      · obtain ⟨g1, g2, g3⟩ := (ex i).1 hq
        rw [hq, decide_eq_false (show ¬ s < s by omega), decide_eq_true (show s < s + 1 by omega), q, g1, decide_eq_true g2, decide_eq_true g3]
        cases s.testBit 0 <;> rfl
      · have no : ((tb x i == s.testBit 0) && (decide (1 < kLi C c → tb y i = s.testBit 1)) && (decide (2 < kLi C c → tb z i = s.testBit 2))) = false := by
          cases e : ((tb x i == s.testBit 0) && (decide (1 < kLi C c → tb y i = s.testBit 1)) && (decide (2 < kLi C c → tb z i = s.testBit 2))) with
          | false => rfl
          | true =>
            rw [Bool.and_eq_true, Bool.and_eq_true] at e
            exact absurd ((ex i).2 ⟨eq_of_beq e.1.1, of_decide_eq_true e.1.2, of_decide_eq_true e.2⟩) hq
        rw [no, Bool.or_false]
        by_cases l : idx3 (kLi C c) (tb x i) (tb y i) (tb z i) < s
        · rw [decide_eq_true l, decide_eq_true (show _ < s + 1 by omega)]
        · rw [decide_eq_false l, decide_eq_false (show ¬ _ < s + 1 by omega)]
    · have q' : (kLf C c).testBit s = false := Bool.eq_false_iff.2 q
      rw [q', if_pos (by decide)]
      refine WP_some.2 (fun i hi => ?_)
      rw [a2 i hi]
      by_cases hq : idx3 (kLi C c) (tb x i) (tb y i) (tb z i) = s
      · rw [hq, q', Bool.and_false, Bool.and_false]
      · by_cases l : idx3 (kLi C c) (tb x i) (tb y i) (tb z i) < s
        · rw [decide_eq_true l, decide_eq_true (show _ < s + 1 by omega)]
        · rw [decide_eq_false l, decide_eq_false (show ¬ _ < s + 1 by omega)]
  · obtain ⟨a1, a2⟩ := hI
    unfold mX19_word_L6
    rw [hR, gk_chip hk, rdI_e (by omega), Int.toNat_natCast, e2, aShl1 (by omega), a1, if_neg (Int.lt_irrefl _)]
    refine WP_some.2 (fun i hi => ?_)
    have e : idx3 (kLi C c) (tb x i) (tb y i) (tb z i) < 2 ^ kLi C c := bitsN_lt _ _
    rw [a2 i hi, decide_eq_true e, Bool.true_and]
end KFILL
