/-! names packed into words -/
theorem tb_i2l {a m : Nat} (h : a < 256) : tb (i2l (a : Int)) m = a.testBit m := by
  have e : (i2l (a : Int)).toBitVec = BitVec.ofNat 64 a := by
    apply BitVec.eq_of_toInt_eq
    have h1 : (i2l (a : Int)).toBitVec.toInt = (i2l (a : Int)).toInt := rfl
    have h2 : (BitVec.ofNat 64 a).toNat = a := by rw [BitVec.toNat_ofNat]; omega
    rw [h1, i2l_int, w32_id (by omega), BitVec.toInt_eq_toNat_of_lt (by rw [h2]; omega), h2]
  unfold tb
  rw [e, BitVec.getLsbD_ofNat]
  by_cases g : m < 64
  · rw [decide_eq_true g, Bool.true_and]
  · rw [decide_eq_false g, Bool.false_and]
    exact (Nat.testBit_lt_two_pow (Nat.lt_of_lt_of_le (show a < 2 ^ 8 by omega) (Nat.pow_le_pow_right (by omega) (by omega)))).symm
theorem tb8 {a m : Nat} (h : a < 256) (g : 8 ≤ m) : a.testBit m = false := Nat.testBit_lt_two_pow (Nat.lt_of_lt_of_le (show a < 2 ^ 8 by omega) (Nat.pow_le_pow_right (by omega) g))
/-- byte k of a word, from the left -/
theorem tb_one {a k s i : Nat} (ha : a < 256) (hk : k ≤ 7) (hs : s = 56 - 8 * k) (hi : i < 64) : tb (lShl (i2l (a : Int)) (s : Int)) i = (decide (7 - i / 8 = k) && a.testBit (i % 8)) := by
  rw [tb_shl (by omega), tb_i2l ha, decide_eq_true hi, Bool.true_and]
  by_cases g : 7 - i / 8 = k
  · rw [decide_eq_true g, decide_eq_false (by omega), show i - s = i % 8 by omega]; rfl
  · rw [decide_eq_false g, Bool.false_and]
    by_cases g2 : i < s
    · rw [decide_eq_true g2]; rfl
    · rw [tb8 ha (by omega), Bool.and_false]
def isPk (x : Int64) (f : Nat → Nat) : Prop := ∀ i, i < 64 → tb x i = (f (7 - i / 8)).testBit (i % 8)
theorem isPk.eq {x y : Int64} {f g : Nat → Nat} (h : isPk x f) (k : isPk y g) (hf : ∀ t, f t < 256) (hg : ∀ t, g t < 256) : x = y ↔ ∀ t, t < 8 → f t = g t := by
  constructor
  · intro e t ht
    apply Nat.eq_of_testBit_eq
    intro m
    by_cases hm : m < 8
    · have h1 := h (8 * (7 - t) + m) (by omega)
      have h2 := k (8 * (7 - t) + m) (by omega)
      rw [show 7 - (8 * (7 - t) + m) / 8 = t by omega, show (8 * (7 - t) + m) % 8 = m by omega] at h1 h2
      rw [← h1, ← h2, e]
    · rw [tb8 (hf t) (by omega), tb8 (hg t) (by omega)]
  · intro e
    refine tb_ext (fun i hi => ?_)
    rw [h i hi, k i hi, e _ (by omega)]
theorem isPk_0 : isPk 0 (fun _ => 0) := fun i _ => by rw [tb_0, Nat.zero_testBit]
theorem isPk_or {x : Int64} {f : Nat → Nat} {a k s : Nat} (h : isPk x f) (ha : a < 256) (hk : k ≤ 7) (hs : s = 56 - 8 * k) (h0 : f k = 0) : isPk (x ||| lShl (i2l (a : Int)) (s : Int)) (fun t => if t = k then a else f t) := by
  intro i hi
  rw [tb_or, h i hi, tb_one ha hk hs hi]
  dsimp only
  by_cases g : 7 - i / 8 = k
  · rw [decide_eq_true g, if_pos g, g, h0, Nat.zero_testBit, Bool.false_or, Bool.true_and]
  · rw [decide_eq_false g, if_neg g, Bool.false_and, Bool.or_false]
theorem m_word {a b c d e f : Nat} (h : a < 256 ∧ b < 256 ∧ c < 256 ∧ d < 256 ∧ e < 256 ∧ f < 256) : ∃ x, mX23_word (a : Int) (b : Int) (c : Int) (d : Int) (e : Int) (f : Int) = some x ∧ isPk x (fun t => if t = 0 then a else if t = 1 then b else if t = 2 then c else if t = 3 then d else if t = 4 then e else if t = 5 then f else 0) := by
  obtain ⟨ha, hb, hc, hd, he, hf⟩ := h
  refine ⟨_, rfl, fun i hi => ?_⟩
  have o1 := tb_one (s := 56) ha (k := 0) (by omega) (by omega) hi
  have o2 := tb_one (s := 48) hb (k := 1) (by omega) (by omega) hi
  have o3 := tb_one (s := 40) hc (k := 2) (by omega) (by omega) hi
  have o4 := tb_one (s := 32) hd (k := 3) (by omega) (by omega) hi
  have o5 := tb_one (s := 24) he (k := 4) (by omega) (by omega) hi
  have o6 := tb_one (s := 16) hf (k := 5) (by omega) (by omega) hi
  have r : ∀ (x : Int64) (s : Int), tb x i = tb x i := fun _ _ => rfl
  rw [tb_or, tb_or, tb_or, tb_or, tb_or]
  refine Eq.trans (congr (congrArg Bool.or (congr (congrArg Bool.or (congr (congrArg Bool.or (congr (congrArg Bool.or (congr (congrArg Bool.or o1) o2)) o3)) o4)) o5)) o6) ?_
  generalize 7 - i / 8 = t
  generalize i % 8 = m
  by_cases g0 : t = 0
  · subst g0; simp
  by_cases g1 : t = 1
  · subst g1; simp
  by_cases g2 : t = 2
  · subst g2; simp
  by_cases g3 : t = 3
  · subst g3; simp
  by_cases g4 : t = 4
  · subst g4; simp
  by_cases g5 : t = 5
  · subst g5; simp
  · simp [g0, g1, g2, g3, g4, g5]
/-- the bytes of a name, 0 behind it -/
def fB (u : Nat → Int) (p e : Nat) (t : Nat) : Nat := if t < e - p then (u (p + t)).toNat else 0
def w4 (f : Nat → Nat) : Nat := f 8 * 16777216 + f 9 * 65536 + f 10 * 256 + f 11
section PCK
variable {u : Nat → Int} {n : Nat} {p e : Nat}
theorem fB_lt (h : ∀ t, t < e - p → 1 ≤ u (p + t) ∧ u (p + t) < 128) (t : Nat) : fB u p e t < 128 := by
  unfold fB; split
  · rename_i g; have := h t g; omega
  · omega
theorem fB_pos (h : ∀ t, t < e - p → 1 ≤ u (p + t) ∧ u (p + t) < 128) {t : Nat} : fB u p e t = 0 ↔ e - p ≤ t := by
  unfold fB; split
  · rename_i g; have := h t g; omega
  · omega
theorem tx_iff {l : List Int} (he : p ≤ e) (h : ∀ t, t < e - p → 1 ≤ u (p + t) ∧ u (p + t) < 128) (h8 : e - p ≤ 8) (hl : l.length ≤ 6) (hx : ∀ i, i < l.length → 1 ≤ l.getD i 0 ∧ l.getD i 0 < 128) : (∀ t, t < 8 → fB u p e t = (l.getD t 0).toNat) ↔ isTx u p e l := by
  have hz : ∀ i, l.length ≤ i → l.getD i 0 = 0 := fun i hi => by rw [List.getD_eq_getElem?_getD, List.getElem?_eq_none hi]; rfl
  constructor
  · intro g
    have hlen : e - p = l.length := by
      rcases Nat.lt_trichotomy (e - p) l.length with c | c | c
      · have h1 := g (e - p) (by omega)
        rw [(fB_pos h).2 (Nat.le_refl _)] at h1
        have := hx (e - p) c; omega
      · exact c
      · have h1 := g l.length (by omega)
        rw [hz _ (Nat.le_refl _)] at h1
        have h2 := (fB_pos h (t := l.length)).1 (by rw [h1]; rfl)
        omega
    refine isTx_iff.2 ⟨by omega, fun i hi => ?_⟩
    have h1 := g i (by omega)
    unfold fB at h1
    rw [if_pos (by omega)] at h1
    have := h i (by omega); have := hx i hi; omega
  · intro g t _
    obtain ⟨g1, g2⟩ := isTx_iff.1 g
    unfold fB
    by_cases c : t < l.length
    · rw [if_pos (by omega), g2 t c]
    · rw [if_neg (by omega), hz t (by omega)]; rfl
theorem m_wordOf {x : Int64} (he : p ≤ e) (h : ∀ t, t < e - p → 1 ≤ u (p + t) ∧ u (p + t) < 128) (h8 : e - p ≤ 8) (hx : isPk x (fB u p e)) : mX23_wordOf x = some (wdOf u p e) := by
  have key : ∀ (a b c d ee f : Nat) (l : List Int), a < 256 ∧ b < 256 ∧ c < 256 ∧ d < 256 ∧ ee < 256 ∧ f < 256 → l.length ≤ 6 → (∀ i, i < l.length → 1 ≤ l.getD i 0 ∧ l.getD i 0 < 128) → (∀ t, t < 8 → (if t = 0 then a else if t = 1 then b else if t = 2 then c else if t = 3 then d else if t = 4 then ee else if t = 5 then f else 0) = (l.getD t 0).toNat) → ∃ y, mX23_word (a : Int) (b : Int) (c : Int) (d : Int) (ee : Int) (f : Int) = some y ∧ (w32 (lCmp x y) = 0 ↔ isTx u p e l) := by
    intro a b c d ee f l h1 h2 h3 h4
    obtain ⟨y, y1, y2⟩ := m_word h1
    refine ⟨y, y1, ?_⟩
    rw [lCmp_eq0, hx.eq y2 (fun t => by have := fB_lt h t; omega) (fun t => by repeat (first | omega | split)), ← tx_iff he h h8 h2 h3]
    constructor
    · intro g t ht; rw [g t ht]; exact h4 t ht
    · intro g t ht; rw [g t ht]; exact (h4 t ht).symm
  obtain ⟨y1, a1, b1⟩ := key 109 111 100 117 108 101 [109, 111, 100, 117, 108, 101] (by decide) (by decide) (by decide) (by decide)
  obtain ⟨y2, a2, b2⟩ := key 105 110 0 0 0 0 [105, 110] (by decide) (by decide) (by decide) (by decide)
  obtain ⟨y3, a3, b3⟩ := key 111 117 116 0 0 0 [111, 117, 116] (by decide) (by decide) (by decide) (by decide)
  obtain ⟨y4, a4, b4⟩ := key 108 101 116 0 0 0 [108, 101, 116] (by decide) (by decide) (by decide) (by decide)
  obtain ⟨y5, a5, b5⟩ := key 114 101 103 0 0 0 [114, 101, 103] (by decide) (by decide) (by decide) (by decide)
  obtain ⟨y6, a6, b6⟩ := key 117 115 101 0 0 0 [117, 115, 101] (by decide) (by decide) (by decide) (by decide)
  obtain ⟨y7, a7, b7⟩ := key 99 101 108 108 0 0 [99, 101, 108, 108] (by decide) (by decide) (by decide) (by decide)
  have a1 : mX23_word 109 111 100 117 108 101 = some y1 := a1
  have a2 : mX23_word 105 110 0 0 0 0 = some y2 := a2
  have a3 : mX23_word 111 117 116 0 0 0 = some y3 := a3
  have a4 : mX23_word 108 101 116 0 0 0 = some y4 := a4
  have a5 : mX23_word 114 101 103 0 0 0 = some y5 := a5
  have a6 : mX23_word 117 115 101 0 0 0 = some y6 := a6
  have a7 : mX23_word 99 101 108 108 0 0 = some y7 := a7
  unfold mX23_wordOf wdOf
  rw [a1, bX_some, a2, bX_some, a3, bX_some, a4, bX_some, a5, bX_some, a6, bX_some, a7, bX_some]
  by_cases g1 : isTx u p e [109, 111, 100, 117, 108, 101]
  · rw [if_pos (b1.2 g1), if_pos g1]; rfl
  rw [if_neg (fun q => g1 (b1.1 q)), if_neg g1]
  by_cases g2 : isTx u p e [105, 110]
  · rw [if_pos (b2.2 g2), if_pos g2]; rfl
  rw [if_neg (fun q => g2 (b2.1 q)), if_neg g2]
  by_cases g3 : isTx u p e [111, 117, 116]
  · rw [if_pos (b3.2 g3), if_pos g3]; rfl
  rw [if_neg (fun q => g3 (b3.1 q)), if_neg g3]
  by_cases g4 : isTx u p e [108, 101, 116]
  · rw [if_pos (b4.2 g4), if_pos g4]; rfl
  rw [if_neg (fun q => g4 (b4.1 q)), if_neg g4]
  by_cases g5 : isTx u p e [114, 101, 103]
  · rw [if_pos (b5.2 g5), if_pos g5]; rfl
  rw [if_neg (fun q => g5 (b5.1 q)), if_neg g5]
  by_cases g6 : isTx u p e [117, 115, 101]
  · rw [if_pos (b6.2 g6), if_pos g6]; rfl
  rw [if_neg (fun q => g6 (b6.1 q)), if_neg g6]
  by_cases g7 : isTx u p e [99, 101, 108, 108]
  · rw [if_pos (b7.2 g7), if_pos g7]; rfl
  rw [if_neg (fun q => g7 (b7.1 q)), if_neg g7]; rfl
end PCK
