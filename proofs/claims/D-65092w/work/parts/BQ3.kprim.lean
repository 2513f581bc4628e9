/-! the class's scanner as an abstract reader: at token j, or a fault (code, place) -/
abbrev Qq : Type := Nat ⊕ (Int × Int)
/-- one token on -/
def nxT (u : Nat → Int) (n : Nat) (j : Nat) : Qq := if tkK u n (j + 1) = 4 then .inr (1, (tkB u n (j + 1) : Int)) else .inl (j + 1)
def bq (q : Qq) (f : Nat → Qq) : Qq := match q with | .inl j => f j | .inr e => .inr e
/-- a fault at token j -/
def flT (u : Nat → Int) (n : Nat) (c : Int) (j : Nat) : Qq := .inr (c, (tkB u n j : Int))
def isS (u : Nat → Int) (n : Nat) (c : Int) (j : Nat) : Bool := decide (tkK u n j = 3 ∧ tkV u n j = c)
def isSq (u : Nat → Int) (n : Nat) (c : Int) : Qq → Bool
  | .inl j => isS u n c j
  | .inr _ => false
def isK (u : Nat → Int) (n : Nat) (k : Int) : Qq → Bool
  | .inl j => decide (tkK u n j = k)
  | .inr _ => false
def isWq (u : Nat → Int) (n : Nat) (w : Int) : Qq → Bool
  | .inl j => decide (tkK u n j = 6 ∧ tkV u n j = w)
  | .inr _ => false
def okQ : Qq → Bool
  | .inl _ => true
  | .inr _ => false
/-- fault 2 if it is not as it should be -/
def muT (u : Nat → Int) (n : Nat) (b : Bool) (q : Qq) : Qq := bq q (fun j => if b = true then .inl j else flT u n 2 j)
/-- a sign must be there and is taken -/
def tkT (u : Nat → Int) (n : Nat) (c : Int) (q : Qq) : Qq := bq q (fun j => if isS u n c j = true then nxT u n j else flT u n 2 j)
/-- where a scanner stands -/
def ScQ (u : Nat → Int) (n : Nat) (S : Sto) (a0 : Nat) : Qq → Prop
  | .inl j => ScP u n S a0 (tkB u n j)
  | .inr e => gI S a0 8 = e.1 ∧ e.1 ≠ 0 ∧ gI S a0 9 = e.2
section KPR
variable {S S' : Sto} {a0 : Nat} {u : Nat → Int} {n : Nat} {q : Qq}
theorem ScQ.cg (h : ScQ u n S a0 q) (g : ∀ i, 2 ≤ i → i ≤ 9 → gI S' a0 i = gI S a0 i) : ScQ u n S' a0 q := by
  cases q with
  | inl j =>
    obtain ⟨h1, h2, h3, h4, h5, h6⟩ := h
    refine ⟨(g 8 (by omega) (by omega)).trans h1, (g 2 (by omega) (by omega)).trans h2, (g 4 (by omega) (by omega)).trans h3, (g 5 (by omega) (by omega)).trans h4, h5, ?_⟩
    unfold Fld at h6 ⊢
    rw [g 3 (by omega) (by omega), g 6 (by omega) (by omega), g 7 (by omega) (by omega)]
    exact h6
  | inr e => exact ⟨(g 8 (by omega) (by omega)).trans h.1, h.2.1, (g 9 (by omega) (by omega)).trans h.2.2⟩
theorem ScQ.ch (h : ScQ u n S a0 q) {P : Nat → Nat → Prop} (g : ChW P S S') (e : ∀ i, 2 ≤ i → i ≤ 9 → ¬ P a0 i) : ScQ u n S' a0 q := h.cg (fun i h1 h2 => g.1 _ _ (e i h1 h2))
theorem k_ok (h : ScQ u n S a0 q) : mX3_ok S a0 = some (b2i (okQ q)) := by
  unfold mX3_ok
  cases q with
  | inl j => rw [h.1, if_pos (by decide)]; rfl
  | inr e => rw [w32_gI, h.1, if_neg h.2.1]; rfl
theorem k_is (h : ScQ u n S a0 q) (hu : ∀ i, i < n → 0 ≤ u i ∧ u i < 256) {c : Int} (hc : 0 ≤ c ∧ c < 256) : mX3_is S a0 c = some (b2i (isSq u n c q)) := by
  unfold mX3_is
  rw [k_ok h, bX_some]
  cases q with
  | inr e => rfl
  | inl j =>
    obtain ⟨h1, h2, h3, h4, h5, h6⟩ := h
    obtain ⟨f5, f1, f6, f2, f3⟩ := h6
    simp only [w32_gI, w32_id (show -2147483648 ≤ c ∧ c < 2147483648 by omega), w32_b2i, okQ]
    rw [if_pos (by decide)]
    show bX (bX (if gI S a0 3 = 3 then (if gI S a0 6 = c then some true else some false) else some false) _) _ = _
    have hx : (if gI S a0 3 = 3 then (if gI S a0 6 = c then some true else some false) else some false) = some (isS u n c j) := by
      unfold isS tkK tkV
      rcases tK_rng (u := u) (n := n) (p := tkB u n j) with k | k | k | k | k | k
      · rw [if_neg (by rw [(f1 k).1]; decide), k]; rfl
      · rw [if_neg (by rw [(f2 k).1]; decide), k]; rfl
      · obtain ⟨g1, g2, g3⟩ := f3 k
        obtain ⟨_, v0, v1, _, _⟩ := tK_3 hu k
        rw [k]
        by_cases e : tV u n (tkB u n j) < 256
        · obtain ⟨g4, g5⟩ := g1 e
          rw [if_pos g4, g5]
          by_cases e2 : tV u n (tkB u n j) = c
          · rw [if_pos e2, decide_eq_true ⟨rfl, e2⟩]
          · rw [if_neg e2, decide_eq_false (fun z => e2 z.2)]
        · have e3 : gI S a0 3 ≠ 3 := by
            by_cases e4 : tV u n (tkB u n j) = 256
            · rw [g2 e4]; decide
            · rw [g3 (by omega)]; decide
          rw [if_neg e3, decide_eq_false (fun z => by have := z.2; omega)]
      · exact absurd k h5
      · rw [if_neg (by rw [f5 k]; decide), k]; rfl
      · rw [if_neg (by rw [(f6 k).1]; decide), k]; rfl
    rw [hx, bX_some]
    show _ = some (b2i (isS u n c j))
    cases isS u n c j <;> rfl
theorem k_isName (h : ScQ u n S a0 q) : mX3_isName S a0 = some (b2i (isK u n 1 q)) := by
  unfold mX3_isName
  rw [k_ok h, bX_some]
  cases q with
  | inr e => rfl
  | inl j =>
    obtain ⟨h1, h2, h3, h4, h5, h6⟩ := h
    obtain ⟨f5, f1, f6, f2, f3⟩ := h6
    simp only [w32_gI, w32_b2i, okQ]
    rw [if_pos (by decide)]
    have hx : (if gI S a0 3 = 1 then (if gI S a0 7 = 0 then some true else some false) else some false) = some (isK u n 1 (.inl j)) := by
      unfold isK tkK
      rcases tK_rng (u := u) (n := n) (p := tkB u n j) with k | k | k | k | k | k
      · rw [if_pos (f1 k).1, if_pos (f1 k).2]; dsimp only; rw [k]; rfl
      · rw [if_neg (by rw [(f2 k).1]; decide)]; dsimp only; rw [k]; rfl
      · have e3 : gI S a0 3 ≠ 1 := by
          obtain ⟨g1, g2, g3⟩ := f3 k
          by_cases e : tV u n (tkB u n j) < 256
          · rw [(g1 e).1]; decide
          · by_cases e4 : tV u n (tkB u n j) = 256
            · rw [g2 e4]; decide
            · by_cases e5 : tV u n (tkB u n j) = 257
              · rw [g3 e5]; decide
              · have := tV_le k e; omega
        rw [if_neg e3]; dsimp only; rw [k]; rfl
      · exact absurd k h5
      · rw [if_neg (by rw [f5 k]; decide)]; dsimp only; rw [k]; rfl
      · have := (tK_1 (Or.inr k)).2.2.2.2.2.2 k
        rw [if_pos (f6 k).1, if_neg (by rw [(f6 k).2]; omega)]; dsimp only; rw [k]; rfl
    rw [hx, bX_some]
    cases isK u n 1 (.inl j) <;> rfl
theorem k_isWord (h : ScQ u n S a0 q) {w : Int} (hw : 1 ≤ w ∧ w ≤ 100) : mX3_isWord S a0 w = some (b2i (isWq u n w q)) := by
  unfold mX3_isWord
  rw [k_ok h, bX_some]
  cases q with
  | inr e => rfl
  | inl j =>
    obtain ⟨h1, h2, h3, h4, h5, h6⟩ := h
    obtain ⟨f5, f1, f6, f2, f3⟩ := h6
    simp only [w32_gI, w32_b2i, okQ, w32_id (show -2147483648 ≤ w ∧ w < 2147483648 by omega)]
    rw [if_pos (by decide)]
    have hx : (if gI S a0 3 = 1 then (if gI S a0 7 = w then some true else some false) else some false) = some (isWq u n w (.inl j)) := by
      unfold isWq tkK tkV
      rcases tK_rng (u := u) (n := n) (p := tkB u n j) with k | k | k | k | k | k
      · rw [if_pos (f1 k).1, if_neg (by rw [(f1 k).2]; omega)]; dsimp only; rw [k]; rfl
      · rw [if_neg (by rw [(f2 k).1]; decide)]; dsimp only; rw [k]; rfl
      · have e3 : gI S a0 3 ≠ 1 := by
          obtain ⟨g1, g2, g3⟩ := f3 k
          by_cases e : tV u n (tkB u n j) < 256
          · rw [(g1 e).1]; decide
          · by_cases e4 : tV u n (tkB u n j) = 256
            · rw [g2 e4]; decide
            · by_cases e5 : tV u n (tkB u n j) = 257
              · rw [g3 e5]; decide
              · have := tV_le k e; omega
        rw [if_neg e3]; dsimp only; rw [k]; rfl
      · exact absurd k h5
      · rw [if_neg (by rw [f5 k]; decide)]; dsimp only; rw [k]; rfl
      · rw [if_pos (f6 k).1, (f6 k).2]; dsimp only; rw [k]
        by_cases e : tV u n (tkB u n j) = w
        · rw [if_pos e, decide_eq_true ⟨rfl, e⟩]
        · rw [if_neg e, decide_eq_false (fun z => e z.2)]
    rw [hx, bX_some]
    cases isWq u n w (.inl j) <;> rfl
theorem k_isNumber (h : ScQ u n S a0 q) : mX3_isNumber S a0 = some (b2i (isK u n 2 q)) := by
  unfold mX3_isNumber
  rw [k_ok h, bX_some]
  cases q with
  | inr e => rfl
  | inl j =>
    obtain ⟨h1, h2, h3, h4, h5, h6⟩ := h
    obtain ⟨f5, f1, f6, f2, f3⟩ := h6
    simp only [w32_gI, w32_b2i, okQ]
    rw [if_pos (by decide)]
    have hx : (if gI S a0 3 = 2 then some true else some false) = some (isK u n 2 (.inl j)) := by
      unfold isK tkK
      rcases tK_rng (u := u) (n := n) (p := tkB u n j) with k | k | k | k | k | k
      · rw [if_neg (by rw [(f1 k).1]; decide)]; dsimp only; rw [k]; rfl
      · rw [if_pos (f2 k).1]; dsimp only; rw [k]; rfl
      · have e3 : gI S a0 3 ≠ 2 := by
          obtain ⟨g1, g2, g3⟩ := f3 k
          by_cases e : tV u n (tkB u n j) < 256
          · rw [(g1 e).1]; decide
          · by_cases e4 : tV u n (tkB u n j) = 256
            · rw [g2 e4]; decide
            · by_cases e5 : tV u n (tkB u n j) = 257
              · rw [g3 e5]; decide
              · have := tV_le k e; omega
        rw [if_neg e3]; dsimp only; rw [k]; rfl
      · exact absurd k h5
      · rw [if_neg (by rw [f5 k]; decide)]; dsimp only; rw [k]; rfl
      · rw [if_neg (by rw [(f6 k).1]; decide)]; dsimp only; rw [k]; rfl
    rw [hx, bX_some]
    cases isK u n 2 (.inl j) <;> rfl
def PF89 (a0 : Nat) (a i : Nat) : Prop := a = a0 ∧ (i = 8 ∨ i = 9)
/-- a fault at the token of now -/
theorem k_fail (h : ScQ u n S a0 q) {c : Int} (hc : 1 ≤ c ∧ c ≤ 1000) (hn : n ≤ 4000) : WP (mX3_fail S a0 c (gI S a0 4)) (fun y => ScQ u n y a0 (bq q (flT u n c)) ∧ ChW (PF89 a0) S y) := by
  unfold mX3_fail
  cases q with
  | inl j =>
    obtain ⟨h1, h2, h3, h4, h5, h6⟩ := h
    have hb := tkB_le (u := u) (n := n) j
    rw [h1, if_neg (by decide), wf_eq, wf_eq]
    refine WP_some.2 ⟨⟨?_, ?_, ?_⟩, (ChW.refl.sI ⟨rfl, Or.inl rfl⟩).sI ⟨rfl, Or.inr rfl⟩⟩
    · rw [hI_sI_i (by decide), gI_sI_eq, w32_id (by omega)]
    · show c ≠ 0; omega
    · rw [gI_sI_eq, h3, w32_id (by omega)]
  | inr e =>
    rw [w32_gI, h.1, if_pos h.2.1]
    exact WP_some.2 ⟨h, ChW.refl⟩
theorem k_must (h : ScQ u n S a0 q) (hn : n ≤ 4000) {b : Bool} : WP (mX3_must S a0 (b2i b)) (fun y => ScQ u n y a0 (muT u n b q) ∧ ChW (PF89 a0) S y) := by
  unfold mX3_must
  cases b with
  | true =>
    rw [if_neg (by decide), bX_some]
    refine WP_some.2 ⟨?_, ChW.refl⟩
    cases q with
    | inl j => exact h
    | inr e => exact h
  | false =>
    rw [if_pos (by decide)]
    refine WP_bX.2 (WP_call (k_fail h (by omega) hn) (fun y hy => WP_some.2 (WP_some.2 ⟨?_, hy.2⟩)))
    cases q with
    | inl j => exact hy.1
    | inr e => exact hy.1
/-- on, behind a token that is none of the last -/
theorem k_next3 (t : TpK S a0 u n) (h : ScQ u n S a0 q) : WP (mX3_next S a0) (fun y => ScQ u n y a0 (bq q (nxT u n)) ∧ ChW (PSc a0) S y) := by
  cases q with
  | inl j =>
    obtain ⟨h1, h2, h3, h4, h5, h6⟩ := h
    have he := (tkE_le (u := u) (n := n) j).2
    refine (k_next0 t (p := tkE u n j) he h2 h1).mono (fun y hy => ?_)
    obtain ⟨y1, y2, y3⟩ := hy
    refine ⟨?_, y3⟩
    show ScQ u n y a0 (nxT u n j)
    unfold nxT
    by_cases e : tkK u n (j + 1) = 4
    · rw [if_pos e]
      exact ⟨(y1 e).1, (show (1 : Int) ≠ 0 by decide), (y1 e).2⟩
    · rw [if_neg e]
      exact y2 e
  | inr e =>
    unfold mX3_next
    rw [k_ok h, bX_some]
    exact WP_some.2 ⟨h, ChW.refl⟩
theorem k_take3 (t : TpK S a0 u n) (h : ScQ u n S a0 q) {c : Int} (hc : 0 ≤ c ∧ c < 256) : WP (mX3_take S a0 c) (fun y => ScQ u n y a0 (tkT u n c q) ∧ ChW (PSc a0) S y) := by
  unfold mX3_take
  rw [k_is h t.u hc, bX_some]
  refine WP_call (k_must h t.b) (fun y hy => ?_)
  have c1 : ChW (PSc a0) S y := ChW.refl.tr hy.2 (fun a i z => ⟨z.1, by have := z.2; omega⟩)
  refine WP_call (k_next3 (t.chS c1) hy.1) (fun z hz => WP_some.2 ⟨?_, c1.tr hz.2 (fun _ _ g => g)⟩)
  have hz1 := hz.1
  cases q with
  | inr e => exact hz1
  | inl j =>
    have hz1 : ScQ u n z a0 (bq (if isS u n c j = true then .inl j else flT u n 2 j) (nxT u n)) := hz1
    show ScQ u n z a0 (if isS u n c j = true then nxT u n j else flT u n 2 j)
    by_cases e : isS u n c j = true
    · rw [if_pos e] at hz1 ⊢; exact hz1
    · rw [if_neg e] at hz1 ⊢; exact hz1
end KPR
