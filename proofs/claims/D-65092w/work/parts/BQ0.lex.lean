/-! cutting a tape into tokens: plain -/
def ltr (c : Int) : Bool := decide ((97 ≤ c ∧ c ≤ 122) ∨ (65 ≤ c ∧ c ≤ 90) ∨ c = 95)
def dgt (c : Int) : Bool := decide (48 ≤ c ∧ c ≤ 57)
def ldg (c : Int) : Bool := ltr c || dgt c
def blk (c : Int) : Bool := decide (c = 9 ∨ c = 10 ∨ c = 13 ∨ c = 32)
def sgn (c : Int) : Bool := decide (c = 33 ∨ c = 38 ∨ c = 40 ∨ c = 41 ∨ c = 43 ∨ c = 44 ∨ c = 46 ∨ c = 58 ∨ c = 59 ∨ c = 61 ∨ c = 63 ∨ c = 64 ∨ c = 94 ∨ c = 123 ∨ c = 124 ∨ c = 125)
def rnE (P : Int → Bool) (u : Nat → Int) : Nat → Nat → Nat
  | 0, p => p
  | f + 1, p => if P (u p) = true then rnE P u f (p + 1) else p
theorem rnE_spec {P : Int → Bool} {u : Nat → Int} : ∀ f p, p ≤ rnE P u f p ∧ rnE P u f p ≤ p + f ∧ (∀ i, p ≤ i → i < rnE P u f p → P (u i) = true) ∧ (rnE P u f p < p + f → P (u (rnE P u f p)) = false) := by
  intro f
  induction f with
  | zero => intro p; exact ⟨Nat.le_refl _, Nat.le_refl _, fun i h1 h2 => absurd h2 (by unfold rnE; omega), fun h => absurd h (by unfold rnE; omega)⟩
  | succ f ih =>
    intro p
    unfold rnE
    by_cases h : P (u p) = true
    · rw [if_pos h]
      obtain ⟨a, b, c, d⟩ := ih (p + 1)
      refine ⟨by omega, by omega, fun i h1 h2 => ?_, fun g => d (by omega)⟩
      by_cases e : i = p
      · rw [e]; exact h
      · exact c i (by omega) h2
    · rw [if_neg h]
      refine ⟨Nat.le_refl _, by omega, fun i h1 h2 => absurd h2 (by omega), fun _ => ?_⟩
      cases e : P (u p) with
      | true => exact absurd e h
      | false => rfl
def sk (u : Nat → Int) : Nat → Bool → Nat → Nat
  | 0, _, p => p
  | f + 1, b, p => if b = true then (if u p = 10 then sk u f false (p + 1) else sk u f true (p + 1)) else if blk (u p) = true then sk u f false (p + 1) else if u p = 35 then sk u f true (p + 1) else p
theorem sk_rng {u : Nat → Int} : ∀ f b p, p ≤ sk u f b p ∧ sk u f b p ≤ p + f := by
  intro f
  induction f with
  | zero => intro b p; exact ⟨Nat.le_refl _, Nat.le_refl _⟩
  | succ f ih =>
    intro b p
    have h1 := ih false (p + 1)
    have h2 := ih true (p + 1)
    unfold sk
    split
    · split <;> omega
    · split
      · omega
      · split <;> omega
def txB (u : Nat → Int) (b e : Nat) (l : List Int) : Bool := decide (e = b + l.length) && (List.range l.length).all (fun i => decide (u (b + i) = l.getD i 0))
abbrev isTx (u : Nat → Int) (b e : Nat) (l : List Int) : Prop := txB u b e l = true
theorem isTx_iff {u : Nat → Int} {b e : Nat} {l : List Int} : isTx u b e l ↔ e = b + l.length ∧ ∀ i, i < l.length → u (b + i) = l.getD i 0 := by
  show txB u b e l = true ↔ _
  unfold txB
  rw [Bool.and_eq_true, decide_eq_true_eq, List.all_eq_true]
  constructor
  · rintro ⟨h1, h2⟩
    exact ⟨h1, fun i hi => of_decide_eq_true (h2 i (List.mem_range.2 hi))⟩
  · rintro ⟨h1, h2⟩
    exact ⟨h1, fun i hi => decide_eq_true (h2 i (List.mem_range.1 hi))⟩
def wdOf (u : Nat → Int) (b e : Nat) : Int := if isTx u b e [109, 111, 100, 117, 108, 101] then 1 else if isTx u b e [105, 110] then 2 else if isTx u b e [111, 117, 116] then 3 else if isTx u b e [108, 101, 116] then 4 else if isTx u b e [114, 101, 103] then 5 else if isTx u b e [117, 115, 101] then 6 else if isTx u b e [99, 101, 108, 108] then 7 else 0
theorem wdOf_rng {u : Nat → Int} {b e : Nat} : 0 ≤ wdOf u b e ∧ wdOf u b e ≤ 7 := by
  unfold wdOf
  repeat (first | omega | split)
theorem wdOf_len {u : Nat → Int} {b e : Nat} (h : wdOf u b e ≠ 0) : b ≤ e ∧ e - b ≤ 6 := by
  unfold wdOf at h
  split at h
  · rename_i g; have := (isTx_iff.1 g).1; simp only [List.length] at this; omega
  split at h
  · rename_i g; have := (isTx_iff.1 g).1; simp only [List.length] at this; omega
  split at h
  · rename_i g; have := (isTx_iff.1 g).1; simp only [List.length] at this; omega
  split at h
  · rename_i g; have := (isTx_iff.1 g).1; simp only [List.length] at this; omega
  split at h
  · rename_i g; have := (isTx_iff.1 g).1; simp only [List.length] at this; omega
  split at h
  · rename_i g; have := (isTx_iff.1 g).1; simp only [List.length] at this; omega
  split at h
  · rename_i g; have := (isTx_iff.1 g).1; simp only [List.length] at this; omega
  exact absurd rfl h
def dv (u : Nat → Int) (p : Nat) : Nat → Int
  | 0 => 0
  | k + 1 => 10 * dv u p k + u (p + k) - 48
theorem dv_rng {u : Nat → Int} {p : Nat} {k : Nat} (h : ∀ i, i < k → dgt (u (p + i)) = true) : 0 ≤ dv u p k ∧ dv u p k < 10 ^ k := by
  induction k with
  | zero => exact ⟨Int.le_refl _, by show (0 : Int) < 10 ^ 0; decide⟩
  | succ k ih =>
    have a := ih (fun i hi => h i (by omega))
    have b := of_decide_eq_true (h k (by omega))
    unfold dv
    rw [Int.pow_succ]
    omega
section LEX
variable (u : Nat → Int) (n : Nat)
def skE (p : Nat) : Nat := sk u (n - p) false p
def wE (p : Nat) : Nat := rnE ldg u (n - p) p
def nE (p : Nat) : Nat := rnE dgt u (n - p) p
def chA (p : Nat) : Int := if p < n then u p else -1
def isAr (p : Nat) : Bool := decide (u p = 60 ∧ chA u n (p + 1) = 45)
def isEq (p : Nat) : Bool := decide (u p = 61 ∧ chA u n (p + 1) = 61)
def tE (p : Nat) : Nat := if n ≤ p then p else if ltr (u p) = true then wE u n p else if dgt (u p) = true then nE u n p else if isAr u n p = true ∨ isEq u n p = true then p + 2 else p + 1
def tK (p : Nat) : Int := if n ≤ p then 5 else if ltr (u p) = true then (if 12 < wE u n p - p then 4 else if 0 < wdOf u p (wE u n p) then 6 else 1) else if dgt (u p) = true then (if 6 < nE u n p - p then 4 else 2) else if isAr u n p = true ∨ sgn (u p) = true then 3 else 4
def tV (p : Nat) : Int := if n ≤ p then 0 else if ltr (u p) = true then wdOf u p (wE u n p) else if dgt (u p) = true then dv u p (nE u n p - p) else if isAr u n p = true then 256 else if isEq u n p = true then 257 else u p
def tkB : Nat → Nat
  | 0 => skE u n 0
  | j + 1 => skE u n (tE u n (tkB j))
def tkE (j : Nat) : Nat := tE u n (tkB u n j)
def tkK (j : Nat) : Int := tK u n (tkB u n j)
def tkV (j : Nat) : Int := tV u n (tkB u n j)
/-- two names are the same -/
def smNm (i j : Nat) : Prop := tkE u n i - tkB u n i = tkE u n j - tkB u n j ∧ ∀ t, t < tkE u n i - tkB u n i → u (tkB u n i + t) = u (tkB u n j + t)
def smB (i j : Nat) : Bool := decide (tkE u n i - tkB u n i = tkE u n j - tkB u n j) && (List.range (tkE u n i - tkB u n i)).all (fun t => decide (u (tkB u n i + t) = u (tkB u n j + t)))
/-- the first token that ends the cutting: a bad one or the end -/
def LstT (N : Nat) : Prop := (∀ i, i < N → tkK u n i ≠ 4 ∧ tkK u n i ≠ 5) ∧ (tkK u n N = 4 ∨ tkK u n N = 5)
end LEX
section LEX
variable {u : Nat → Int} {n : Nat}
theorem skE_rng {p : Nat} (h : p ≤ n) : p ≤ skE u n p ∧ skE u n p ≤ n := by
  have := sk_rng (u := u) (n - p) false p
  unfold skE; omega
theorem wE_rng {p : Nat} (h : p < n) (g : ltr (u p) = true) : p < wE u n p ∧ wE u n p ≤ n := by
  obtain ⟨a, b, c, d⟩ := rnE_spec (P := ldg) (u := u) (n - p) p
  unfold wE
  refine ⟨?_, by omega⟩
  by_cases e : rnE ldg u (n - p) p = p
  · rw [e] at d
    have := d (by omega)
    unfold ldg at this
    rw [g] at this
    cases this
  · omega
theorem nE_rng {p : Nat} (h : p < n) (g : dgt (u p) = true) : p < nE u n p ∧ nE u n p ≤ n := by
  obtain ⟨a, b, c, d⟩ := rnE_spec (P := dgt) (u := u) (n - p) p
  unfold nE
  refine ⟨?_, by omega⟩
  by_cases e : rnE dgt u (n - p) p = p
  · rw [e] at d
    have := d (by omega)
    rw [g] at this
    cases this
  · omega
theorem ar_n {p : Nat} (h : isAr u n p = true ∨ isEq u n p = true) : p + 1 < n := by
  cases h with
  | inl h => have := (of_decide_eq_true h).2; unfold chA at this; split at this <;> omega
  | inr h => have := (of_decide_eq_true h).2; unfold chA at this; split at this <;> omega
theorem tE_rng {p : Nat} (h : p < n) : p < tE u n p ∧ tE u n p ≤ n := by
  unfold tE
  rw [if_neg (by omega)]
  split
  · rename_i g; exact wE_rng h g
  · split
    · rename_i g; exact nE_rng h g
    · split
      · rename_i g; have := ar_n g; omega
      · omega
theorem tE_n {p : Nat} (h : n ≤ p) : tE u n p = p := by unfold tE; rw [if_pos h]
theorem tkB_le (j : Nat) : tkB u n j ≤ n := by
  induction j with
  | zero => exact (skE_rng (by omega)).2
  | succ j ih =>
    by_cases e : tkB u n j < n
    · exact (skE_rng (tE_rng e).2).2
    · show skE u n (tE u n (tkB u n j)) ≤ n
      rw [tE_n (by omega)]
      exact (skE_rng ih).2
theorem tkB_lt {j : Nat} (h : tkB u n j < n) : tkB u n j < tkE u n j ∧ tkE u n j ≤ n ∧ tkE u n j ≤ tkB u n (j + 1) := ⟨(tE_rng h).1, (tE_rng h).2, (skE_rng (tE_rng h).2).1⟩
theorem tkE_le (j : Nat) : tkB u n j ≤ tkE u n j ∧ tkE u n j ≤ n := by
  have := tkB_le (u := u) (n := n) j
  by_cases e : tkB u n j < n
  · have := tE_rng (u := u) e; unfold tkE; omega
  · unfold tkE; rw [tE_n (by omega)]; omega
theorem tK_5 {p : Nat} : tK u n p = 5 ↔ n ≤ p := by
  unfold tK
  constructor
  · intro h
    split at h
    · assumption
    · split at h
      · split at h
        · cases h
        · split at h <;> cases h
      · split at h
        · split at h <;> cases h
        · split at h <;> cases h
  · intro h; rw [if_pos h]
theorem tkB_ge : ∀ j, (∀ i, i < j → tkK u n i ≠ 5) → j ≤ tkB u n j := by
  intro j
  induction j with
  | zero => intro _; omega
  | succ j ih =>
    intro h
    have a := ih (fun i hi => h i (by omega))
    have b : tkB u n j < n := by
      have := h j (by omega)
      have : ¬ n ≤ tkB u n j := fun g => this (tK_5.2 g)
      omega
    have := tkB_lt b
    omega
theorem LstT.ex : ∃ N, N ≤ n ∧ LstT u n N := by
  have h : ∃ i, tkK u n i = 4 ∨ tkK u n i = 5 := by
    refine Classical.byContradiction (fun g => ?_)
    have a := tkB_ge (u := u) (n := n) (n + 1) (fun i _ e => g ⟨i, Or.inr e⟩)
    have := tkB_le (u := u) (n := n) (n + 1)
    omega
  obtain ⟨i0, h0⟩ := h
  obtain ⟨i, _, hi', hm'⟩ := least_ex (b := fun i => decide (tkK u n i = 4 ∨ tkK u n i = 5)) (decide_eq_true h0)
  have hi : tkK u n i = 4 ∨ tkK u n i = 5 := of_decide_eq_true hi'
  have hm : ∀ j, j < i → ¬ (tkK u n j = 4 ∨ tkK u n j = 5) := fun j hj => of_decide_eq_false (hm' j hj)
  refine ⟨i, ?_, fun j hj => ⟨fun e => hm j hj (Or.inl e), fun e => hm j hj (Or.inr e)⟩, hi⟩
  have a := tkB_ge (u := u) (n := n) i (fun j hj e => hm j hj (Or.inr e))
  have := tkB_le (u := u) (n := n) i
  omega
theorem LstT.lt {N i : Nat} (h : LstT u n N) (hi : i < N) : tkB u n i < n := by
  have : ¬ n ≤ tkB u n i := fun g => (h.1 i hi).2 (tK_5.2 g)
  omega
theorem LstT.le {N i : Nat} (h : LstT u n N) (hi : tkK u n i ≠ 4 ∧ tkK u n i ≠ 5) (g : i ≤ N) : i < N := by
  by_cases e : i = N
  · subst e; rcases h.2 with a | a
    · exact absurd a hi.1
    · exact absurd a hi.2
  · omega
/-- kinds -/
theorem tK_ltr {p : Nat} (h : p < n) (g : ltr (u p) = true) : tE u n p = wE u n p ∧ tV u n p = wdOf u p (wE u n p) ∧ tK u n p = (if 12 < wE u n p - p then 4 else if 0 < wdOf u p (wE u n p) then 6 else 1) := by
  unfold tE tV tK
  have h1 : ¬ n ≤ p := by omega
  rw [if_neg h1, if_neg h1, if_neg h1, if_pos g, if_pos g, if_pos g]
  exact ⟨rfl, rfl, rfl⟩
theorem tK_dgt {p : Nat} (h : p < n) (g : ltr (u p) = false) (g2 : dgt (u p) = true) : tE u n p = nE u n p ∧ tV u n p = dv u p (nE u n p - p) ∧ tK u n p = (if 6 < nE u n p - p then 4 else 2) := by
  unfold tE tV tK
  have h1 : ¬ n ≤ p := by omega
  have g1 : ¬ ltr (u p) = true := by rw [g]; decide
  rw [if_neg h1, if_neg h1, if_neg h1, if_neg g1, if_neg g1, if_neg g1, if_pos g2, if_pos g2, if_pos g2]
  exact ⟨rfl, rfl, rfl⟩
theorem tK_oth {p : Nat} (h : p < n) (g : ltr (u p) = false) (g2 : dgt (u p) = false) : tE u n p = (if isAr u n p = true ∨ isEq u n p = true then p + 2 else p + 1) ∧ tV u n p = (if isAr u n p = true then 256 else if isEq u n p = true then 257 else u p) ∧ tK u n p = (if isAr u n p = true ∨ sgn (u p) = true then 3 else 4) := by
  unfold tE tV tK
  have h1 : ¬ n ≤ p := by omega
  have g1 : ¬ ltr (u p) = true := by rw [g]; decide
  have g3 : ¬ dgt (u p) = true := by rw [g2]; decide
  rw [if_neg h1, if_neg h1, if_neg h1, if_neg g1, if_neg g1, if_neg g1, if_neg g3, if_neg g3, if_neg g3]
  exact ⟨rfl, rfl, rfl⟩
theorem bool_f {b : Bool} (h : ¬ b = true) : b = false := by cases b with | true => exact absurd rfl h | false => rfl
/-- a name has at most 12 letters, the first one among them -/
theorem tK_1 {p : Nat} (h : tK u n p = 1 ∨ tK u n p = 6) : p < n ∧ ltr (u p) = true ∧ tE u n p = wE u n p ∧ tE u n p - p ≤ 12 ∧ tV u n p = wdOf u p (wE u n p) ∧ (tK u n p = 1 → tV u n p = 0) ∧ (tK u n p = 6 → 0 < tV u n p) := by
  have h0 : p < n := by
    by_cases e : n ≤ p
    · have := (tK_5 (u := u)).2 e; omega
    · omega
  by_cases g : ltr (u p) = true
  · obtain ⟨a, b, c⟩ := tK_ltr h0 g
    have w := wdOf_rng (u := u) (b := p) (e := wE u n p)
    refine ⟨h0, g, a, ?_, b, fun e => ?_, fun e => ?_⟩
    · rw [a]; by_cases q : 12 < wE u n p - p
      · rw [if_pos q] at c; omega
      · omega
    · rw [b]; rw [c] at e; split at e
      · omega
      · split at e
        · omega
        · omega
    · rw [b]; rw [c] at e; split at e
      · omega
      · split at e
        · assumption
        · omega
  · by_cases g2 : dgt (u p) = true
    · have c := (tK_dgt h0 (bool_f g) g2).2.2; rw [c] at h; split at h <;> omega
    · have c := (tK_oth h0 (bool_f g) (bool_f g2)).2.2; rw [c] at h; split at h <;> omega
/-- a number has at most 6 digits -/
theorem tK_2 {p : Nat} (h : tK u n p = 2) : p < n ∧ 0 ≤ tV u n p ∧ tV u n p < 1000000 := by
  have h0 : p < n := by
    by_cases e : n ≤ p
    · have := (tK_5 (u := u)).2 e; omega
    · omega
  refine ⟨h0, ?_⟩
  by_cases g : ltr (u p) = true
  · have c := (tK_ltr h0 g).2.2; rw [c] at h; split at h
    · omega
    · split at h <;> omega
  · by_cases g2 : dgt (u p) = true
    · obtain ⟨a, b, c⟩ := tK_dgt h0 (bool_f g) g2
      rw [c] at h
      have hl : nE u n p - p ≤ 6 := by split at h <;> omega
      obtain ⟨r1, r2, r3, r4⟩ := rnE_spec (P := dgt) (u := u) (n - p) p
      have hd := dv_rng (u := u) (p := p) (k := nE u n p - p) (fun i hi => r3 (p + i) (by omega) (by unfold nE at hi; omega))
      rw [b]
      have : (10 : Int) ^ (nE u n p - p) ≤ 10 ^ 6 := by
        have := Nat.pow_le_pow_right (n := 10) (by omega) hl
        exact_mod_cast this
      have e6 : (10 : Int) ^ 6 = 1000000 := by decide
      omega
    · have c := (tK_oth h0 (bool_f g) (bool_f g2)).2.2; rw [c] at h; split at h <;> omega
/-- a sign -/
theorem tK_3 {p : Nat} (hu : ∀ i, i < n → 0 ≤ u i ∧ u i < 256) (h : tK u n p = 3) : p < n ∧ 0 ≤ tV u n p ∧ tV u n p ≤ 257 ∧ ltr (u p) = false ∧ dgt (u p) = false := by
  have h0 : p < n := by
    by_cases e : n ≤ p
    · have := (tK_5 (u := u)).2 e; omega
    · omega
  have hu0 := hu p h0
  by_cases g : ltr (u p) = true
  · have c := (tK_ltr h0 g).2.2; rw [c] at h; split at h
    · omega
    · split at h <;> omega
  · by_cases g2 : dgt (u p) = true
    · have c := (tK_dgt h0 (bool_f g) g2).2.2; rw [c] at h; split at h <;> omega
    · obtain ⟨a, b, c⟩ := tK_oth h0 (bool_f g) (bool_f g2)
      refine ⟨h0, ?_, ?_, bool_f g, bool_f g2⟩
      · rw [b]; split
        · omega
        · split <;> omega
      · rw [b]; split
        · omega
        · split <;> omega
theorem tV_le {p : Nat} (h : tK u n p = 3) (h2 : ¬ tV u n p < 256) : tV u n p = 256 ∨ tV u n p = 257 := by
  have h0 : p < n := by
    by_cases e : n ≤ p
    · have := (tK_5 (u := u)).2 e; omega
    · omega
  by_cases g : ltr (u p) = true
  · have c := (tK_ltr h0 g).2.2; rw [c] at h; split at h
    · omega
    · split at h <;> omega
  · by_cases g2 : dgt (u p) = true
    · have c := (tK_dgt h0 (bool_f g) g2).2.2; rw [c] at h; split at h <;> omega
    · obtain ⟨a, b, c⟩ := tK_oth h0 (bool_f g) (bool_f g2)
      rw [b] at h2 ⊢
      by_cases eA : isAr u n p = true
      · rw [if_pos eA]; exact Or.inl rfl
      · rw [if_neg eA] at h2 ⊢
        by_cases eE : isEq u n p = true
        · rw [if_pos eE]; exact Or.inr rfl
        · rw [if_neg eE] at h2
          rw [c] at h
          split at h
          · rename_i q
            rcases q with q | q
            · exact absurd q eA
            · have := of_decide_eq_true q; omega
          · omega
theorem tK_rng {p : Nat} : tK u n p = 1 ∨ tK u n p = 2 ∨ tK u n p = 3 ∨ tK u n p = 4 ∨ tK u n p = 5 ∨ tK u n p = 6 := by
  unfold tK
  repeat (first | omega | split)
theorem smB_iff {i j : Nat} : smB u n i j = true ↔ smNm u n i j := by
  unfold smB smNm
  rw [Bool.and_eq_true, decide_eq_true_eq, List.all_eq_true]
  constructor
  · rintro ⟨h1, h2⟩
    exact ⟨h1, fun i hi => of_decide_eq_true (h2 i (List.mem_range.2 hi))⟩
  · rintro ⟨h1, h2⟩
    exact ⟨h1, fun i hi => decide_eq_true (h2 i (List.mem_range.1 hi))⟩
theorem smB_t {i j : Nat} (h : smNm u n i j) : smB u n i j = true := smB_iff.2 h
theorem smB_f {i j : Nat} (h : ¬ smNm u n i j) : smB u n i j = false := bool_f (fun g => h (smB_iff.1 g))
theorem smNm.rfl' (i : Nat) : smNm u n i i := ⟨rfl, fun _ _ => rfl⟩
theorem smNm.sy {i j : Nat} (h : smNm u n i j) : smNm u n j i := ⟨h.1.symm, fun t q => (h.2 t (by rw [h.1]; exact q)).symm⟩
theorem smNm.tr {i j k : Nat} (h : smNm u n i j) (g : smNm u n j k) : smNm u n i k := ⟨h.1.trans g.1, fun t q => (h.2 t q).trans (g.2 t (by rw [← h.1]; exact q))⟩
end LEX
