/-! what a mapping wants of a design; no program -/
def xr1 (s b : Nat) : Nat := if b = 0 then s else if s % 2 = 0 then s + 1 else s - 1
theorem xr1_2 {s b : Nat} : xr1 s b / 2 = s / 2 := by
  unfold xr1
  by_cases h : b = 0
  · rw [if_pos h]
  · rw [if_neg h]
    by_cases g : s % 2 = 0
    · rw [if_pos g]; omega
    · rw [if_neg g]; omega
theorem xr1_p {s b : Nat} (hb : b < 2) : xr1 s b % 2 = (s + b) % 2 := by
  unfold xr1
  by_cases h : b = 0
  · rw [if_pos h, h]; rfl
  · rw [if_neg h]
    by_cases g : s % 2 = 0
    · rw [if_pos g]; omega
    · rw [if_neg g]; omega
def litN (v : Nat → Bool) (l : Nat) : Bool := v (l / 2) ^^ decide (l % 2 = 1)
def swN (G : Dsg) (l : Nat) : Nat := xr1 (G 6 (l / 2)).toNat (l % 2)
def nRt (G : Dsg) : Nat := gOu G + gSt G
def rtL (G : Dsg) (i : Nat) : Nat := if i < gOu G then swN G (G 7 i).toNat else swN G (G 8 (i - gOu G)).toNat
def lA (G : Dsg) (m : Nat) : Nat := min (swN G (G 4 m).toNat) (swN G (G 5 m).toNat)
def lB (G : Dsg) (m : Nat) : Nat := max (swN G (G 4 m).toNat) (swN G (G 5 m).toNat)
def aN' (G : Dsg) (m : Nat) : Nat := lA G m / 2
def bN' (G : Dsg) (m : Nat) : Nat := lB G m / 2
def isRt (G : Dsg) (n : Nat) : Prop := ∃ i, i < nRt G ∧ rtL G i / 2 = n
def wtN (G : Dsg) : Nat → Nat → Prop
  | 0, n => isRt G n
  | j + 1, n => wtN G j n ∨ (wtN G j (gNo G - 1 - j) ∧ (aN' G (gNo G - 1 - j) = n ∨ bN' G (gNo G - 1 - j) = n))
noncomputable def usN (G : Dsg) : Nat → Nat → Nat
  | 0, n => smN (fun i => bo (rtL G i / 2 = n)) (nRt G)
  | j + 1, n => usN G j n + cG (wtN G j (gNo G - 1 - j)) (bo (aN' G (gNo G - 1 - j) = n) + bo (bN' G (gNo G - 1 - j) = n)) 0
def gJ (G : Dsg) : Nat := gNo G - gFi G
def Wt (G : Dsg) (n : Nat) : Prop := wtN G (gJ G) n
def Rt (G : Dsg) (n : Nat) : Prop := isRt G n ∨ (Wt G n ∧ 1 < usN G (gJ G) n)
def InG (G : Dsg) (x : Nat) : Prop := gFi G ≤ x ∧ x < gNo G ∧ Wt G x ∧ ¬ Rt G x
def AndG (G : Dsg) (x : Nat) : Prop := gFi G ≤ x ∧ x < gNo G ∧ Wt G x
def WdG (G : Dsg) (x : Nat) : Prop := Wt G x ∧ 0 < x
def NAl (val : Nat → Nat → Bool) (P x m : Nat) : Prop := (∃ p, p < P ∧ val p x ≠ val p m) ∧ ∃ p, p < P ∧ val p x = val p m
section WANTED
variable {G : Dsg} {n m j k p l : Nat}
theorem WFG.st6 (w : WFG G) (h : n < gNo G) : G 6 n = ((G 6 n).toNat : Int) ∧ (G 6 n).toNat < 2 * (n + 1) := by
  have := (w.2.2.1 n h); omega
theorem WFG.lo (w : WFG G) (h1 : gFi G ≤ n) (h2 : n < gNo G) : (G 4 n).toNat < 2 * n ∧ (G 5 n).toNat < 2 * n ∧ G 4 n = ((G 4 n).toNat : Int) ∧ G 5 n = ((G 5 n).toNat : Int) := by
  have := (w.2.1 n h1 h2); omega
theorem swN_lt (w : WFG G) (h : l < 2 * gNo G) : swN G l / 2 ≤ l / 2 ∧ swN G l < 2 * gNo G := by
  have s := w.st6 (n := l / 2) (by omega)
  have e : swN G l / 2 = (G 6 (l / 2)).toNat / 2 := xr1_2
  omega
theorem aN_lt (w : WFG G) (h1 : gFi G ≤ m) (h2 : m < gNo G) : aN' G m < m ∧ bN' G m < m := by
  obtain ⟨a, b, _, _⟩ := w.lo h1 h2
  have c := swN_lt w (l := (G 4 m).toNat) (by omega)
  have d := swN_lt w (l := (G 5 m).toNat) (by omega)
  unfold aN' bN' lA lB
  omega
theorem rtL_lt (w : WFG G) {i : Nat} (h : i < nRt G) : rtL G i < 2 * gNo G := by
  have hn := w.n
  unfold rtL
  unfold nRt at h
  by_cases q : i < gOu G
  · rw [if_pos q]
    have := w.2.2.2.1 i q
    exact (swN_lt w (by omega)).2
  · rw [if_neg q]
    have := w.2.2.2.2.1 (i - gOu G) (by omega)
    exact (swN_lt w (by omega)).2
theorem wt_mono {j j' : Nat} (h : j ≤ j') (g : wtN G j n) : wtN G j' n := by
  induction j' with
  | zero => have : j = 0 := by omega
            subst this; exact g
  | succ j' ih =>
    by_cases e : j = j' + 1
    · subst e; exact g
    · exact .inl (ih (by omega))
theorem wt_stab (w : WFG G) {j j' : Nat} (h : j ≤ j') (hJ : j' ≤ gJ G) (hn : gNo G ≤ n + j + 1) (g : wtN G j' n) : wtN G j n := by
  unfold gJ at hJ
  induction j' with
  | zero => have : j = 0 := by omega
            subst this; exact g
  | succ j' ih =>
    by_cases e : j = j' + 1
    · subst e; exact g
    · rcases g with g | ⟨_, g⟩
      · exact ih (by omega) (by omega) g
      · have := aN_lt w (m := gNo G - 1 - j') (by omega) (by omega)
        omega
theorem Wt_at (w : WFG G) (h1 : gFi G ≤ m) (h2 : m < gNo G) : Wt G m ↔ wtN G (gNo G - 1 - m) m := by
  unfold Wt gJ
  exact ⟨wt_stab w (by omega) (by unfold gJ; omega) (by omega), wt_mono (by omega)⟩
theorem Wt_side (w : WFG G) (h1 : gFi G ≤ m) (h2 : m < gNo G) (h : Wt G m) : Wt G (aN' G m) ∧ Wt G (bN' G m) := by
  have g := (Wt_at w h1 h2).1 h
  have e : gNo G - 1 - (gNo G - 1 - m) = m := by omega
  have key : ∀ x, (aN' G m = x ∨ bN' G m = x) → Wt G x := fun x hx => by
    have : wtN G (gNo G - 1 - m + 1) x := .inr (by rw [e]; exact ⟨g, hx⟩)
    exact wt_mono (by unfold gJ; omega) this
  exact ⟨key _ (.inl rfl), key _ (.inr rfl)⟩
theorem wt_img (w : WFG G) : ∀ j, j ≤ gJ G → ∀ n, wtN G j n → ∃ l, l < 2 * gNo G ∧ swN G l / 2 = n := by
  intro j
  have wn := w.n
  induction j with
  | zero =>
    intro _ n ⟨i, h1, h2⟩
    unfold rtL at h2
    unfold nRt at h1
    by_cases q : i < gOu G
    · rw [if_pos q] at h2
      have := w.2.2.2.1 i q
      exact ⟨_, by omega, h2⟩
    · rw [if_neg q] at h2
      have := w.2.2.2.2.1 (i - gOu G) (by omega)
      exact ⟨_, by omega, h2⟩
  | succ j ih =>
    intro hj n h
    rcases h with h | ⟨_, h⟩
    · exact ih (by omega) n h
    · unfold gJ at hj
      have m1 : gFi G ≤ gNo G - 1 - j ∧ gNo G - 1 - j < gNo G := by omega
      obtain ⟨a, b, _, _⟩ := w.lo m1.1 m1.2
      have key : ∃ l, l < 2 * gNo G ∧ (l = (G 4 (gNo G - 1 - j)).toNat ∨ l = (G 5 (gNo G - 1 - j)).toNat) ∧ swN G l / 2 = n := by
        rcases h with h | h
        · unfold aN' lA at h
          by_cases q : swN G (G 4 (gNo G - 1 - j)).toNat ≤ swN G (G 5 (gNo G - 1 - j)).toNat
          · exact ⟨_, by omega, .inl rfl, by rw [Nat.min_eq_left q] at h; exact h⟩
          · exact ⟨_, by omega, .inr rfl, by rw [Nat.min_eq_right (by omega)] at h; exact h⟩
        · unfold bN' lB at h
          by_cases q : swN G (G 4 (gNo G - 1 - j)).toNat ≤ swN G (G 5 (gNo G - 1 - j)).toNat
          · exact ⟨_, by omega, .inr rfl, by rw [Nat.max_eq_right q] at h; exact h⟩
          · exact ⟨_, by omega, .inl rfl, by rw [Nat.max_eq_left (by omega)] at h; exact h⟩
      obtain ⟨l, l1, _, l2⟩ := key
      exact ⟨l, l1, l2⟩
theorem Wt_img (w : WFG G) (h : Wt G n) : ∃ l, l < 2 * gNo G ∧ swN G l / 2 = n := wt_img w _ (Nat.le_refl _) n h
theorem Wt_lt (w : WFG G) (h : Wt G n) : n < gNo G := by
  obtain ⟨l, h1, h2⟩ := Wt_img w h
  have := (swN_lt w h1).1
  omega
theorem root_Wt (h : isRt G n) : Wt G n := wt_mono (Nat.zero_le _) h
/-- values of nodes -/
theorem gvN_old {lo hi : Nat → Int} {fi p n k k' : Nat} (h : n < fi + k) (hk : k ≤ k') : gvN lo hi fi p k' n = gvN lo hi fi p k n := by
  induction k' with
  | zero => have : k = 0 := by omega
            subst this; rfl
  | succ k' ih =>
    by_cases e : k = k' + 1
    · subst e; rfl
    · show (if n = fi + k' then _ else gvN lo hi fi p k' n) = _
      rw [if_neg (by omega), ih (by omega)]
theorem gVal_0 : gVal G p 0 = false := by
  have : gVal G p 0 = gvN (G 4) (G 5) (gFi G) p 0 0 := gvN_old (by unfold gFi; omega) (Nat.zero_le _)
  rw [this]; rfl
theorem gVal_and (w : WFG G) (h1 : gFi G ≤ m) (h2 : m < gNo G) : gVal G p m = (litV (gVal G p) (G 4 m) && litV (gVal G p) (G 5 m)) := by
  obtain ⟨a, b, _, _⟩ := w.lo h1 h2
  have e : gVal G p m = gvN (G 4) (G 5) (gFi G) p (m - gFi G + 1) m := gvN_old (by omega) (by omega)
  have e1 : gVal G p ((G 4 m).toNat / 2) = gvN (G 4) (G 5) (gFi G) p (m - gFi G) ((G 4 m).toNat / 2) := gvN_old (by omega) (by omega)
  have e2 : gVal G p ((G 5 m).toNat / 2) = gvN (G 4) (G 5) (gFi G) p (m - gFi G) ((G 5 m).toNat / 2) := gvN_old (by omega) (by omega)
  rw [e]
  unfold litV
  rw [e1, e2]
  show (if m = gFi G + (m - gFi G) then _ else _) = _
  rw [if_pos (by omega)]; rfl
theorem sw_val (w : WFG G) (hp : p < 2 ^ (gIn G + gSt G)) (hl : l < 2 * gNo G) : litN (gVal G p) (swN G l) = litN (gVal G p) l := by
  have s := (w.1.2.2.2.2.2.2.2.2 (l / 2) (by omega)).1 p hp
  have s6 := w.st6 (n := l / 2) (by omega)
  unfold litV at s
  have e2 : swN G l / 2 = (G 6 (l / 2)).toNat / 2 := xr1_2
  have ep : swN G l % 2 = ((G 6 (l / 2)).toNat + l % 2) % 2 := xr1_p (by omega)
  unfold litN
  rw [e2, ep, s]
  rcases Nat.mod_two_eq_zero_or_one l with a | a <;> rcases Nat.mod_two_eq_zero_or_one (G 6 (l / 2)).toNat with b | b
  · have c : ¬ (G 6 (l / 2)) % 2 = 1 := by omega
    have d : ¬ ((G 6 (l / 2)).toNat + l % 2) % 2 = 1 := by omega
    rw [decide_eq_false c, decide_eq_false d, decide_eq_false (show ¬ l % 2 = 1 by omega)]; simp
  · have c : (G 6 (l / 2)) % 2 = 1 := by omega
    have d : ((G 6 (l / 2)).toNat + l % 2) % 2 = 1 := by omega
    rw [decide_eq_true c, decide_eq_true d, decide_eq_false (show ¬ l % 2 = 1 by omega)]; simp
  · have c : ¬ (G 6 (l / 2)) % 2 = 1 := by omega
    have d : ((G 6 (l / 2)).toNat + l % 2) % 2 = 1 := by omega
    rw [decide_eq_false c, decide_eq_true d, decide_eq_true a]; simp
  · have c : (G 6 (l / 2)) % 2 = 1 := by omega
    have d : ¬ ((G 6 (l / 2)).toNat + l % 2) % 2 = 1 := by omega
    rw [decide_eq_true c, decide_eq_false d, decide_eq_true a]; simp
theorem lit_VN {v : Nat → Bool} {x : Int} (h : 0 ≤ x) : litV v x = litN v x.toNat := by
  unfold litV litN
  by_cases q : x % 2 = 1
  · rw [decide_eq_true q, decide_eq_true (show x.toNat % 2 = 1 by omega)]
  · rw [decide_eq_false q, decide_eq_false (show ¬ x.toNat % 2 = 1 by omega)]
theorem val_and (w : WFG G) (hp : p < 2 ^ (gIn G + gSt G)) (h1 : gFi G ≤ m) (h2 : m < gNo G) : gVal G p m = (litN (gVal G p) (lA G m) && litN (gVal G p) (lB G m)) := by
  obtain ⟨a, b, c, d⟩ := w.lo h1 h2
  rw [gVal_and w h1 h2, lit_VN (by omega), lit_VN (by omega), ← sw_val w hp (l := (G 4 m).toNat) (by omega), ← sw_val w hp (l := (G 5 m).toNat) (by omega)]
  unfold lA lB
  by_cases q : swN G (G 4 m).toNat ≤ swN G (G 5 m).toNat
  · rw [Nat.min_eq_left q, Nat.max_eq_right q]
  · rw [Nat.min_eq_right (by omega), Nat.max_eq_left (by omega), Bool.and_comm]
theorem Wt_na (w : WFG G) (h : Wt G n) (hm : m < n) : NAl (gVal G) (2 ^ (gIn G + gSt G)) n m := by
  obtain ⟨l, h1, h2⟩ := Wt_img w h
  have s := w.1.2.2.2.2.2.2.2.2 (l / 2) (by omega)
  have e2 : swN G l / 2 = (G 6 (l / 2)).toNat / 2 := xr1_2
  rw [e2] at h2
  obtain ⟨⟨p, p1, p2⟩, ⟨q, q1, q2⟩⟩ := s.2 m (by omega)
  have sp := s.1
  unfold litV at sp
  rw [h2] at sp
  by_cases c : G 6 (l / 2) % 2 = 1
  · simp only [decide_eq_true c, Bool.xor_true] at sp
    refine ⟨⟨q, q1, fun e => ?_⟩, ⟨p, p1, ?_⟩⟩
    · rw [sp q q1, e] at q2
      generalize gVal G q m = b at q2
      cases b <;> cases q2
    · rw [sp p p1] at p2
      generalize gVal G p m = b at p2 ⊢
      generalize gVal G p n = c at p2 ⊢
      cases b <;> cases c <;> first | rfl | exact absurd rfl p2
  · simp only [decide_eq_false c, Bool.xor_false] at sp
    exact ⟨⟨p, p1, by rw [← sp p p1]; exact p2⟩, ⟨q, q1, by rw [← sp q q1]; exact q2⟩⟩
theorem side_ne (w : WFG G) (h1 : gFi G ≤ m) (h2 : m < gNo G) (h : Wt G m) : aN' G m ≠ bN' G m ∧ 0 < aN' G m ∧ 0 < bN' G m := by
  have lt := aN_lt w h1 h2
  have val := fun p (hp : p < 2 ^ (gIn G + gSt G)) => val_and w hp h1 h2
  have na := fun i (hi : i < m) => Wt_na w h (m := i) hi
  have m0 : 0 < m := by omega
  unfold litN at val
  -- alike to a side, to the constant
  have no : ∀ i, i < m → (∀ p, p < 2 ^ (gIn G + gSt G) → gVal G p m = gVal G p i) → False := fun i hi e => by
    obtain ⟨p, p1, p2⟩ := (na i hi).1
    exact p2 (e p p1)
  have no' : ∀ i, i < m → (∀ p, p < 2 ^ (gIn G + gSt G) → gVal G p m = !gVal G p i) → False := fun i hi e => by
    obtain ⟨p, p1, p2⟩ := (na i hi).2
    rw [e p p1] at p2
    generalize gVal G p i = b at p2
    cases b <;> cases p2
  have noC : (∀ p, p < 2 ^ (gIn G + gSt G) → gVal G p m = false) → False := fun e => no 0 m0 (fun p hp => by rw [e p hp, gVal_0])
  have ea : lA G m / 2 = aN' G m := rfl
  have eb : lB G m / 2 = bN' G m := rfl
  rw [ea, eb] at val
  generalize decide (lA G m % 2 = 1) = s at val
  generalize decide (lB G m % 2 = 1) = t at val
  refine ⟨fun e => ?_, Nat.pos_of_ne_zero (fun e => ?_), Nat.pos_of_ne_zero (fun e => ?_)⟩
  · rw [← e] at val
    cases s <;> cases t
    · exact no _ lt.1 (fun p hp => by rw [val p hp]; cases gVal G p (aN' G m) <;> rfl)
    · exact noC (fun p hp => by rw [val p hp]; cases gVal G p (aN' G m) <;> rfl)
    · exact noC (fun p hp => by rw [val p hp]; cases gVal G p (aN' G m) <;> rfl)
    · exact no' _ lt.1 (fun p hp => by rw [val p hp]; cases gVal G p (aN' G m) <;> rfl)
  · rw [e] at val
    simp only [gVal_0] at val
    cases s
    · exact noC (fun p hp => by rw [val p hp]; rfl)
    · cases t
      · exact no _ lt.2 (fun p hp => by rw [val p hp]; cases gVal G p (bN' G m) <;> rfl)
      · exact no' _ lt.2 (fun p hp => by rw [val p hp]; cases gVal G p (bN' G m) <;> rfl)
  · rw [e] at val
    simp only [gVal_0] at val
    cases t
    · exact noC (fun p hp => by rw [val p hp]; cases gVal G p (aN' G m) <;> cases s <;> rfl)
    · cases s
      · exact no _ lt.1 (fun p hp => by rw [val p hp]; cases gVal G p (aN' G m) <;> rfl)
      · exact no' _ lt.1 (fun p hp => by rw [val p hp]; cases gVal G p (aN' G m) <;> rfl)
/-- a node of two uses has them counted -/
theorem us_par (w : WFG G) : ∀ j, j ≤ gJ G → ∀ n, ((∃ m, gNo G ≤ m + j ∧ m < gNo G ∧ Wt G m ∧ (n = aN' G m ∨ n = bN' G m)) → 1 ≤ usN G j n) ∧ ((∃ m m', m ≠ m' ∧ gNo G ≤ m + j ∧ m < gNo G ∧ Wt G m ∧ (n = aN' G m ∨ n = bN' G m) ∧ gNo G ≤ m' + j ∧ m' < gNo G ∧ Wt G m' ∧ (n = aN' G m' ∨ n = bN' G m')) → 2 ≤ usN G j n) := by
  intro j
  induction j with
  | zero =>
    intro _ n
    exact ⟨fun ⟨m, h1, h2, _⟩ => by omega, fun ⟨m, _, _, h1, h2, _⟩ => by omega⟩
  | succ j ih =>
    intro hj n
    obtain ⟨i1, i2⟩ := ih (by omega) n
    unfold gJ at hj
    have last : ∀ m, gNo G ≤ m + (j + 1) → m < gNo G → ¬ gNo G ≤ m + j → Wt G m → (n = aN' G m ∨ n = bN' G m) → 1 ≤ cG (wtN G j (gNo G - 1 - j)) (bo (aN' G (gNo G - 1 - j) = n) + bo (bN' G (gNo G - 1 - j) = n)) 0 := fun m h1 h2 h3 h4 h5 => by
      have e : m = gNo G - 1 - j := by omega
      have g := (Wt_at w (m := m) (by omega) h2).1 h4
      rw [show gNo G - 1 - m = j by omega, e] at g
      rw [cG_t g, ← e]
      rcases h5 with h5 | h5
      · rw [bo_t h5.symm]; omega
      · rw [bo_t h5.symm]; omega
    refine ⟨fun ⟨m, h1, h2, h3, h4⟩ => ?_, fun ⟨m, m', ne, h1, h2, h3, h4, g1, g2, g3, g4⟩ => ?_⟩
    · show 1 ≤ usN G j n + _
      by_cases q : gNo G ≤ m + j
      · have := i1 ⟨m, q, h2, h3, h4⟩; omega
      · have := last m h1 h2 q h3 h4; omega
    · show 2 ≤ usN G j n + _
      by_cases q : gNo G ≤ m + j
      · by_cases q' : gNo G ≤ m' + j
        · have := i2 ⟨m, m', ne, q, h2, h3, h4, q', g2, g3, g4⟩; omega
        · have := i1 ⟨m, q, h2, h3, h4⟩
          have := last m' g1 g2 q' g3 g4; omega
      · by_cases q' : gNo G ≤ m' + j
        · have := i1 ⟨m', q', g2, g3, g4⟩
          have := last m h1 h2 q h3 h4; omega
        · omega
theorem TG_G (w : WFG G) : TG (InG G) (AndG G) (WdG G) (aN' G) (bN' G) (fun m => decide (lA G m % 2 = 1)) (fun m => decide (lB G m % 2 = 1)) (gVal G) (2 ^ (gIn G + gSt G)) := by
  refine ⟨fun x h => ⟨h.1, h.2.1, h.2.2.1⟩, fun x h => ?_, fun x h p hp => val_and w hp h.1 h.2.1, fun x m m' hx hm hm' h h' => ?_, fun x y hx hy ne => ?_, fun x hx => ?_⟩
  · have a := aN_lt w h.1 h.2.1
    have b := side_ne w h.1 h.2.1 h.2.2
    have c := Wt_side w h.1 h.2.1 h.2.2
    exact ⟨a.1, a.2, b.1, ⟨c.1, b.2.1⟩, ⟨c.2, b.2.2⟩, h.2.2, by have := h.1; unfold gFi at this; omega⟩
  · refine Classical.byContradiction (fun ne => hx.2.2.2 (.inr ⟨hx.2.2.1, ?_⟩))
    have j1 : gNo G ≤ m + gJ G := by unfold gJ; have := hm.1; omega
    have j2 : gNo G ≤ m' + gJ G := by unfold gJ; have := hm'.1; omega
    have := (us_par w (gJ G) (Nat.le_refl _) x).2 ⟨m, m', ne, j1, hm.2.1, hm.2.2, h, j2, hm'.2.1, hm'.2.2, h'⟩
    omega
  · rcases Nat.lt_or_gt_of_ne ne with l | l
    · have := Wt_na w hy.1 l
      exact ⟨this.1.imp (fun p h => ⟨h.1, fun e => h.2 e.symm⟩), this.2.imp (fun p h => ⟨h.1, h.2.symm⟩)⟩
    · exact Wt_na w hx.1 l
  · have := Wt_na w hx.1 hx.2
    unfold NAl at this
    simp only [gVal_0] at this
    exact ⟨this.1.imp (fun p h => ⟨h.1, by cases g : gVal G p x; exact absurd g h.2; rfl⟩), this.2⟩
end WANTED
