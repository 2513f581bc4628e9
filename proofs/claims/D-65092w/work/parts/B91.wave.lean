/-! waves: each net's times of change -/
def gMin (ls : Nat → List Int) (at' : Nat → Nat) : Nat → Int
  | 0 => 1000000
  | k + 1 => match (ls k)[at' k]? with
    | some t => min (gMin ls at' k) t
    | none => gMin ls at' k
def gAdv (ls : Nat → List Int) (at' : Nat → Nat) (t : Int) (k : Nat) : Nat := if (ls k)[at' k]? = some t then at' k + 1 else at' k
def wvS (ini : Nat → Bool) (at' : Nat → Nat) (m : Nat) : Nat := bitsN m (fun k => (ini k ^^ decide (at' k % 2 = 1)))
def wgVal (f : Nat) (ini : Nat → Bool) (at' : Nat → Nat) (m : Nat) : Bool := f.testBit (wvS ini at' m)
def gLst (f : Nat) (ini : Nat → Bool) (ls : Nat → List Int) (m : Nat) (d : Int) : Nat → (Nat → Nat) → List Int
  | 0, _ => []
  | u + 1, a => if gMin ls a m = 1000000 then [] else (if wgVal f ini (gAdv ls a (gMin ls a m)) m = wgVal f ini a m then [] else [gMin ls a m + d]) ++ gLst f ini ls m d u (gAdv ls a (gMin ls a m))
def gFuel (ls : Nat → List Int) (at' : Nat → Nat) : Nat → Nat
  | 0 => 0
  | k + 1 => gFuel ls at' k + ((ls k).length - at' k)
/-- lists of times that rise, within bounds -/
def Rise (l : List Int) (lo hi : Int) : Prop := (∀ (i : Nat) (t : Int), l[i]? = some t → lo ≤ t ∧ t ≤ hi) ∧ ∀ (i j : Nat) (s t : Int), i < j → l[i]? = some s → l[j]? = some t → s < t
theorem Rise_nil {lo hi : Int} : Rise [] lo hi := ⟨fun i t h => (nomatch h), fun i j s t _ h => (nomatch h)⟩
theorem Rise.weak {l : List Int} {lo hi lo' hi' : Int} (h : Rise l lo hi) (h1 : lo' ≤ lo) (h2 : hi ≤ hi') : Rise l lo' hi' := ⟨fun i t e => by have := h.1 i t e; omega, h.2⟩
theorem Rise_cons {l : List Int} {x lo hi : Int} (h : Rise l lo hi) (hx : x < lo) (hh : x ≤ hi) : Rise (x :: l) x hi := by
  refine ⟨fun i t e => ?_, fun i j s t hij e1 e2 => ?_⟩
  · cases i with
    | zero => have : x = t := Option.some.inj e
              omega
    | succ i => have := h.1 i t e; omega
  · cases j with
    | zero => omega
    | succ j =>
      have b := h.1 j t e2
      cases i with
      | zero => have : x = s := Option.some.inj e1
                omega
      | succ i => exact h.2 i j s t (by omega) e1 e2
section GL
variable {f : Nat} {ini : Nat → Bool} {ls : Nat → List Int} {m : Nat} {d : Int} {at' : Nat → Nat}
theorem gMin_le : gMin ls at' m ≤ 1000000 := by
  induction m with
  | zero => exact Int.le_refl _
  | succ m ih =>
    show (match (ls m)[at' m]? with | some t => min (gMin ls at' m) t | none => gMin ls at' m) ≤ _
    cases (ls m)[at' m]? with
    | none => exact ih
    | some t => have := min_facts (gMin ls at' m) t; show min _ _ ≤ _; omega
theorem gMin_all {k : Nat} {t : Int} (hk : k < m) (e : (ls k)[at' k]? = some t) : gMin ls at' m ≤ t := by
  induction m with
  | zero => omega
  | succ m ih =>
    show (match (ls m)[at' m]? with | some t => min (gMin ls at' m) t | none => gMin ls at' m) ≤ _
    by_cases q : k = m
    · subst q; rw [e]; exact Int.min_le_right _ _
    · have := ih (by omega)
      cases (ls m)[at' m]? with
      | none => exact this
      | some s => have := min_facts (gMin ls at' m) s; show min _ _ ≤ _; omega
theorem gMin_some (h : gMin ls at' m ≠ 1000000) : ∃ k, k < m ∧ (ls k)[at' k]? = some (gMin ls at' m) := by
  induction m with
  | zero => exact absurd rfl h
  | succ m ih =>
    have e : gMin ls at' (m + 1) = (match (ls m)[at' m]? with | some t => min (gMin ls at' m) t | none => gMin ls at' m) := rfl
    cases q : (ls m)[at' m]? with
    | none =>
      rw [q] at e
      have e : gMin ls at' (m + 1) = gMin ls at' m := e
      rw [e] at h ⊢
      obtain ⟨k, h1, h2⟩ := ih h
      exact ⟨k, by omega, h2⟩
    | some t =>
      rw [q] at e
      have e : gMin ls at' (m + 1) = min (gMin ls at' m) t := e
      rcases (min_facts (gMin ls at' m) t).2.2 with z | z
      · rw [e, z] at h ⊢
        obtain ⟨k, h1, h2⟩ := ih h
        exact ⟨k, by omega, h2⟩
      · exact ⟨m, by omega, by rw [q, e, z]⟩
theorem gFuel_adv_le {t : Int} : gFuel ls (gAdv ls at' t) m ≤ gFuel ls at' m := by
  induction m with
  | zero => exact Nat.le_refl _
  | succ m ih =>
    show _ + ((ls m).length - gAdv ls at' t m) ≤ _ + ((ls m).length - at' m)
    have : at' m ≤ gAdv ls at' t m := by unfold gAdv; split <;> omega
    omega
theorem gFuel_adv {k : Nat} {t : Int} (hk : k < m) (e : (ls k)[at' k]? = some t) : gFuel ls (gAdv ls at' t) m < gFuel ls at' m := by
  induction m with
  | zero => omega
  | succ m ih =>
    show _ + ((ls m).length - gAdv ls at' t m) < _ + ((ls m).length - at' m)
    by_cases q : k = m
    · subst q
      have a : gAdv ls at' t k = at' k + 1 := if_pos e
      have l : at' k < (ls k).length := by
        rcases Nat.lt_or_ge (at' k) (ls k).length with h | h
        · exact h
        · rw [List.getElem?_eq_none h] at e; exact (nomatch e)
      have := gFuel_adv_le (ls := ls) (at' := at') (m := k) (t := t)
      rw [a]; omega
    · have := ih (by omega)
      have : at' m ≤ gAdv ls at' t m := by unfold gAdv; split <;> omega
      omega
theorem gMin_adv (hr : ∀ k, k < m → ∀ (i j : Nat) (s t : Int), i < j → (ls k)[i]? = some s → (ls k)[j]? = some t → s < t) (h : gMin ls at' m ≠ 1000000) : gMin ls at' m < gMin ls (gAdv ls at' (gMin ls at' m)) m := by
  by_cases q : gMin ls (gAdv ls at' (gMin ls at' m)) m = 1000000
  · have := gMin_le (ls := ls) (at' := at') (m := m); omega
  · obtain ⟨k, hk, e⟩ := gMin_some q
    by_cases z : (ls k)[at' k]? = some (gMin ls at' m)
    · have a : gAdv ls at' (gMin ls at' m) k = at' k + 1 := if_pos z
      rw [a] at e
      exact hr k hk _ _ _ _ (Nat.lt_succ_self _) z e
    · have a : gAdv ls at' (gMin ls at' m) k = at' k := if_neg z
      rw [a] at e
      have := gMin_all hk e
      rcases Int.lt_or_eq_of_le this with g | g
      · exact g
      · rw [← g] at e; exact absurd e z
theorem gLst_rise {lo hi : Int} (hlo : ∀ k, k < m → Rise (ls k) lo hi) (hd : 0 ≤ d) : ∀ u a, Rise (gLst f ini ls m d u a) (gMin ls a m + d) (hi + d) := by
  intro u
  induction u with
  | zero => exact fun a => Rise_nil
  | succ u ih =>
    intro a
    show Rise (if gMin ls a m = 1000000 then [] else (if wgVal f ini (gAdv ls a (gMin ls a m)) m = wgVal f ini a m then [] else [gMin ls a m + d]) ++ gLst f ini ls m d u (gAdv ls a (gMin ls a m))) _ _
    by_cases q : gMin ls a m = 1000000
    · rw [if_pos q]; exact Rise_nil
    · rw [if_neg q]
      have i := ih (gAdv ls a (gMin ls a m))
      have g := gMin_adv (at' := a) (fun k hk => (hlo k hk).2) q
      obtain ⟨k, hk, e⟩ := gMin_some q
      have b := (hlo k hk).1 _ _ e
      by_cases z : wgVal f ini (gAdv ls a (gMin ls a m)) m = wgVal f ini a m
      · rw [if_pos z]; exact i.weak (by omega) (by omega)
      · rw [if_neg z]; exact Rise_cons i (by omega) (by omega)
theorem gLst_end {u : Nat} {a : Nat → Nat} (h : gMin ls a m = 1000000) : gLst f ini ls m d u a = [] := by
  cases u with
  | zero => rfl
  | succ u => show (if _ then _ else _) = _; rw [if_pos h]
theorem gLst_step {u : Nat} {a : Nat → Nat} (h : gMin ls a m ≠ 1000000) (hu : gFuel ls a m ≤ u) : gLst f ini ls m d u a = (if wgVal f ini (gAdv ls a (gMin ls a m)) m = wgVal f ini a m then [] else [gMin ls a m + d]) ++ gLst f ini ls m d (u - 1) (gAdv ls a (gMin ls a m)) := by
  obtain ⟨k, hk, e⟩ := gMin_some h
  have := gFuel_adv hk e
  obtain ⟨u', rfl⟩ : ∃ u', u = u' + 1 := ⟨u - 1, by omega⟩
  show (if _ then _ else _) = _
  rw [if_neg h]; rfl
end GL
/-- the rows of all nets -/
def kWvN (C : Chp) (a b : Nat) : Nat → Nat → List Int
  | 0, n => if a.testBit n = b.testBit n then [] else [0]
  | g + 1, n => if n = kB C + g then gLst (kFn C g) (fun k => kVal C a (kP C g k)) (fun k => kWvN C a b g (kP C g k)) (kAr C g) (kTime C n) (gFuel (fun k => kWvN C a b g (kP C g k)) (fun _ => 0) (kAr C g)) (fun _ => 0) else kWvN C a b g n
def kWv (C : Chp) (a b n : Nat) : List Int := kWvN C a b (kG C) n
/-- where a net's row begins -/
def kWo (C : Chp) (a b : Nat) : Nat → Nat
  | 0 => 0
  | n + 1 => kWo C a b n + (kWv C a b n).length
section KWV
variable {C : Chp} {a b : Nat}
theorem kWvN_old {g n : Nat} (h : n < kB C + g) : ∀ {g'}, g ≤ g' → kWvN C a b g' n = kWvN C a b g n := by
  intro g' hg
  induction g' with
  | zero => have : g = 0 := by omega
            subst this; rfl
  | succ g' ih =>
    by_cases e : g = g' + 1
    · subst e; rfl
    · show (if n = kB C + g' then _ else kWvN C a b g' n) = _
      rw [if_neg (by omega), ih (by omega)]
theorem kWv_src {n : Nat} (h : n < kB C) : kWv C a b n = if a.testBit n = b.testBit n then [] else [0] := kWvN_old (g := 0) h (Nat.zero_le _)
theorem gMin_cg {ls ls' : Nat → List Int} {at' : Nat → Nat} {m : Nat} (h : ∀ k, k < m → ls k = ls' k) : gMin ls at' m = gMin ls' at' m := by
  induction m with
  | zero => rfl
  | succ m ih =>
    show (match (ls m)[at' m]? with | some t => min (gMin ls at' m) t | none => gMin ls at' m) = (match (ls' m)[at' m]? with | some t => min (gMin ls' at' m) t | none => gMin ls' at' m)
    rw [h m (by omega), ih (fun k hk => h k (by omega))]
theorem gFuel_cg {ls ls' : Nat → List Int} {at' : Nat → Nat} {m : Nat} (h : ∀ k, k < m → ls k = ls' k) : gFuel ls at' m = gFuel ls' at' m := by
  induction m with
  | zero => rfl
  | succ m ih => show gFuel ls at' m + _ = gFuel ls' at' m + _; rw [h m (by omega), ih (fun k hk => h k (by omega))]
theorem gMin_at {ls : Nat → List Int} {at' at2 : Nat → Nat} {m : Nat} (h : ∀ k, k < m → at' k = at2 k) : gMin ls at' m = gMin ls at2 m := by
  induction m with
  | zero => rfl
  | succ m ih =>
    show (match (ls m)[at' m]? with | some t => min (gMin ls at' m) t | none => gMin ls at' m) = (match (ls m)[at2 m]? with | some t => min (gMin ls at2 m) t | none => gMin ls at2 m)
    rw [h m (by omega), ih (fun k hk => h k (by omega))]
theorem gLst_cg {f : Nat} {ini : Nat → Bool} {ls ls' : Nat → List Int} {m : Nat} {d : Int} (h : ∀ k, k < m → ls k = ls' k) : ∀ u x y, (∀ k, k < m → x k = y k) → gLst f ini ls m d u x = gLst f ini ls' m d u y := by
  intro u
  induction u with
  | zero => exact fun _ _ _ => rfl
  | succ u ih =>
    intro x y hxy
    have e1 : gMin ls x m = gMin ls' y m := (gMin_at hxy).trans (gMin_cg h)
    have e2 : ∀ k, k < m → gAdv ls x (gMin ls' y m) k = gAdv ls' y (gMin ls' y m) k := fun k hk => by unfold gAdv; rw [h k hk, hxy k hk]
    have e3 : ∀ x y : Nat → Nat, (∀ k, k < m → x k = y k) → wgVal f ini x m = wgVal f ini y m := fun x y hq => by
      unfold wgVal wvS; rw [bitsN_congr (fun k hk => by rw [hq k hk])]
    show (if gMin ls x m = 1000000 then [] else (if wgVal f ini (gAdv ls x (gMin ls x m)) m = wgVal f ini x m then [] else [gMin ls x m + d]) ++ gLst f ini ls m d u (gAdv ls x (gMin ls x m))) = (if gMin ls' y m = 1000000 then [] else (if wgVal f ini (gAdv ls' y (gMin ls' y m)) m = wgVal f ini y m then [] else [gMin ls' y m + d]) ++ gLst f ini ls' m d u (gAdv ls' y (gMin ls' y m)))
    rw [e1, e3 _ _ e2, e3 _ _ hxy, ih _ _ e2]
theorem kWv_gate (w : WFC C) {g : Nat} (h : g < kG C) : kWv C a b (kB C + g) = gLst (kFn C g) (fun k => kVal C a (kP C g k)) (fun k => kWv C a b (kP C g k)) (kAr C g) (kTime C (kB C + g)) (gFuel (fun k => kWv C a b (kP C g k)) (fun _ => 0) (kAr C g)) (fun _ => 0) := by
  have e : kWv C a b (kB C + g) = kWvN C a b (g + 1) (kB C + g) := kWvN_old (g := g + 1) (by omega) h
  rw [e]
  show (if kB C + g = kB C + g then _ else _) = _
  rw [if_pos rfl]
  have cg : ∀ k, k < kAr C g → kWvN C a b g (kP C g k) = kWv C a b (kP C g k) := fun k hk => (kWvN_old (w.p h hk).2 (Nat.le_of_lt h)).symm
  rw [gFuel_cg (ls' := fun k => kWv C a b (kP C g k)) cg]
  exact gLst_cg cg _ _ _ (fun _ _ => rfl)
theorem kWv_rise (w : WFC C) (wp : WFP C) : ∀ g, g ≤ kG C → ∀ n, n < kB C + g → Rise (kWv C a b n) 0 (800 * g) := by
  have hn := w.nums
  intro g
  induction g with
  | zero =>
    intro _ n h
    rw [kWv_src (by omega)]
    split
    · exact Rise_nil
    · refine ⟨fun i t e => ?_, fun i j s t hij e1 e2 => ?_⟩
      · cases i with
        | zero => have : (0 : Int) = t := Option.some.inj e
                  omega
        | succ i => exact (nomatch e)
      · cases j with
        | zero => omega
        | succ j => exact (nomatch e2)
  | succ g ih =>
    intro hg n h
    have i := ih (by omega)
    by_cases e : n < kB C + g
    · exact (i n e).weak (Int.le_refl _) (by omega)
    · have e : n = kB C + g := by omega
      subst e
      have tr := kTime_rng w wp (n := kB C + g) (by omega)
      rw [kWv_gate w (by omega)]
      have hl : ∀ k, k < kAr C g → Rise (kWv C a b (kP C g k)) 0 (800 * g) := fun k hk => i _ (w.p (by omega) hk).2
      refine (gLst_rise hl tr.1 _ _).weak ?_ (by omega)
      by_cases q : gMin (fun k => kWv C a b (kP C g k)) (fun _ => 0) (kAr C g) = 1000000
      · omega
      · obtain ⟨k, hk, e⟩ := gMin_some q
        have := (hl k hk).1 _ _ e
        omega
theorem kWv_rise' (w : WFC C) (wp : WFP C) {n : Nat} (h : n < kN C) : Rise (kWv C a b n) 0 120000 := by
  have hn := w.nums
  exact (kWv_rise w wp (kG C) (Nat.le_refl _) n (by omega)).weak (Int.le_refl _) (by omega)
theorem kWo_mono {n m : Nat} (h : n ≤ m) : kWo C a b n ≤ kWo C a b m := by
  induction m with
  | zero => have : n = 0 := by omega
            subst this; exact Nat.le_refl _
  | succ m ih =>
    by_cases e : n = m + 1
    · subst e; exact Nat.le_refl _
    · exact Nat.le_trans (ih (by omega)) (Nat.le_add_right _ _)
end KWV
