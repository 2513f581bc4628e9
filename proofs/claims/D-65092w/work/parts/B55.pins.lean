/-! pins: each its net, its owner (-1 an input, -2 an output, an element), its number there -/
abbrev Pst : Type := Nat × (Nat → Nat × Int × Nat)
def pAdd (s : Pst) (net o : Int) (j : Nat) : Pst := if net < 0 then s else (s.1 + 1, updN s.2 s.1 (net.toNat, o, j))
/-- the net of pin j of an element -/
def kNp (C : Chp) (e j : Nat) : Int := if e < kR C then (if j = 1 then ((kI C + e : Nat) : Int) else C 7 e) else if j = kAr C (e - kR C) then ((kB C + (e - kR C) : Nat) : Int) else C 5 (3 * (e - kR C) + j)
def pIns : Nat → Pst
  | 0 => (0, fun _ => (0, 0, 0))
  | i + 1 => pAdd (pIns i) (i : Int) (-1) i
def pOuts (C : Chp) : Nat → Pst
  | 0 => pIns (kI C)
  | k + 1 => pAdd (pOuts C k) (C 6 k) (-2) k
def pEl (C : Chp) (s : Pst) (e : Nat) : Nat → Pst
  | 0 => s
  | j + 1 => pAdd (pEl C s e j) (kNp C e j) (e : Int) j
def pEls (C : Chp) : Nat → Pst
  | 0 => pOuts C (kO C)
  | e + 1 => pEl C (pEls C e) e (kSz C e)
def kPins (C : Chp) : Pst := pEls C (kE C)
/-- where a pin stands -/
def pX (C : Chp) (t : Nat × Int × Nat) : Int := if t.2.1 = -1 then 0 else if t.2.1 = -2 then C 15 0 + 1 else 1 + C 17 t.2.1.toNat + t.2.2
def pY (C : Chp) (t : Nat × Int × Nat) : Int := if t.2.1 < 0 then t.2.2 else 3 * C 18 t.2.1.toNat + 1
/-- the last pin of a net ahead of place m -/
def pPrev (f : Nat → Nat × Int × Nat) (n : Nat) : Nat → Int
  | 0 => -1
  | m + 1 => if (f m).1 = n then (m : Int) else pPrev f n m
/-- how many pins of a net are ahead of place m -/
def pMany (f : Nat → Nat × Int × Nat) (n : Nat) : Nat → Nat
  | 0 => 0
  | m + 1 => pMany f n m + (if (f m).1 = n then 1 else 0)
theorem pPrev_rng {f : Nat → Nat × Int × Nat} {n m : Nat} : -1 ≤ pPrev f n m ∧ pPrev f n m < m := by
  induction m with
  | zero => show -1 ≤ (-1 : Int) ∧ (-1 : Int) < _; omega
  | succ m ih => show -1 ≤ (if _ then _ else _ : Int) ∧ (if _ then _ else _ : Int) < _; split <;> omega
theorem pPrev_net {f : Nat → Nat × Int × Nat} {n m : Nat} (h : pPrev f n m ≠ -1) : (f (pPrev f n m).toNat).1 = n := by
  induction m with
  | zero => exact absurd rfl h
  | succ m ih =>
    have e : pPrev f n (m + 1) = if (f m).1 = n then (m : Int) else pPrev f n m := rfl
    rw [e] at h ⊢
    by_cases q : (f m).1 = n
    · rw [if_pos q, Int.toNat_natCast]; exact q
    · rw [if_neg q] at h ⊢; exact ih h
theorem pPrev_no {f : Nat → Nat × Int × Nat} {n m p : Nat} (h1 : pPrev f n m < p) (h2 : p < m) : (f p).1 ≠ n := by
  induction m with
  | zero => omega
  | succ m ih =>
    have e : pPrev f n (m + 1) = if (f m).1 = n then (m : Int) else pPrev f n m := rfl
    rw [e] at h1
    by_cases q : (f m).1 = n
    · rw [if_pos q] at h1; omega
    · rw [if_neg q] at h1
      by_cases z : p = m
      · subst z; exact q
      · exact ih h1 (by omega)
theorem pPrev_cg {f g : Nat → Nat × Int × Nat} {n m : Nat} (h : ∀ p, p < m → f p = g p) : pPrev f n m = pPrev g n m := by
  induction m with
  | zero => rfl
  | succ m ih => show (if (f m).1 = n then _ else _ : Int) = (if (g m).1 = n then _ else _ : Int); rw [h m (by omega), ih (fun p hp => h p (by omega))]
theorem pMany_cg {f g : Nat → Nat × Int × Nat} {n m : Nat} (h : ∀ p, p < m → f p = g p) : pMany f n m = pMany g n m := by
  induction m with
  | zero => rfl
  | succ m ih => show pMany f n m + _ = pMany g n m + _; rw [h m (by omega), ih (fun p hp => h p (by omega))]
theorem pMany_le {f : Nat → Nat × Int × Nat} {n m : Nat} : pMany f n m ≤ m := by
  induction m with
  | zero => exact Nat.le_refl _
  | succ m ih => show pMany f n m + (if _ then _ else _) ≤ _; split <;> omega
/-- what holds of a row of pins -/
def POk (C : Chp) (s : Pst) : Prop := ∀ p, p < s.1 → (s.2 p).1 < kN C ∧ (((s.2 p).2.1 = -1 ∧ (s.2 p).2.2 < kI C) ∨ ((s.2 p).2.1 = -2 ∧ (s.2 p).2.2 < kO C) ∨ (0 ≤ (s.2 p).2.1 ∧ (s.2 p).2.1 < kE C ∧ (s.2 p).2.2 < kSz C (s.2 p).2.1.toNat))
theorem pAdd_count {s : Pst} {net o : Int} {j : Nat} : s.1 ≤ (pAdd s net o j).1 ∧ (pAdd s net o j).1 ≤ s.1 + 1 := by
  unfold pAdd; split <;> (try dsimp only) <;> omega
theorem pAdd_ok {C : Chp} {s : Pst} {net o : Int} {j : Nat} (h : POk C s) (hn : net < kN C) (ho : (o = -1 ∧ j < kI C) ∨ (o = -2 ∧ j < kO C) ∨ (0 ≤ o ∧ o < kE C ∧ j < kSz C o.toNat)) : POk C (pAdd s net o j) := by
  unfold pAdd
  split
  · exact h
  · intro p hp
    have hp : p < s.1 + 1 := hp
    by_cases e : p = s.1
    · have ez : ((s.1 + 1, updN s.2 s.1 (net.toNat, o, j)) : Pst).2 p = (net.toNat, o, j) := by rw [e]; exact updN_eq
      rw [ez]
      exact ⟨by show net.toNat < _; omega, ho⟩
    · have ez : ((s.1 + 1, updN s.2 s.1 (net.toNat, o, j)) : Pst).2 p = s.2 p := updN_ne e
      rw [ez]
      exact h p (by omega)
section PINS
variable {C : Chp}
theorem kNp_lt (w : WFC C) {e j : Nat} (he : e < kE C) (hj : j < kSz C e) : kNp C e j < kN C ∧ -2 ≤ kNp C e j := by
  have hn := w.nums
  unfold kE at he
  unfold kSz at hj
  unfold kNp
  by_cases q : e < kR C
  · rw [if_pos q]
    by_cases z : j = 1
    · rw [if_pos z]; omega
    · rw [if_neg z]
      have := w.2.2.2.2.1 e q
      rw [w.i, w.r, w.g] at this
      omega
  · rw [if_neg q] at hj ⊢
    by_cases z : j = kAr C (e - kR C)
    · rw [if_pos z]; omega
    · rw [if_neg z]
      have := w.p (g := e - kR C) (k := j) (by omega) (by omega)
      rw [this.1]; omega
theorem pIns_ok (w : WFC C) : ∀ i, i ≤ kI C → POk C (pIns i) ∧ (pIns i).1 ≤ i := by
  have hn := w.nums
  intro i
  induction i with
  | zero => exact fun _ => ⟨fun p hp => absurd hp (Nat.not_lt_zero _), Nat.le_refl _⟩
  | succ i ih =>
    intro h
    have hi := ih (by omega)
    have c := pAdd_count (s := pIns i) (net := (i : Int)) (o := -1) (j := i)
    exact ⟨pAdd_ok hi.1 (by omega) (.inl ⟨rfl, by omega⟩), by show (pAdd _ _ _ _).1 ≤ _; omega⟩
theorem pOuts_ok (w : WFC C) : ∀ i, i ≤ kO C → POk C (pOuts C i) ∧ (pOuts C i).1 ≤ kI C + i := by
  have hn := w.nums
  intro i
  induction i with
  | zero => exact fun _ => ⟨(pIns_ok w _ (Nat.le_refl _)).1, (pIns_ok w _ (Nat.le_refl _)).2⟩
  | succ i ih =>
    intro h
    have hi := ih (by omega)
    have c := pAdd_count (s := pOuts C i) (net := C 6 i) (o := -2) (j := i)
    have := w.2.2.2.1 i (by omega)
    rw [w.i, w.r, w.g] at this
    exact ⟨pAdd_ok hi.1 (by omega) (.inr (.inl ⟨rfl, by omega⟩)), by show (pAdd _ _ _ _).1 ≤ _; omega⟩
theorem pEl_ok (w : WFC C) {s : Pst} {e : Nat} (hs : POk C s) (he : e < kE C) : ∀ j, j ≤ kSz C e → POk C (pEl C s e j) ∧ (pEl C s e j).1 ≤ s.1 + j ∧ s.1 ≤ (pEl C s e j).1 := by
  intro j
  induction j with
  | zero => exact fun _ => ⟨hs, Nat.le_refl _, Nat.le_refl _⟩
  | succ j ih =>
    intro h
    have hi := ih (by omega)
    have c := pAdd_count (s := pEl C s e j) (net := kNp C e j) (o := (e : Int)) (j := j)
    exact ⟨pAdd_ok hi.1 (kNp_lt w he (by omega)).1 (.inr (.inr ⟨by omega, by omega, by rw [Int.toNat_natCast]; omega⟩)), by show (pAdd _ _ _ _).1 ≤ _; omega, by show _ ≤ (pAdd _ _ _ _).1; omega⟩
theorem pEls_ok (w : WFC C) : ∀ e, e ≤ kE C → POk C (pEls C e) ∧ (pEls C e).1 ≤ kI C + kO C + 2 * (if e < kR C then e else kR C) + 4 * (e - kR C) := by
  intro e
  induction e with
  | zero =>
    intro _
    have := pOuts_ok w _ (Nat.le_refl _)
    exact ⟨this.1, by show (pOuts C (kO C)).1 ≤ _; omega⟩
  | succ e ih =>
    intro h
    have hi := ih (by omega)
    have c := pEl_ok w (s := pEls C e) (e := e) hi.1 (by omega) (kSz C e) (Nat.le_refl _)
    refine ⟨c.1, ?_⟩
    show (pEl C (pEls C e) e (kSz C e)).1 ≤ _
    have sz := kSz_rng w (e := e) (by omega)
    by_cases q : e < kR C
    · have s2 : kSz C e = 2 := if_pos q
      rw [if_pos q] at hi
      by_cases q2 : e + 1 < kR C
      · rw [if_pos q2]; omega
      · rw [if_neg q2]; omega
    · rw [if_neg q] at hi
      rw [if_neg (by omega)]; omega
theorem kPins_ok (w : WFC C) : POk C (kPins C) ∧ (kPins C).1 ≤ 640 := by
  have h := pEls_ok w (kE C) (Nat.le_refl _)
  have hn := w.nums
  refine ⟨h.1, Nat.le_trans h.2 ?_⟩
  unfold kE
  split <;> omega
end PINS
