/-! faults of a chip, the patterns that show them -/
/-- how many inputs the gates ahead of g have -/
def kArs (C : Chp) : Nat → Nat
  | 0 => 0
  | g + 1 => kArs C g + kAr C g
def kFa (C : Chp) : Nat := 2 * kN C + 2 * kArs C (kG C)
/-- gate and input of a place among all inputs: 3 gate + input -/
def kPin (C : Chp) : Nat → Nat → Nat → Nat
  | 0, g, _ => 3 * g
  | f + 1, g, left => if left < kAr C g then 3 * g + left else kPin C f (g + 1) (left - kAr C g)
def kFst (C : Chp) (f : Nat) : Int := if f < 2 * kN C then ((f / 2 : Nat) : Int) else -1
def kFpn (C : Chp) (f : Nat) : Int := if f < 2 * kN C then -1 else (kPin C (kG C) 0 ((f - 2 * kN C) / 2) : Int)
def kFv (f : Nat) : Bool := decide (f % 2 = 1)
def kBitF (C : Chp) (p f : Nat) (n : Int) : Bool := if n < 0 then decide (n = -2) else kValF C p (kFst C f) (kFpn C f) (kFv f) n.toNat
/-- whether some end is another one -/
def kDifN (a b : Nat → Bool) : Nat → Bool
  | 0 => false
  | n + 1 => kDifN a b n || (a n ^^ b n)
def kShow (C : Chp) (f p : Nat) : Bool := kDifN (fun k => kBit C p (C 6 k)) (fun k => kBitF C p f (C 6 k)) (kO C) || kDifN (fun k => kBit C p (C 7 k)) (fun k => kBitF C p f (C 7 k)) (kR C)
/-- the least place of some -/
def leastN (b : Nat → Bool) : Nat → Int
  | 0 => -1
  | n + 1 => if leastN b n = -1 then (if b n = true then (n : Int) else -1) else leastN b n
def kLeast (C : Chp) (f : Nat) : Int := leastN (kShow C f) (2 ^ kB C)
section FCG
variable {C C' : Chp}
theorem kArs_cg (e : ∀ f i, f ≤ 12 → C' f i = C f i) (n : Nat) : kArs C' n = kArs C n := by
  induction n with
  | zero => rfl
  | succ n ih => show kArs C' n + kAr C' n = kArs C n + kAr C n; rw [ih]; unfold kAr kLi kC; rw [e _ _ (by omega), e _ _ (by omega)]
theorem kNums_cg (e : ∀ f i, f ≤ 12 → C' f i = C f i) : kI C' = kI C ∧ kR C' = kR C ∧ kO C' = kO C ∧ kG C' = kG C ∧ kB C' = kB C ∧ kN C' = kN C ∧ (∀ g, kAr C' g = kAr C g) ∧ (∀ g, kFn C' g = kFn C g) ∧ (∀ g k, kP C' g k = kP C g k) := by
  have e0 := e 0 0 (by omega)
  have e1 := e 1 0 (by omega)
  have e2 := e 2 0 (by omega)
  have e3 := e 3 0 (by omega)
  have e4 := fun g => e 4 g (by omega)
  have e5 := fun g => e 5 g (by omega)
  have e9 := fun g => e 9 g (by omega)
  have e10 := fun g => e 10 g (by omega)
  refine ⟨?_, ?_, ?_, ?_, ?_, ?_, fun g => ?_, fun g => ?_, fun g k => ?_⟩
  · unfold kI; rw [e0]
  · unfold kR; rw [e1]
  · unfold kO; rw [e2]
  · unfold kG; rw [e3]
  · unfold kB kI kR; rw [e0, e1]
  · unfold kN kB kI kR kG; rw [e0, e1, e3]
  · unfold kAr kLi kC; rw [e4, e9]
  · unfold kFn kLf kC; rw [e4, e10]
  · unfold kP; rw [e5]
theorem kPin_cg (e : ∀ f i, f ≤ 12 → C' f i = C f i) : ∀ n g l, kPin C' n g l = kPin C n g l := by
  intro n
  induction n with
  | zero => exact fun _ _ => rfl
  | succ n ih => intro g l; show (if l < kAr C' g then _ else kPin C' n _ _) = _; rw [(kNums_cg e).2.2.2.2.2.2.1, ih]; rfl
theorem kValN_cg (e : ∀ f i, f ≤ 12 → C' f i = C f i) {p : Nat} {st pn : Int} {b : Bool} : ∀ g n, kValN C' p st pn b g n = kValN C p st pn b g n := by
  have h := kNums_cg e
  intro g
  induction g with
  | zero => exact fun _ => rfl
  | succ g ih =>
    intro n
    have hs : kStep C' (kValN C' p st pn b g) pn b g = kStep C (kValN C p st pn b g) pn b g := by
      unfold kStep kIdx
      rw [h.2.2.2.2.2.2.2.1, h.2.2.2.2.2.2.1]
      congr 1
      exact bitsN_congr (fun k hk => by rw [ih, h.2.2.2.2.2.2.2.2])
    show (if n = kB C' + g then (if (n : Int) = st then b else kStep C' (kValN C' p st pn b g) pn b g) else kValN C' p st pn b g n) = (if n = kB C + g then (if (n : Int) = st then b else kStep C (kValN C p st pn b g) pn b g) else kValN C p st pn b g n)
    rw [hs, ih, h.2.2.2.2.1]
theorem kDifN_cg {a b a' b' : Nat → Bool} {n : Nat} (h1 : ∀ k, a' k = a k) (h2 : ∀ k, b' k = b k) : kDifN a' b' n = kDifN a b n := by
  rw [funext h1, funext h2]
theorem kShow_cg (e : ∀ f i, f ≤ 12 → C' f i = C f i) {f p : Nat} : kShow C' f p = kShow C f p := by
  have h := kNums_cg e
  have hF : ∀ st pn b n, kValF C' p st pn b n = kValF C p st pn b n := fun st pn b n => by unfold kValF; rw [h.2.2.2.1, kValN_cg e]
  have h1 : kFst C' f = kFst C f := by unfold kFst; rw [h.2.2.2.2.2.1]
  have h2 : kFpn C' f = kFpn C f := by unfold kFpn; rw [h.2.2.2.2.2.1, h.2.2.2.1, kPin_cg e]
  have h3 : ∀ n, kBit C' p n = kBit C p n := fun n => by unfold kBit kVal; rw [hF]
  have h4 : ∀ n, kBitF C' p f n = kBitF C p f n := fun n => by unfold kBitF; rw [hF, h1, h2]
  unfold kShow
  have g6 : (fun k => kBit C' p (C' 6 k)) = fun k => kBit C p (C 6 k) := funext fun k => by rw [h3, e 6 k (by omega)]
  have g7 : (fun k => kBit C' p (C' 7 k)) = fun k => kBit C p (C 7 k) := funext fun k => by rw [h3, e 7 k (by omega)]
  have f6 : (fun k => kBitF C' p f (C' 6 k)) = fun k => kBitF C p f (C 6 k) := funext fun k => by rw [h4, e 6 k (by omega)]
  have f7 : (fun k => kBitF C' p f (C' 7 k)) = fun k => kBitF C p f (C 7 k) := funext fun k => by rw [h4, e 7 k (by omega)]
  rw [h.2.2.1, h.2.1, g6, g7, f6, f7]
theorem kFa_cg (e : ∀ f i, f ≤ 12 → C' f i = C f i) : kFa C' = kFa C := by
  have h := kNums_cg e
  unfold kFa
  rw [h.2.2.2.2.2.1, h.2.2.2.1, kArs_cg e]
theorem kLeast_cg (e : ∀ f i, f ≤ 12 → C' f i = C f i) {f : Nat} : kLeast C' f = kLeast C f := by
  have h := kNums_cg e
  unfold kLeast
  rw [h.2.2.2.2.1, show kShow C' f = kShow C f from funext (fun p => kShow_cg e)]
theorem kArs_le {C : Chp} (w : WFC C) {n : Nat} (h : n ≤ kG C) : kArs C n ≤ 3 * n := by
  induction n with
  | zero => exact Nat.le_refl _
  | succ n ih => have := ih (by omega); have := w.ar (g := n) (by omega); show kArs C n + kAr C n ≤ _; omega
theorem kFa_le {C : Chp} (w : WFC C) : kFa C ≤ 1224 := by
  have hn := w.nums
  have := kArs_le w (Nat.le_refl (kG C))
  unfold kFa
  omega
end FCG
