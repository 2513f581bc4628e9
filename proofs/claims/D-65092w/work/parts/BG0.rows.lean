/-! the row of nets that are to be connected: no program -/
def insF (wv : Nat → Int) (n : Nat) : Nat → (Nat → Nat) → (Nat → Nat)
  | 0, a => updN a 0 n
  | j + 1, a => if wv n < wv (a j) then insF wv n j (updN a (j + 1) (a j)) else updN a (j + 1) n
def rowF (C : Chp) : Nat → Nat × (Nat → Nat)
  | 0 => (0, fun _ => 0)
  | n + 1 => if kMany C n < 2 then rowF C n else ((rowF C n).1 + 1, insF (kWire C) n (rowF C n).1 (rowF C n).2)
theorem smN_upd {h : Nat → Nat} {a : Nat → Nat} {m j v : Nat} (hj : j < m) : smN (fun i => h (updN a j v i)) m + h (a j) = smN (fun i => h (a i)) m + h v := by
  induction m with
  | zero => omega
  | succ m ih =>
    show smN (fun i => h (updN a j v i)) m + h (updN a j v m) + h (a j) = smN (fun i => h (a i)) m + h (a m) + h v
    by_cases q : j = m
    · subst q
      rw [updN_eq, smN_cg (fun x hx => by rw [updN_ne (by omega)])]; omega
    · have := ih (by omega)
      rw [updN_ne (show m ≠ j by omega)]; omega
theorem insF_sum {wv : Nat → Int} {n m : Nat} {h : Nat → Nat} : ∀ (j : Nat) (a : Nat → Nat), j < m → smN (fun i => h (insF wv n j a i)) m + h (a j) = smN (fun i => h (a i)) m + h n := by
  intro j
  induction j with
  | zero => exact fun a hj => smN_upd hj
  | succ j ih =>
    intro a hj
    show smN (fun i => h ((if wv n < wv (a j) then insF wv n j (updN a (j + 1) (a j)) else updN a (j + 1) n) i)) m + h (a (j + 1)) = _
    by_cases q : wv n < wv (a j)
    · rw [if_pos q]
      have e1 := ih (updN a (j + 1) (a j)) (by omega)
      have e2 := smN_upd (h := h) (a := a) (v := a j) hj
      rw [updN_ne (show j ≠ j + 1 by omega)] at e1
      omega
    · rw [if_neg q]; exact smN_upd hj
/-- sums over the row -/
theorem rowF_sum {C : Chp} (h : Nat → Nat) : ∀ n, smN (fun i => h ((rowF C n).2 i)) (rowF C n).1 = smN (fun m => if kMany C m < 2 then 0 else h m) n := by
  intro n
  induction n with
  | zero => rfl
  | succ n ih =>
    show smN (fun i => h ((if kMany C n < 2 then rowF C n else ((rowF C n).1 + 1, insF (kWire C) n (rowF C n).1 (rowF C n).2)).2 i)) (if kMany C n < 2 then rowF C n else ((rowF C n).1 + 1, insF (kWire C) n (rowF C n).1 (rowF C n).2)).1 = smN (fun m => if kMany C m < 2 then 0 else h m) n + (if kMany C n < 2 then 0 else h n)
    by_cases q : kMany C n < 2
    · rw [if_pos q, if_pos q, ih]; omega
    · rw [if_neg q, if_neg q]
      have e := insF_sum (wv := kWire C) (n := n) (m := (rowF C n).1 + 1) (h := h) (rowF C n).1 (rowF C n).2 (by omega)
      have e2 : smN (fun i => h ((rowF C n).2 i)) ((rowF C n).1 + 1) = smN (fun i => h ((rowF C n).2 i)) (rowF C n).1 + h ((rowF C n).2 (rowF C n).1) := rfl
      rw [e2, ih] at e
      show smN (fun i => h (insF (kWire C) n (rowF C n).1 (rowF C n).2 i)) ((rowF C n).1 + 1) = _
      omega
theorem rowF_le {C : Chp} (n : Nat) : (rowF C n).1 ≤ n := by
  induction n with
  | zero => exact Nat.le_refl _
  | succ n ih =>
    show (if kMany C n < 2 then rowF C n else ((rowF C n).1 + 1, insF (kWire C) n (rowF C n).1 (rowF C n).2)).1 ≤ _
    split
    · omega
    · show (rowF C n).1 + 1 ≤ _; omega
theorem smN_ge {f : Nat → Nat} {n x : Nat} (hx : x < n) : f x ≤ smN f n := by
  induction n with
  | zero => omega
  | succ n ih =>
    show _ ≤ smN f n + f n
    by_cases q : x = n
    · rw [q]; omega
    · have := ih (by omega); omega
theorem smN_ge2 {f : Nat → Nat} {n x y : Nat} (hx : x < n) (hy : y < n) (ne : x ≠ y) : f x + f y ≤ smN f n := by
  induction n with
  | zero => omega
  | succ n ih =>
    show _ ≤ smN f n + f n
    by_cases q : x = n
    · have := smN_ge (f := f) (n := n) (x := y) (by omega); rw [q]; omega
    · by_cases q2 : y = n
      · have := smN_ge (f := f) (n := n) (x := x) (by omega); rw [q2]; omega
      · have := ih (by omega) (by omega); omega
theorem smN_one {v n : Nat} : smN (fun m => if m = v then 1 else 0) n ≤ 1 := by
  induction n with
  | zero => show 0 ≤ _; omega
  | succ n ih =>
    show smN (fun m => if m = v then 1 else 0) n + (if n = v then 1 else 0) ≤ 1
    by_cases q : n = v
    · rw [if_pos q, smN_0 (fun x hx => if_neg (by omega))]; omega
    · rw [if_neg q]; exact ih
section ROWS
variable {C : Chp} {n i j : Nat}
/-- each net stands there once, and has two pins -/
theorem row_lt (hi : i < (rowF C n).1) : (rowF C n).2 i < n ∧ 2 ≤ kMany C ((rowF C n).2 i) := by
  have e := rowF_sum (C := C) (fun m => if m = (rowF C n).2 i then 1 else 0) n
  have g := smN_ge (f := fun x => if (rowF C n).2 x = (rowF C n).2 i then 1 else 0) hi
  rw [if_pos rfl, e] at g
  refine Classical.byContradiction (fun no => ?_)
  rw [smN_0 (fun x hx => ?_)] at g
  · omega
  · by_cases q : x = (rowF C n).2 i
    · by_cases q2 : kMany C x < 2
      · rw [if_pos q2]
      · rw [q] at q2 hx; exact absurd ⟨hx, by omega⟩ no
    · rw [if_neg q]; split <;> rfl
theorem row_inj (hi : i < (rowF C n).1) (hj : j < (rowF C n).1) (h : (rowF C n).2 i = (rowF C n).2 j) : i = j := by
  refine Classical.byContradiction (fun ne => ?_)
  have e := rowF_sum (C := C) (fun m => if m = (rowF C n).2 i then 1 else 0) n
  have g := smN_ge2 (f := fun x => if (rowF C n).2 x = (rowF C n).2 i then 1 else 0) hi hj ne
  rw [if_pos rfl, if_pos h.symm, e] at g
  have l := smN_one (v := (rowF C n).2 i) (n := n)
  have le : ∀ m, smN (fun m => if kMany C m < 2 then 0 else if m = (rowF C n).2 i then 1 else 0) m ≤ smN (fun m => if m = (rowF C n).2 i then 1 else 0) m := by
    intro m
    induction m with
    | zero => exact Nat.le_refl _
    | succ m ih =>
      show smN _ m + (if kMany C m < 2 then 0 else if m = (rowF C n).2 i then 1 else 0) ≤ smN _ m + (if m = (rowF C n).2 i then 1 else 0)
      by_cases q : kMany C m < 2
      · rw [if_pos q]; omega
      · rw [if_neg q]; omega
  have := le n
  omega
end ROWS
