/-! designs are made: nodes, values, rows of code; plain -/
abbrev Nds : Type := List (Int × Int)
def ixA : Nds → Int × Int → Nat
  | [], _ => 0
  | a :: l, p => if a = p then 0 else ixA l p + 1
def ndA (A : Nds) (i : Nat) : Int × Int := A.getD i (0, 0)
theorem ixA_le : ∀ {A : Nds} {p : Int × Int}, ixA A p ≤ A.length
  | [], p => Nat.le_refl 0
  | a :: l, p => by
    unfold ixA
    split
    · exact Nat.zero_le _
    · have := ixA_le (A := l) (p := p)
      show _ + 1 ≤ l.length + 1; omega
theorem ixA_ok : ∀ {A : Nds} {p : Int × Int}, ixA A p < A.length → ndA A (ixA A p) = p
  | [], p, h => absurd h (by show ¬ 0 < 0; omega)
  | a :: l, p, h => by
    unfold ixA at h ⊢
    by_cases e : a = p
    · rw [if_pos e]; exact e
    · rw [if_neg e] at h ⊢
      exact ixA_ok (A := l) (by have h : ixA l p + 1 < l.length + 1 := h; omega)
theorem ixA_no : ∀ {A : Nds} {p : Int × Int}, ¬ ixA A p < A.length → ∀ i, i < A.length → ndA A i ≠ p
  | [], p, _, i, hi => absurd hi (by show ¬ i < 0; omega)
  | a :: l, p, h, i, hi => by
    unfold ixA at h
    by_cases e : a = p
    · rw [if_pos e] at h; exact absurd (show 0 < l.length + 1 by omega) h
    · rw [if_neg e] at h
      cases i with
      | zero => exact e
      | succ i => exact ixA_no (A := l) (fun w => h (by show _ + 1 < l.length + 1; omega)) i (by have hi : i + 1 < l.length + 1 := hi; omega)
/-- no pair twice -/
def NdU (A : Nds) : Prop := ∀ i j, i < A.length → j < A.length → ndA A i = ndA A j → i = j
theorem ndA_app {A : Nds} {p : Int × Int} {i : Nat} : ndA (A ++ [p]) i = if i < A.length then ndA A i else if i = A.length then p else (0, 0) := by
  unfold ndA
  exact getD_appT
theorem NdU.app {A : Nds} {p : Int × Int} (h : NdU A) (g : ¬ ixA A p < A.length) : NdU (A ++ [p]) := by
  have hno := ixA_no g
  intro i j hi hj e
  rw [List.length_append] at hi hj
  have hi : i < A.length + 1 := hi
  have hj : j < A.length + 1 := hj
  rw [ndA_app, ndA_app] at e
  by_cases a : i < A.length
  · rw [if_pos a] at e
    by_cases b : j < A.length
    · rw [if_pos b] at e; exact h i j a b e
    · rw [if_neg b, if_pos (by omega)] at e
      exact absurd e (hno i a)
  · rw [if_neg a, if_pos (by omega)] at e
    by_cases b : j < A.length
    · rw [if_pos b] at e
      exact absurd e.symm (hno j b)
    · omega
theorem ixA_un {A : Nds} {p : Int × Int} {i : Nat} (h : NdU A) (hi : i < A.length) (e : ndA A i = p) : ixA A p < A.length ∧ ixA A p = i := by
  have h1 : ixA A p < A.length := Classical.byContradiction (fun q => ixA_no q i hi e)
  exact ⟨h1, h _ _ h1 hi ((ixA_ok h1).trans e.symm)⟩
/-- an AND; at most 1001 of them -/
def andP (fa : Nat) (A : Nds) (a b : Int) : Int × Nds :=
  let x := if a < b then a else b
  let y := if a < b then b else a
  if x = 0 ∨ x = aXor y 1 then (0, A)
  else if x = 1 ∨ x = y then (y, A)
  else if ixA A (x, y) < A.length then (2 * ((fa + ixA A (x, y) : Nat) : Int), A)
  else if 1000 < A.length then (0, A)
  else (2 * ((fa + A.length : Nat) : Int), A ++ [(x, y)])
def orP (fa : Nat) (A : Nds) (a b : Int) : Int × Nds := (aXor 1 (andP fa A (aXor a 1) (aXor b 1)).1, (andP fa A (aXor a 1) (aXor b 1)).2)
def xorP (fa : Nat) (A : Nds) (a b : Int) : Int × Nds :=
  orP fa (andP fa (andP fa A a (aXor b 1)).2 (aXor a 1) b).2 (andP fa A a (aXor b 1)).1 (andP fa (andP fa A a (aXor b 1)).2 (aXor a 1) b).1
def choP (fa : Nat) (A : Nds) (c a b : Int) : Int × Nds :=
  orP fa (andP fa (andP fa A c a).2 (aXor c 1) b).2 (andP fa A c a).1 (andP fa (andP fa A c a).2 (aXor c 1) b).1
/-- one bit of two values: carry, sameness, the bit -/
abbrev JnS : Type := Nds × Int × Int × (Nat → Int)
def upF (f : Nat → Int) (k : Nat) (v : Int) : Nat → Int := fun i => if i = k then v else f i
def bitP (fa : Nat) (c : Int) (k : Nat) (x y : Int) (s : JnS) : JnS :=
  if c = 38 then ((andP fa s.1 x y).2, s.2.1, s.2.2.1, upF s.2.2.2 k (andP fa s.1 x y).1)
  else if c = 124 then ((orP fa s.1 x y).2, s.2.1, s.2.2.1, upF s.2.2.2 k (orP fa s.1 x y).1)
  else if c = 94 then ((xorP fa s.1 x y).2, s.2.1, s.2.2.1, upF s.2.2.2 k (xorP fa s.1 x y).1)
  else if c = 43 then
    let s1 := xorP fa s.1 x y
    let v := xorP fa s1.2 s1.1 s.2.1
    let b := andP fa v.2 x y
    let t := andP fa b.2 s1.1 s.2.1
    let r := orP fa t.2 b.1 t.1
    (r.2, r.1, s.2.2.1, upF s.2.2.2 k v.1)
  else
    let x1 := xorP fa s.1 x y
    if k = 0 then (x1.2, s.2.1, aXor 1 x1.1, upF s.2.2.2 k 0)
    else
      let r := andP fa x1.2 s.2.2.1 (aXor 1 x1.1)
      (r.2, s.2.1, r.1, upF s.2.2.2 k 0)
def jnP (fa : Nat) (c : Int) (A : Nds) (f g : Nat → Int) : Nat → JnS
  | 0 => (A, 0, 1, fun _ => 0)
  | k + 1 => bitP fa c k (f k) (g k) (jnP fa c A f g k)
/-- what joins: nodes, the bits -/
def joP (fa : Nat) (c : Int) (A : Nds) (w : Nat) (f g : Nat → Int) : Nds × (Nat → Int) := ((jnP fa c A f g w).1, if c = 257 then upF (jnP fa c A f g w).2.2.2 0 (jnP fa c A f g w).2.2.1 else (jnP fa c A f g w).2.2.2)
def cnP (fa : Nat) (A : Nds) (by' : Int) (f g : Nat → Int) : Nat → Nds × (Nat → Int)
  | 0 => (A, fun _ => 0)
  | k + 1 => ((choP fa (cnP fa A by' f g k).1 by' (f k) (g k)).2, upF (cnP fa A by' f g k).2 k (choP fa (cnP fa A by' f g k).1 by' (f k) (g k)).1)
/-- values that wait: a width, bits -/
abbrev VlS : Type := Int × (Nat → Int)
abbrev ExS : Type := Nds × List VlS
/-- names: width, bits; of instances: outputs' widths and bits -/
abbrev Env7 : Type := (Nat → Int) × (Nat → Nat → Int) × (Nat → Nat → Int) × (Nat → Nat → Nat → Int)
def sgD (o : Int) : Int := if o = 5 then 38 else if o = 6 then 124 else if o = 7 then 94 else if o = 8 then 257 else 43
def vaB (v : Int) (i : Nat) : Int := w32 (aAnd (aShr v (i : Int)) 1)
/-- one row of code -/
def exR (fa : Nat) (E : Env7) (r : Row3) (s : ExS) : ExS :=
  if r.1 = 0 then (s.1, (r.2.2, vaB r.2.1) :: s.2)
  else if r.1 = 1 then (s.1, (E.1 r.2.1.toNat, E.2.1 r.2.1.toNat) :: s.2)
  else if r.1 = 2 then (s.1, (E.2.2.1 r.2.1.toNat r.2.2.toNat, E.2.2.2 r.2.1.toNat r.2.2.toNat) :: s.2)
  else if r.1 = 3 then match s.2 with
    | v :: l => (s.1, (1, fun i => if i = 0 then v.2 r.2.1.toNat else v.2 i) :: l)
    | [] => s
  else if r.1 = 4 then match s.2 with
    | v :: l => (s.1, (v.1, fun i => aXor (v.2 i) 1) :: l)
    | [] => s
  else if r.1 = 10 then match s.2 with
    | b :: a :: c :: l => ((cnP fa s.1 (c.2 0) a.2 b.2 a.1.toNat).1, (a.1, (cnP fa s.1 (c.2 0) a.2 b.2 a.1.toNat).2) :: l)
    | _ => s
  else match s.2 with
    | b :: a :: l => ((joP fa (sgD r.1) s.1 a.1.toNat a.2 b.2).1, ((if sgD r.1 = 257 then 1 else a.1), (joP fa (sgD r.1) s.1 a.1.toNat a.2 b.2).2) :: l)
    | _ => s
def exL (fa : Nat) (E : Env7) : List Row3 → ExS → ExS
  | [], s => s
  | r :: l, s => exL fa E l (exR fa E r s)
theorem exL_app {fa : Nat} {E : Env7} : ∀ {k l : List Row3} {s : ExS}, exL fa E (k ++ l) s = exL fa E l (exL fa E k s)
  | [], _, _ => rfl
  | r :: k, l, s => exL_app (k := k)
/-- the last of the first m nodes with a remainder -/
def lsH (hf : Int → Int → Int) (z : Int) (fa : Nat) (A : Nds) (h : Int) : Nat → Int
  | 0 => z
  | m + 1 => if hf (ndA A m).1 (ndA A m).2 = h then ((fa + m : Nat) : Int) else lsH hf z fa A h m
theorem lsH_app {hf : Int → Int → Int} {z : Int} {fa : Nat} {A : Nds} {p : Int × Int} {h : Int} : ∀ {m : Nat}, m ≤ A.length → lsH hf z fa (A ++ [p]) h m = lsH hf z fa A h m
  | 0, _ => rfl
  | m + 1, g => by
    unfold lsH
    rw [ndA_app, if_pos (show m < A.length by omega), lsH_app (by omega)]
/-- where it points: a node with that remainder, none between -/
theorem lsH_at {hf : Int → Int → Int} {z : Int} {fa : Nat} {A : Nds} {h : Int} : ∀ m, (lsH hf z fa A h m = z ∧ ∀ i, i < m → hf (ndA A i).1 (ndA A i).2 ≠ h) ∨ ∃ k, k < m ∧ lsH hf z fa A h m = ((fa + k : Nat) : Int) ∧ hf (ndA A k).1 (ndA A k).2 = h ∧ ∀ i, k < i → i < m → hf (ndA A i).1 (ndA A i).2 ≠ h
  | 0 => Or.inl ⟨rfl, fun i hi => absurd hi (by omega)⟩
  | m + 1 => by
    unfold lsH
    by_cases e : hf (ndA A m).1 (ndA A m).2 = h
    · rw [if_pos e]
      exact Or.inr ⟨m, by omega, rfl, e, fun i h1 h2 => absurd h1 (by omega)⟩
    · rw [if_neg e]
      rcases lsH_at (hf := hf) (z := z) (fa := fa) (A := A) (h := h) m with ⟨a, b⟩ | ⟨k, a, b, c, d⟩
      · refine Or.inl ⟨a, fun i hi => ?_⟩
        by_cases q : i = m
        · rw [q]; exact e
        · exact b i (by omega)
      · refine Or.inr ⟨k, by omega, b, c, fun i h1 h2 => ?_⟩
        by_cases q : i = m
        · rw [q]; exact e
        · exact d i h1 (by omega)
section EVP
variable {fa : Nat} {A : Nds} {a b c : Int}
theorem andP_len : A.length ≤ (andP fa A a b).2.length ∧ (A.length ≤ 1001 → (andP fa A a b).2.length ≤ 1001) := by
  unfold andP
  dsimp only
  generalize (if a < b then a else b) = X
  generalize (if a < b then b else a) = Y
  split
  · exact ⟨Nat.le_refl _, fun h => h⟩
  · split
    · exact ⟨Nat.le_refl _, fun h => h⟩
    · split
      · exact ⟨Nat.le_refl _, fun h => h⟩
      · split
        · exact ⟨Nat.le_refl _, fun h => h⟩
        · rw [List.length_append]
          show A.length ≤ A.length + 1 ∧ _
          exact ⟨by omega, fun _ => by show A.length + 1 ≤ 1001; omega⟩
theorem andP_U (h : NdU A) : NdU (andP fa A a b).2 := by
  unfold andP
  dsimp only
  generalize (if a < b then a else b) = X
  generalize (if a < b then b else a) = Y
  split
  · exact h
  · split
    · exact h
    · split
      · exact h
      · rename_i q
        split
        · exact h
        · exact h.app q
theorem orP_len : A.length ≤ (orP fa A a b).2.length := andP_len.1
theorem xorP_len : A.length ≤ (xorP fa A a b).2.length := Nat.le_trans andP_len.1 (Nat.le_trans andP_len.1 orP_len)
theorem choP_len : A.length ≤ (choP fa A c a b).2.length := Nat.le_trans andP_len.1 (Nat.le_trans andP_len.1 orP_len)
theorem bitP_len {k : Nat} {x y : Int} {s : JnS} : s.1.length ≤ (bitP fa c k x y s).1.length := by
  unfold bitP
  dsimp only
  split
  · exact andP_len.1
  · split
    · exact orP_len
    · split
      · exact xorP_len
      · split
        · exact Nat.le_trans xorP_len (Nat.le_trans xorP_len (Nat.le_trans andP_len.1 (Nat.le_trans andP_len.1 orP_len)))
        · split
          · exact xorP_len
          · exact Nat.le_trans xorP_len andP_len.1
theorem jnP_len {f g : Nat → Int} : ∀ {k : Nat}, A.length ≤ (jnP fa c A f g k).1.length
  | 0 => Nat.le_refl _
  | k + 1 => Nat.le_trans (jnP_len (k := k)) bitP_len
theorem cnP_len {f g : Nat → Int} : ∀ {k : Nat}, A.length ≤ (cnP fa A c f g k).1.length
  | 0 => Nat.le_refl _
  | k + 1 => Nat.le_trans (cnP_len (k := k)) choP_len
theorem exR_len {E : Env7} {r : Row3} {s : ExS} : s.1.length ≤ (exR fa E r s).1.length := by
  unfold exR
  split
  · exact Nat.le_refl _
  · split
    · exact Nat.le_refl _
    · split
      · exact Nat.le_refl _
      · split
        · split <;> exact Nat.le_refl _
        · split
          · split <;> exact Nat.le_refl _
          · split
            · split
              · exact cnP_len
              · exact Nat.le_refl _
            · split
              · exact jnP_len
              · exact Nat.le_refl _
theorem exL_len {E : Env7} : ∀ {l : List Row3} {s : ExS}, s.1.length ≤ (exL fa E l s).1.length
  | [], _ => Nat.le_refl _
  | _ :: l, _ => Nat.le_trans exR_len (exL_len (l := l))
end EVP
