/-! cuts of trees: how many there can be; no program -/
def SS : List Nat → Prop
  | [] => True
  | x :: l => (∀ y ∈ l, x < y) ∧ SS l
def insN (n : Nat) : List Nat → List Nat
  | [] => [n]
  | x :: l => if n < x then n :: x :: l else if n = x then x :: l else x :: insN n l
def mkS : List Nat → List Nat
  | [] => []
  | x :: l => insN x (mkS l)
theorem insN_mem {n y : Nat} : ∀ {l : List Nat}, y ∈ insN n l ↔ y = n ∨ y ∈ l := by
  intro l
  induction l with
  | nil => exact List.mem_cons
  | cons x l ih =>
    unfold insN
    by_cases q : n < x
    · rw [if_pos q]; exact List.mem_cons
    · rw [if_neg q]
      by_cases e : n = x
      · rw [if_pos e]
        exact ⟨.inr, fun h => h.elim (fun h => by rw [h, e]; exact .head _) id⟩
      · rw [if_neg e, List.mem_cons, List.mem_cons, ih]
        exact ⟨fun h => h.elim (fun h => .inr (.inl h)) (fun h => h.elim .inl (fun h => .inr (.inr h))), fun h => h.elim (fun h => .inr (.inl h)) (fun h => h.elim .inl (fun h => .inr (.inr h)))⟩
theorem insN_ss {n : Nat} : ∀ {l : List Nat}, SS l → SS (insN n l) := by
  intro l
  induction l with
  | nil => exact fun _ => ⟨fun y hy => (nomatch hy), trivial⟩
  | cons x l ih =>
    intro h
    unfold insN
    by_cases q : n < x
    · rw [if_pos q]
      exact ⟨fun y hy => (List.mem_cons.1 hy).elim (fun e => by omega) (fun hy => by have := h.1 y hy; omega), h⟩
    · rw [if_neg q]
      by_cases e : n = x
      · rw [if_pos e]; exact h
      · rw [if_neg e]
        exact ⟨fun y hy => (insN_mem.1 hy).elim (fun e => by omega) (fun hy => h.1 y hy), ih h.2⟩
theorem mkS_mem {y : Nat} : ∀ {l : List Nat}, y ∈ mkS l ↔ y ∈ l := by
  intro l
  induction l with
  | nil => exact Iff.rfl
  | cons x l ih =>
    show y ∈ insN x (mkS l) ↔ _
    rw [insN_mem, ih, List.mem_cons]
theorem mkS_ss : ∀ {l : List Nat}, SS (mkS l) := by
  intro l
  induction l with
  | nil => trivial
  | cons x l ih => exact insN_ss ih
theorem SS_ext : ∀ (l m : List Nat), SS l → SS m → (∀ y, y ∈ l ↔ y ∈ m) → l = m := by
  intro l
  induction l with
  | nil =>
    intro m _ _ h
    cases m with
    | nil => rfl
    | cons z m => exact (nomatch (h z).2 (.head _))
  | cons x l ih =>
    intro m hl hm h
    cases m with
    | nil => exact (nomatch (h x).1 (.head _))
    | cons z m =>
      have e : x = z := by
        rcases List.mem_cons.1 ((h x).1 (.head _)) with e | e
        · exact e
        · rcases List.mem_cons.1 ((h z).2 (.head _)) with g | g
          · exact g.symm
          · have := hm.1 x e; have := hl.1 z g; omega
      subst e
      rw [ih m hl.2 hm.2 (fun y => ?_)]
      constructor
      · intro hy
        rcases List.mem_cons.1 ((h y).1 (.tail _ hy)) with g | g
        · have := hl.1 y hy; omega
        · exact g
      · intro hy
        rcases List.mem_cons.1 ((h y).2 (.tail _ hy)) with g | g
        · have := hm.1 y hy; omega
        · exact g
theorem mkS_eq {l m : List Nat} (h : ∀ y, y ∈ l ↔ y ∈ m) : mkS l = mkS m := SS_ext _ _ mkS_ss mkS_ss (fun y => by rw [mkS_mem, mkS_mem]; exact h y)
theorem mkS_id {l : List Nat} (h : SS l) : mkS l = l := SS_ext _ _ mkS_ss h (fun y => mkS_mem)
/-- lists of different things in lists -/
theorem nodup_sub {α : Type} : ∀ (M L : List α), M.Nodup → (∀ x ∈ M, x ∈ L) → M.length ≤ L.length := by
  intro M
  induction M with
  | nil => exact fun L _ _ => Nat.zero_le _
  | cons x M ih =>
    intro L hn hs
    obtain ⟨a, b, rfl⟩ := List.append_of_mem (hs x (.head _))
    have h1 := List.nodup_cons.1 hn
    have := ih (a ++ b) h1.2 (fun y hy => by
      rcases List.mem_append.1 (hs y (.tail _ hy)) with g | g
      · exact List.mem_append.2 (.inl g)
      · rcases List.mem_cons.1 g with g | g
        · subst g; exact absurd hy h1.1
        · exact List.mem_append.2 (.inr g))
    rw [List.length_append] at this ⊢
    show M.length + 1 ≤ a.length + (b.length + 1)
    omega
theorem pig {α β : Type} (Al : α → β → Prop) : ∀ (l : List α) (Cl : List β), l.Nodup → (∀ u ∈ l, ∃ g ∈ Cl, Al u g) → (∀ u ∈ l, ∀ v ∈ l, ∀ g, Al u g → Al v g → u = v) → l.length ≤ Cl.length := by
  intro l
  induction l with
  | nil => exact fun Cl _ _ _ => Nat.zero_le _
  | cons u l ih =>
    intro Cl hn he hi
    obtain ⟨g, g1, g2⟩ := he u (.head _)
    obtain ⟨a, b, rfl⟩ := List.append_of_mem g1
    have h1 := List.nodup_cons.1 hn
    have := ih (a ++ b) h1.2 (fun v hv => by
      obtain ⟨k, k1, k2⟩ := he v (.tail _ hv)
      refine ⟨k, ?_, k2⟩
      rcases List.mem_append.1 k1 with q | q
      · exact List.mem_append.2 (.inl q)
      · rcases List.mem_cons.1 q with q | q
        · subst q
          have := hi u (.head _) v (.tail _ hv) k g2 k2
          subst this; exact absurd hv h1.1
        · exact List.mem_append.2 (.inr q)) (fun x hx y hy g => hi x (.tail _ hx) y (.tail _ hy) g)
    rw [List.length_append] at this ⊢
    show l.length + 1 ≤ a.length + (b.length + 1)
    omega
theorem SS_nodup : ∀ {l : List Nat}, SS l → l.Nodup := by
  intro l
  induction l with
  | nil => exact fun _ => List.nodup_nil
  | cons x l ih => exact fun h => List.nodup_cons.2 ⟨fun g => by have := h.1 x g; omega, ih h.2⟩
theorem len4 {c : List Nat} {a b d e : Nat} (ha : a ∈ c) (hb : b ∈ c) (hd : d ∈ c) (he : e ∈ c) (h : a ≠ b ∧ a ≠ d ∧ a ≠ e ∧ b ≠ d ∧ b ≠ e ∧ d ≠ e) : 4 ≤ c.length := by
  refine nodup_sub [a, b, d, e] c ?_ (fun x hx => ?_)
  · simp only [List.nodup_cons, List.mem_cons, List.not_mem_nil, or_false, not_or, not_false_eq_true, List.nodup_nil, and_true]
    exact ⟨⟨h.1, h.2.1, h.2.2.1⟩, ⟨h.2.2.2.1, h.2.2.2.2.1⟩, h.2.2.2.2.2⟩
  · simp only [List.mem_cons, List.not_mem_nil, or_false] at hx
    rcases hx with rfl | rfl | rfl | rfl
    · exact ha
    · exact hb
    · exact hd
    · exact he
/-- functions of a node and two leaves, eight bits -/
def ev8 (g : Nat) (d x y : Bool) : Bool := g.testBit ((if d = true then 4 else 0) + (if x = true then 2 else 0) + (if y = true then 1 else 0))
def lt8 (z t : Bool) : Nat := if z = true then (if t = true then 85 else 170) else (if t = true then 51 else 204)
def stp8 (g : Nat) (s : Bool) (l : Nat) : Nat := (if s = true then g ^^^ 255 else g) &&& l
def bad8 : List Nat := [0, 255, 204, 51, 170, 85]
def ok8 (Cl : List Nat) (h : Nat) : Bool := Cl.contains h || Cl.contains (h ^^^ 255) || bad8.contains h
def cls8 : List (List Nat) := [[4, 8, 12, 17, 21, 34, 42, 55, 59, 63, 64, 68, 76, 81, 93, 115, 119, 127], [1, 2, 3, 16, 17, 19, 32, 34, 35, 48, 49, 50, 68, 69, 84, 87, 117, 119], [2, 8, 10, 17, 19, 32, 34, 42, 49, 59, 68, 76, 87, 93, 95, 117, 119, 127], [1, 4, 5, 16, 17, 21, 34, 35, 50, 55, 64, 68, 69, 80, 81, 84, 115, 119]]
def cls8x : List (List Nat) := [[12, 63], [3, 48]]
/-- a family of lists that steps don't leave -/
def fam8 (F : List (List Nat)) (Zs : List Bool) : Prop := (∀ Cl ∈ F, ∀ g ∈ Cl, ∀ s : Bool, ∀ z ∈ Zs, ∀ t : Bool, ok8 Cl (stp8 g s (lt8 z t)) = true ∧ ok8 Cl (stp8 (g ^^^ 255) s (lt8 z t)) = true) ∧ (∀ s : Bool, ∀ z ∈ Zs, ∀ t : Bool, ∃ Cl ∈ F, ok8 Cl (stp8 240 s (lt8 z t)) = true) ∧ ∀ Cl ∈ F, ∀ g ∈ Cl, g < 256
theorem fam_xy : fam8 cls8 [false, true] := ⟨by decide +kernel, by decide +kernel, by decide +kernel⟩
theorem fam_x : fam8 cls8x [false] := ⟨by decide +kernel, by decide +kernel, by decide +kernel⟩
theorem ev8_and {g h : Nat} {d x y : Bool} : ev8 (g &&& h) d x y = (ev8 g d x y && ev8 h d x y) := Nat.testBit_and _ _ _
theorem ev8_not {g : Nat} {d x y : Bool} : ev8 (g ^^^ 255) d x y = !(ev8 g d x y) := by
  unfold ev8
  rw [Nat.testBit_xor]
  have : Nat.testBit 255 ((if d = true then 4 else 0) + (if x = true then 2 else 0) + (if y = true then 1 else 0)) = true := by cases d <;> cases x <;> cases y <;> rfl
  rw [this]; cases (Nat.testBit g _) <;> rfl
theorem ev8_lit {z t d x y : Bool} : ev8 (lt8 z t) d x y = ((if z = true then y else x) ^^ t) := by cases z <;> cases t <;> cases d <;> cases x <;> cases y <;> rfl
theorem ev8_stp {g : Nat} {s z t d x y : Bool} : ev8 (stp8 g s (lt8 z t)) d x y = ((ev8 g d x y ^^ s) && ((if z = true then y else x) ^^ t)) := by
  unfold stp8
  rw [ev8_and, ev8_lit]
  cases s
  · rw [if_neg (by decide), Bool.xor_false]
  · rw [if_pos rfl, ev8_not, Bool.xor_true]
