/-! what hangs together: rows of parents -/
section UFIND
variable {S : Sto} {lab N : Nat} {f : Nat → Nat}
/-- parents lie ahead; f tells the least of a part -/
def URt (S : Sto) (lab N : Nat) (f : Nat → Nat) : Prop := ∀ x, x < N → ∃ y : Nat, gI S lab x = (y : Int) ∧ y ≤ x ∧ f y = f x ∧ (y = x ↔ f x = x) ∧ f x ≤ x
theorem URt.le (h : URt S lab N f) {x : Nat} (hx : x < N) : f x ≤ x := by obtain ⟨y, _, _, _, _, h5⟩ := h x hx; exact h5
theorem URt.idem (h : URt S lab N f) : ∀ x, x < N → f (f x) = f x := by
  intro x
  induction x using Nat.strongRecOn with
  | ind x ih =>
    intro hx
    obtain ⟨y, _, h2, h3, h4, _⟩ := h x hx
    by_cases q : y = x
    · rw [h4.1 q, h4.1 q]
    · have := ih y (by omega) (by omega)
      rw [h3] at this; exact this
theorem URt.cg {z : Sto} (h : URt S lab N f) (e : ∀ i, gI z lab i = gI S lab i) : URt z lab N f := fun x hx => by rw [e]; exact h x hx
/-- a parent of x is put further ahead -/
theorem URt.up (h : URt S lab N f) {x y : Nat} (hx : x < N) (hN : N ≤ 100000) (h1 : y ≤ x) (h2 : f y = f x) (h3 : y = x ↔ f x = x) : URt (sI S lab x (y : Int)) lab N f := by
  intro z hz
  by_cases q : z = x
  · subst q
    exact ⟨y, by rw [gI_set, w32_id (by omega)], h1, h2, h3, h.le hz⟩
  · rw [hI_sI_i q]; exact h z hz
/-- two parts become one -/
def jnF (f : Nat → Nat) (M m x : Nat) : Nat := if f x = M then m else f x
theorem URt.jn (h : URt S lab N f) {M m : Nat} (hN : N ≤ 100000) (hM : M < N) (hm : m ≤ M) (rM : f M = M) (rm : f m = m) : URt (sI S lab M (m : Int)) lab N (jnF f M m) := by
  intro x hx
  have le := h.le hx
  have jx : jnF f M m x ≤ x := by
    unfold jnF
    by_cases q : f x = M
    · rw [if_pos q]; omega
    · rw [if_neg q]; exact le
  by_cases q : x = M
  · subst q
    have e1 : jnF f x m x = m := if_pos rM
    have e2 : jnF f x m m = m := by
      unfold jnF
      by_cases l : f m = x
      · rw [if_pos l]
      · rw [if_neg l]; exact rm
    exact ⟨m, by rw [gI_set, w32_id (by omega)], hm, by rw [e1, e2], by rw [e1], jx⟩
  · obtain ⟨y, y1, y2, y3, y4, y5⟩ := h x hx
    refine ⟨y, by rw [hI_sI_i q]; exact y1, y2, by unfold jnF; rw [y3], ?_, jx⟩
    rw [y4]
    unfold jnF
    by_cases l : f x = M
    · rw [if_pos l]
      constructor
      · intro g; omega
      · intro g
        subst g
        exact absurd (by rw [← l]; exact rm.symm) q
    · rw [if_neg l]
/-- what is joined, and nothing else -/
def UFs (S : Sto) (lab N : Nat) (E : Nat → Nat → Prop) (f : Nat → Nat) : Prop := URt S lab N f ∧ (∀ a b, E a b → a < N ∧ b < N ∧ f a = f b) ∧ ∀ g : Nat → Nat, (∀ a b, E a b → g a = g b) → ∀ x, x < N → g (f x) = g x
theorem UFs.eq {S S' : Sto} {lab lab' : Nat} {E E' : Nat → Nat → Prop} {f f' : Nat → Nat} (h : UFs S lab N E f) (g : UFs S' lab' N E' f') (h1 : ∀ a b, E a b → E' a b ∨ E' b a) (h2 : ∀ a b, E' a b → E a b ∨ E b a) : ∀ x, x < N → f x = f' x := by
  intro x hx
  have a1 : f' (f x) = f' x := h.2.2 f' (fun a b e => by rcases h1 a b e with e | e; exact (g.2.1 _ _ e).2.2; exact (g.2.1 _ _ e).2.2.symm) x hx
  have a2 : f (f' x) = f x := g.2.2 f (fun a b e => by rcases h2 a b e with e | e; exact (h.2.1 _ _ e).2.2; exact (h.2.1 _ _ e).2.2.symm) x hx
  have l1 := h.1.le hx
  have l2 := g.1.le hx
  have l3 := g.1.le (x := f x) (by omega)
  have l4 := h.1.le (x := f' x) (by omega)
  omega
theorem UFs.cg {z : Sto} {E E' : Nat → Nat → Prop} (h : UFs S lab N E f) (e : ∀ i, gI z lab i = gI S lab i) (h1 : ∀ a b, E a b ↔ E' a b) : UFs z lab N E' f :=
  ⟨h.1.cg e, fun a b q => h.2.1 a b ((h1 a b).2 q), fun g hg => h.2.2 g (fun a b q => hg a b ((h1 a b).1 q))⟩
theorem UFs.add {E : Nat → Nat → Prop} {a b : Nat} (h : UFs S lab N E f) (hN : N ≤ 100000) (ha : a < N) (hb : b < N) {z : Sto} (hz : ∀ i, gI z lab i = gI (sI S lab (max (f a) (f b)) ((min (f a) (f b) : Nat) : Int)) lab i) :
    UFs z lab N (fun x y => E x y ∨ (x = a ∧ y = b)) (jnF f (max (f a) (f b)) (min (f a) (f b))) := by
  have la := h.1.le ha
  have lb := h.1.le hb
  have ia := h.1.idem a ha
  have ib := h.1.idem b hb
  have ab : (f a = max (f a) (f b) ∧ f b = min (f a) (f b)) ∨ (f b = max (f a) (f b) ∧ f a = min (f a) (f b)) := by
    rcases Nat.le_total (f a) (f b) with l | l
    · rw [Nat.max_eq_right l, Nat.min_eq_left l]; exact .inr ⟨rfl, rfl⟩
    · rw [Nat.max_eq_left l, Nat.min_eq_right l]; exact .inl ⟨rfl, rfl⟩
  have hmn : min (f a) (f b) ≤ max (f a) (f b) := Nat.le_trans (Nat.min_le_left _ _) (Nat.le_max_left _ _)
  generalize max (f a) (f b) = M at *
  generalize min (f a) (f b) = m at *
  have rM : f M = M := by rcases ab with ⟨e, _⟩ | ⟨e, _⟩ <;> rw [← e] <;> assumption
  have rm : f m = m := by rcases ab with ⟨_, e⟩ | ⟨_, e⟩ <;> rw [← e] <;> assumption
  have jM : ∀ x, f x = M → jnF f M m x = m := fun x e => if_pos e
  have jm : ∀ x, f x = m → jnF f M m x = m := fun x e => by
    unfold jnF
    by_cases l : f x = M
    · rw [if_pos l]
    · rw [if_neg l]; exact e
  refine ⟨(h.1.jn hN (by omega) hmn rM rm).cg hz, fun x y q => ?_, fun g hg x hx => ?_⟩
  · rcases q with q | ⟨rfl, rfl⟩
    · have := h.2.1 x y q
      exact ⟨this.1, this.2.1, by unfold jnF; rw [this.2.2]⟩
    · refine ⟨ha, hb, ?_⟩
      rcases ab with ⟨e1, e2⟩ | ⟨e1, e2⟩
      · rw [jM _ e1, jm _ e2]
      · rw [jm _ e2, jM _ e1]
  · have g0 := h.2.2 g (fun x y q => hg x y (.inl q))
    have gab := hg a b (.inr ⟨rfl, rfl⟩)
    have ga := g0 a ha
    have gb := g0 b hb
    have gmM : g m = g M := by
      rcases ab with ⟨e1, e2⟩ | ⟨e1, e2⟩
      · rw [← e1, ← e2, ga, gb, gab]
      · rw [← e1, ← e2, ga, gb, gab]
    unfold jnF
    by_cases l : f x = M
    · rw [if_pos l, gmM, ← l]; exact g0 x hx
    · rw [if_neg l]; exact g0 x hx
theorem UFs.keep {E : Nat → Nat → Prop} {z : Sto} (h : UFs S lab N E f) (r : URt z lab N f) : UFs z lab N E f := ⟨r, h.2⟩
/-- the class finds a part -/
theorem k_find (h : URt S 241 N f) (hN : N ≤ 2640) {a : Nat} (ha : a < N) : WP (mX16_find S (a : Int)) (fun z => z.1 = (f a : Int) ∧ URt z.2 241 N f ∧ Ch 241 241 S z.2) := by
  unfold mX16_find
  refine WP_call (R := fun z => z.1 = (f a : Int) ∧ URt z.2 241 N f ∧ Ch 241 241 S z.2) ?_ (fun z hz => WP_some.2 hz)
  refine WP_lpF (fun z => ∃ p : Nat, z.1 = (p : Int) ∧ p < N ∧ f p = f a ∧ URt z.2 241 N f ∧ Ch 241 241 S z.2) (fun z => z.1.toNat) ⟨a, rfl, ha, rfl, h, Ch.refl⟩ (by show (a : Int).toNat < cFU; unfold cFU; omega) (fun z hI => ?_)
  obtain ⟨z1, z2⟩ := z
  obtain ⟨p, b1, b2, b3, b4, b5⟩ := hI
  dsimp only at b1 b4 b5
  subst b1
  obtain ⟨y, y1, y2, y3, y4, y5⟩ := b4 p b2
  unfold mX16_find_L2
  dsimp only
  rw [rdI_e (by omega), Int.toNat_natCast, y1, w32_id (by omega), w32_id (by omega)]
  by_cases q : y = p
  · rw [if_neg (fun g => g (by omega))]
    exact WP_some.2 ⟨by show (p : Int) = _; rw [← b3, y4.1 q], b4, b5⟩
  · obtain ⟨u, u1, u2, u3, u4, u5⟩ := b4 y (by omega)
    rw [if_pos (by omega), rdI_e (by omega), Int.toNat_natCast, y1, rdI_e (by omega), Int.toNat_natCast, u1, wrI_e (by omega), Int.toNat_natCast, rdI_e (by omega), Int.toNat_natCast, gI_set, w32_id (by omega)]
    refine WP_some.2 ⟨⟨u, rfl, by omega, by rw [u3, y3, b3], b4.up b2 (by omega) (by omega) (by rw [u3, y3]) ⟨fun g => by omega, fun g => absurd (y4.2 g) q⟩, b5.sI (by omega)⟩, ?_⟩
    show (u : Int).toNat < (p : Int).toNat
    omega
theorem k_join16 {E : Nat → Nat → Prop} (h : UFs S 241 N E f) (hN : N ≤ 2640) {a b : Nat} (ha : a < N) (hb : b < N) : WP (mX16_join S (a : Int) (b : Int)) (fun z => (∃ f', UFs z 241 N (fun x y => E x y ∨ (x = a ∧ y = b)) f') ∧ Ch 241 241 S z) := by
  unfold mX16_join
  refine WP_call (k_find h.1 hN ha) (fun x1 h1 => ?_)
  obtain ⟨a1, a2, a3⟩ := h1
  refine WP_call (k_find a2 hN hb) (fun x2 h2 => ?_)
  obtain ⟨b1, b2, b3⟩ := h2
  have la := h.1.le ha
  have lb := h.1.le hb
  rw [a1, b1, max_e (by omega) (by omega), bX_some, min_e (by omega) (by omega), bX_some]
  have eM : max (f a : Int) (f b : Int) = ((max (f a) (f b) : Nat) : Int) := by omega
  have em : min (f a : Int) (f b : Int) = ((min (f a) (f b) : Nat) : Int) := by omega
  have lM : max (f a) (f b) < N := by omega
  rw [eM, em, wrI_e (by omega), Int.toNat_natCast]
  exact WP_some.2 ⟨⟨_, (h.keep b2).add (by omega) ha hb (fun i => rfl)⟩, (a3.tr b3 (by omega) (by omega)).sI (by omega)⟩
/-- the reference finds a part -/
theorem m_partOf (h : URt S 2149 N f) (hN : N ≤ 2700) {a : Nat} (ha : a < N) : WP (mX23_partOf S (a : Int)) (fun z => z.1 = (f a : Int) ∧ URt z.2 2149 N f ∧ Ch 2149 2149 S z.2) := by
  have key : lpF (mX23_partOf_L2 S) (a : Int) = some (f a : Int) := by
    refine WP.of ?_
    refine WP_lpF (fun z => ∃ p : Nat, z = (p : Int) ∧ p < N ∧ f p = f a) (fun z => z.toNat) ⟨a, rfl, ha, rfl⟩ (by show (a : Int).toNat < cFU; unfold cFU; omega) (fun z hI => ?_)
    obtain ⟨p, b1, b2, b3⟩ := hI
    subst b1
    obtain ⟨y, y1, y2, y3, y4, y5⟩ := h p b2
    unfold mX23_partOf_L2
    rw [rdI_e (by omega), Int.toNat_natCast, y1, w32_id (by omega), w32_id (by omega)]
    by_cases q : y = p
    · rw [if_neg (fun g => g (by omega))]
      exact WP_some.2 (by show (p : Int) = _; rw [← b3, y4.1 q])
    · rw [if_pos (by omega), rdI_e (by omega), Int.toNat_natCast, y1]
      exact WP_some.2 ⟨⟨y, rfl, by omega, by rw [y3, b3]⟩, by show (y : Int).toNat < (p : Int).toNat; omega⟩
  have la := h.le ha
  unfold mX23_partOf
  rw [key, bX_some, wrI_e (by omega), Int.toNat_natCast]
  exact WP_some.2 ⟨rfl, h.up ha (by omega) la (h.idem a ha) Iff.rfl, Ch.refl.sI (by omega)⟩
theorem m_unite {E : Nat → Nat → Prop} (h : UFs S 2149 N E f) (hN : N ≤ 2700) {a b : Nat} (ha : a < N) (hb : b < N) : WP (mX23_unite S (a : Int) (b : Int)) (fun z => (∃ f', UFs z 2149 N (fun x y => E x y ∨ (x = a ∧ y = b)) f') ∧ Ch 2149 2149 S z) := by
  unfold mX23_unite
  refine WP_call (m_partOf h.1 hN ha) (fun x1 h1 => ?_)
  obtain ⟨a1, a2, a3⟩ := h1
  refine WP_call (m_partOf a2 hN hb) (fun x2 h2 => ?_)
  obtain ⟨b1, b2, b3⟩ := h2
  have la := h.1.le ha
  have lb := h.1.le hb
  have eM : (if w32 (f b : Int) < w32 (f a : Int) then (f a : Int) else (f b : Int)) = ((max (f a) (f b) : Nat) : Int) := by
    rw [w32_id (by omega), w32_id (by omega)]; split <;> omega
  have em : (if w32 (f b : Int) < w32 (f a : Int) then (f b : Int) else (f a : Int)) = ((min (f a) (f b) : Nat) : Int) := by
    rw [w32_id (by omega), w32_id (by omega)]; split <;> omega
  have lM : max (f a) (f b) < N := by omega
  rw [a1, b1, eM, em, wrI_e (by omega), Int.toNat_natCast]
  exact WP_some.2 ⟨⟨_, (h.keep b2).add (by omega) ha hb (fun i => rfl)⟩, (a3.tr b3 (by omega) (by omega)).sI (by omega)⟩
end UFIND
