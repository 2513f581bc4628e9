/-! the class: points are owned, nets are robbed -/
def ChO (k : Nat) (S z : Sto) : Prop := (∀ a i, a ≠ 233 → a ≠ 344 + 22 * k + 12 → a ≠ 344 + 22 * k + 13 → a ≠ 344 + 22 * k + 14 → gI z a i = gI S a i) ∧ (∀ a i, gL z a i = gL S a i) ∧ (∀ a i, gR z a i = gR S a i) ∧ nC z = nC S ∧ nS z = nS S
section KBACK
variable {S z : Sto} {k : Nat} {C R : Chp} {n : Nat}
theorem ChO.refl : ChO k S S := ⟨fun _ _ _ _ _ _ => rfl, fun _ _ => rfl, fun _ _ => rfl, rfl, rfl⟩
theorem ChO.tr {y : Sto} (h : ChO k S z) (g : ChO k z y) : ChO k S y := ⟨fun a i q1 q2 q3 q4 => (g.1 a i q1 q2 q3 q4).trans (h.1 a i q1 q2 q3 q4), fun a i => (g.2.1 a i).trans (h.2.1 a i), fun a i => (g.2.2.1 a i).trans (h.2.2.1 a i), g.2.2.2.1.trans h.2.2.2.1, g.2.2.2.2.trans h.2.2.2.2⟩
theorem ChO.sI (h : ChO k S z) {a i : Nat} {v : Int} (q : a = 233 ∨ a = 344 + 22 * k + 12 ∨ a = 344 + 22 * k + 13 ∨ a = 344 + 22 * k + 14) : ChO k S (sI z a i v) := ⟨fun b j q1 q2 q3 q4 => by
  rw [hI_sI_a (by omega)]; exact h.1 b j q1 q2 q3 q4, h.2.1, h.2.2.1, h.2.2.2.1, h.2.2.2.2⟩
theorem KRt.chO (h : KRt S k C) (c : ChO k S z) : KRt z k C :=
  ⟨⟨(c.2.2.1 _ _).trans h.1.1, (c.1 _ _ (by omega) (by omega) (by omega) (by omega)).trans h.1.2.1, (c.1 _ _ (by omega) (by omega) (by omega) (by omega)).trans h.1.2.2.1, (c.1 _ _ (by omega) (by omega) (by omega) (by omega)).trans h.1.2.2.2.1, (c.1 _ _ (by omega) (by omega) (by omega) (by omega)).trans h.1.2.2.2.2⟩, fun p hp => (c.1 _ _ (by omega) (by omega) (by omega) (by omega)).trans (h.2 p hp)⟩
theorem KOw.eq {R' : Chp} (h : KOw S k C R) (e : rEq R R') : KOw S k C R' := ⟨fun p hp => by
  rw [← e 20 p (by omega), ← e 21 p (by omega), ← e 31 p (by omega), ← e 32 p (by omega)]; exact h.1 p hp, fun n hn => by rw [← e 22 n (by omega)]; exact h.2 n hn⟩
theorem RRg.eq {R' : Chp} (h : RRg C R) (e : rEq R R') : RRg C R' := ⟨fun p hp => by
  rw [← e 20 p (by omega), ← e 21 p (by omega), ← e 31 p (by omega), ← e 32 p (by omega)]; exact h.1 p hp, fun n hn => by rw [← e 22 n (by omega)]; exact h.2 n hn⟩
theorem RRg.fr (h : RRg C R) (y : Int) : RRg C (rFr R y) := by
  refine ⟨fun p hp => ?_, fun m hm => ?_⟩
  · have := h.1 p hp
    show -1 ≤ (if R 20 p = y then (-1 : Int) else R 20 p) ∧ (if R 20 p = y then (-1 : Int) else R 20 p) < _ ∧ ((if R 20 p = y then (0 : Int) else R 21 p) = 0 ∨ (if R 20 p = y then (0 : Int) else R 21 p) = 1) ∧ ((if R 20 p = y then (0 : Int) else R 31 p) = 0 ∨ (if R 20 p = y then (0 : Int) else R 31 p) = 1) ∧ ((if R 20 p = y then (0 : Int) else R 32 p) = 0 ∨ (if R 20 p = y then (0 : Int) else R 32 p) = 1)
    split
    · omega
    · exact this
  · have := h.2 m hm
    show (if (m : Int) = y then (1 : Int) else R 22 m) = 0 ∨ (if (m : Int) = y then (1 : Int) else R 22 m) = 1
    split
    · exact .inr rfl
    · exact this
theorem RRg.rb (h : RRg C R) (p : Nat) : RRg C (rRb R n p) := by
  unfold rRb
  split
  · exact h
  · exact h.fr _
theorem RRg.q (h : RRg C R) (hn : n < kN C) {f : Nat → Nat} {a b c : Nat} : RRg C (rQ C R n f a b c) := by
  have bit : ∀ (q m : Prop) (x : Int), (x = 0 ∨ x = 1) → (cI q 1 (cI m 0 x) = 0 ∨ cI q 1 (cI m 0 x) = 1) := fun q m x hx => by
    by_cases q' : q
    · rw [cI_t q']; exact .inr rfl
    · rw [cI_f q']
      by_cases m' : m
      · rw [cI_t m']; exact .inl rfl
      · rw [cI_f m']; exact hx
  refine ⟨fun p hp => ?_, fun m hm => ?_⟩
  · obtain ⟨h1, h2, h3, h4, h5⟩ := h.1 p hp
    refine ⟨?_, ?_, bit _ _ _ h3, bit _ _ _ h4, bit _ _ _ h5⟩
    · rcases rQ_own (C := C) (R := R) (n := n) (a := a) (b := b) (c := c) (f := f) p with g | g | g
      · rw [g.2]; omega
      · rw [g.2.2]; omega
      · rw [g.2.2]; exact h1
    · rcases rQ_own (C := C) (R := R) (n := n) (a := a) (b := b) (c := c) (f := f) p with g | g | g
      · rw [g.2]; omega
      · rw [g.2.2]; omega
      · rw [g.2.2]; exact h2
  · show cI _ 1 (R 22 m) = 0 ∨ cI _ 1 (R 22 m) = 1
    by_cases q : mBb R n f b (m : Int)
    · rw [cI_t q]; exact .inr rfl
    · rw [cI_f q]; exact h.2 m hm
theorem k_free (h : KRt S k C) (o : KOw S k C R) (rr : RRg C R) (hk : k < 4) (g : GSz C) {y : Nat} (hy : y < kN C) : WP (mX15_free S (y : Int)) (fun z => KOw z k C (rFr R (y : Int)) ∧ ChO k S z ∧ ∀ x, gI z 233 x = gI S 233 x) := by
  obtain ⟨g1, g2, g3, g4, g5, g6, g7, g8⟩ := g
  unfold mX15_free
  rw [h.1.1, gk_chip hk, wrI_e (by omega), Int.toNat_natCast]
  refine WP_call (R := fun z => KOw z k C (rFr R (y : Int)) ∧ ChO k S z ∧ ∀ x, gI z 233 x = gI S 233 x) ?_ (fun z hz => WP_some.2 hz)
  have L12 : ∀ (z : Sto) (i : Nat), (∀ p, p < 2 * kLy C → gI z (344 + 22 * k + 12) p = if p < i ∧ R 20 p = (y : Int) then -1 else R 20 p) → ∀ p, p < 2 * kLy C → i = 2 * kLy C → gI z (344 + 22 * k + 12) p = rFr R (y : Int) 20 p := fun z i hz p hp hi => by
    rw [hz p hp]
    show _ = if R 20 p = (y : Int) then -1 else R 20 p
    by_cases q : R 20 p = (y : Int)
    · rw [if_pos ⟨by omega, q⟩, if_pos q]
    · rw [if_neg (fun g => q g.2), if_neg q]
  refine WP_cnt (2 * kLy C) (fun i z => z.1 = (i : Int) ∧ ChO k S z.2 ∧ (∀ x, gI z.2 233 x = gI S 233 x) ∧ (∀ p, p < 2 * kLy C → gI z.2 (344 + 22 * k + 12) p = (if p < i ∧ R 20 p = (y : Int) then -1 else R 20 p) ∧ gI z.2 (344 + 22 * k + 13) p = (if p < i ∧ R 20 p = (y : Int) then 0 else R 21 p + 2 * R 31 p + 4 * R 32 p)) ∧ ∀ x, x < kN C → gI z.2 (344 + 22 * k + 14) x = if (x : Int) = (y : Int) then 1 else R 22 x) (by unfold cFU; omega) ⟨rfl, ChO.refl.sI (by omega), fun x => hI_sI_a (by omega), fun p hp => ?_, fun x hx => ?_⟩ (fun i z hi hI => ?_) (fun z hI => ?_)
  · dsimp only
    rw [hI_sI_a (by omega), hI_sI_a (by omega), if_neg (by omega), if_neg (by omega)]; exact o.1 p hp
  · dsimp only
    by_cases q : x = y
    · rw [q, gI_set, if_pos rfl]; rfl
    · rw [hI_sI_i q, if_neg (by omega)]; exact o.2 x hx
  · obtain ⟨z1, z2⟩ := z
    obtain ⟨b1, b2, b3, b4, b5⟩ := hI
    dsimp only at b1 b2 b3 b4 b5
    subst b1
    have hz := h.chO b2
    have rg := rr.1 i hi
    have oi := (b4 i hi).1
    rw [if_neg (by omega)] at oi
    unfold mX15_free_L12
    dsimp only
    rw [hz.1.2.2.2.1, w32_id (by omega), w32_id (by omega), if_pos (by omega), hz.1.1, gk_chip hk, rdI_e (by omega), Int.toNat_natCast, oi, w32_id (by omega), w32_id (by omega)]
    by_cases q : R 20 i = (y : Int)
    · have hz2 : gR (sI z2 (344 + 22 * k + 12) i (-1)) 229 1 = 344 + 22 * k := hz.1.1
      rw [if_neg (fun g => g q), gk_chip hk, wrI_e (by omega), Int.toNat_natCast, hz2, gk_chip hk, wrI_e (by omega), Int.toNat_natCast, bX_some]
      refine WP_some.2 ⟨by show (i : Int) + 1 = _; omega, (b2.sI (by omega)).sI (by omega), fun x => by dsimp only; rw [hI_sI_a (by omega), hI_sI_a (by omega)]; exact b3 x, fun p hp => ?_, fun x hx => by dsimp only; rw [hI_sI_a (by omega), hI_sI_a (by omega)]; exact b5 x hx⟩
      dsimp only
      rw [hI_sI_a (by omega)]
      by_cases e : p = i
      · rw [e, gI_set, gI_set, if_pos ⟨by omega, q⟩, if_pos ⟨by omega, q⟩]; exact ⟨rfl, rfl⟩
      · rw [hI_sI_i e, hI_sI_i e, hI_sI_a (by omega), (b4 p hp).1, (b4 p hp).2]
        by_cases g : p < i ∧ R 20 p = (y : Int)
        · rw [if_pos g, if_pos g, if_pos ⟨by omega, g.2⟩, if_pos ⟨by omega, g.2⟩]; exact ⟨rfl, rfl⟩
        · rw [if_neg g, if_neg g, if_neg (fun x => g ⟨by omega, x.2⟩), if_neg (fun x => g ⟨by omega, x.2⟩)]; exact ⟨rfl, rfl⟩
    · rw [if_pos q, bX_some]
      refine WP_some.2 ⟨by show (i : Int) + 1 = _; omega, b2, b3, fun p hp => ?_, b5⟩
      dsimp only
      rw [(b4 p hp).1, (b4 p hp).2]
      by_cases g : p < i ∧ R 20 p = (y : Int)
      · rw [if_pos g, if_pos g, if_pos ⟨by omega, g.2⟩, if_pos ⟨by omega, g.2⟩]; exact ⟨rfl, rfl⟩
      · have ng : ¬ (p < i + 1 ∧ R 20 p = (y : Int)) := fun x => g ⟨by
          by_cases e : p = i
          · rw [e] at x; exact absurd x.2 q
          · omega, x.2⟩
        rw [if_neg g, if_neg g, if_neg ng, if_neg ng]; exact ⟨rfl, rfl⟩
  · obtain ⟨z1, z2⟩ := z
    obtain ⟨b1, b2, b3, b4, b5⟩ := hI
    dsimp only at b1 b2 b3 b4 b5
    subst b1
    have hz := h.chO b2
    unfold mX15_free_L12
    dsimp only
    rw [hz.1.2.2.2.1, w32_id (by omega), if_neg (by omega)]
    refine WP_some.2 ⟨⟨fun p hp => ⟨L12 z2 _ (fun p hp => (b4 p hp).1) p hp rfl, ?_⟩, fun x hx => b5 x hx⟩, b2, b3⟩
    rw [(b4 p hp).2]
    show _ = (if R 20 p = (y : Int) then (0 : Int) else R 21 p) + 2 * (if R 20 p = (y : Int) then (0 : Int) else R 31 p) + 4 * (if R 20 p = (y : Int) then (0 : Int) else R 32 p)
    by_cases q : R 20 p = (y : Int)
    · rw [if_pos ⟨hp, q⟩, if_pos q, if_pos q, if_pos q]; rfl
    · rw [if_neg (fun g => q g.2), if_neg q, if_neg q, if_neg q]
theorem k_rob (h : KRt S k C) (o : KOw S k C R) (rr : RRg C R) (hk : k < 4) (g : GSz C) {p : Nat} (hp : p < 2 * kLy C) (hn : n < kN C) : WP (mX15_rob S (p : Int) (n : Int)) (fun z => KOw z k C (rRb R n p) ∧ ChO k S z ∧ ∀ x, gI z 233 x = gI S 233 x) := by
  have g5 := g.2.2.2.2.1
  have g7 := g.2.2.2.2.2.2.1
  have rg := rr.1 p hp
  unfold mX15_rob rRb
  rw [h.1.1, gk_chip hk, rdI_e (by omega), Int.toNat_natCast, (o.1 p hp).1, w32_id (by omega), w32_id (by omega)]
  by_cases q : R 20 p = -1
  · rw [if_neg (fun g => g q), bX_some, if_neg (by decide), bX_some, if_pos (.inl q)]
    exact WP_some.2 ⟨o, ChO.refl, fun _ => rfl⟩
  · rw [if_pos q]
    by_cases q2 : R 20 p = (n : Int)
    · rw [if_neg (fun g => g q2), bX_some, if_neg (by decide), bX_some, if_pos (.inr q2)]
      exact WP_some.2 ⟨o, ChO.refl, fun _ => rfl⟩
    · obtain ⟨y, hy⟩ : ∃ y : Nat, R 20 p = (y : Int) := ⟨(R 20 p).toNat, by omega⟩
      rw [if_pos q2, bX_some, if_pos rfl, if_neg (fun g => g.elim q q2), hy]
      exact WP_call (WP_call (k_free h o rr hk g (by omega)) (fun z hz => WP_some.2 hz)) (fun z hz => WP_some.2 hz)
theorem k_own (h : KRt S k C) (o : KOw S k C R) (rr : RRg C R) (hk : k < 4) (g : GSz C) {p : Nat} (hp : p < 2 * kLy C) (hn : n < kN C) : WP (mX15_own S (p : Int) (n : Int)) (fun z => KOw z k C (rSet (rRb R n p) p n) ∧ ChO k S z ∧ ∀ x, gI z 233 x = if x = p then 1 else gI S 233 x) := by
  have g5 := g.2.2.2.2.1
  have g7 := g.2.2.2.2.2.2.1
  unfold mX15_own
  refine WP_call (k_rob h o rr hk g hp hn) (fun x1 h1 => ?_)
  obtain ⟨a1, a2, a3⟩ := h1
  rw [(h.chO a2).1.1, gk_chip hk, wrI_e (by omega), Int.toNat_natCast, wrI_e (by omega), Int.toNat_natCast, w16_id (by omega)]
  refine WP_some.2 ⟨⟨fun q hq => ?_, fun m hm => ?_⟩, (a2.sI (by omega)).sI (by omega), fun x => ?_⟩
  · have e21 : rSet (rRb R n p) p n 21 q = rRb R n p 21 q := if_neg (by omega)
    have e31 : rSet (rRb R n p) p n 31 q = rRb R n p 31 q := if_neg (by omega)
    have e32 : rSet (rRb R n p) p n 32 q = rRb R n p 32 q := if_neg (by omega)
    have l12 : gI (sI (sI x1 (344 + 22 * k + 12) p (n : Int)) 233 p 1) (344 + 22 * k + 12) q = gI (sI x1 (344 + 22 * k + 12) p (n : Int)) (344 + 22 * k + 12) q := hI_sI_a (by omega)
    have l13 : gI (sI (sI x1 (344 + 22 * k + 12) p (n : Int)) 233 p 1) (344 + 22 * k + 13) q = gI x1 (344 + 22 * k + 13) q := (hI_sI_a (by omega)).trans (hI_sI_a (by omega))
    rw [e21, e31, e32, l12, l13]
    refine ⟨?_, (a1.1 q hq).2⟩
    by_cases e : q = p
    · rw [e, gI_set, w32_id (by omega)]
      exact (if_pos ⟨rfl, rfl⟩ : rSet (rRb R n p) p n 20 p = (n : Int)).symm
    · rw [hI_sI_i e, (a1.1 q hq).1]
      exact (if_neg (fun g => e g.2) : rSet (rRb R n p) p n 20 q = rRb R n p 20 q).symm
  · have e22 : rSet (rRb R n p) p n 22 m = rRb R n p 22 m := if_neg (by omega)
    rw [e22, hI_sI_a (by omega), hI_sI_a (by omega)]; exact a1.2 m hm
  · by_cases e : x = p
    · rw [e, gI_set, if_pos rfl]; rfl
    · rw [hI_sI_i e, hI_sI_a (by omega), if_neg e]; exact a3 x
theorem or3 : ∀ a b c : Fin 2, w8 (aOr ((a.val : Int) + 2 * (b.val : Int) + 4 * (c.val : Int)) 1) = 1 + 2 * (b.val : Int) + 4 * (c.val : Int) ∧ w8 (aOr ((a.val : Int) + 2 * (b.val : Int) + 4 * (c.val : Int)) 2) = (a.val : Int) + 2 * 1 + 4 * (c.val : Int) ∧ w8 (aOr ((a.val : Int) + 2 * (b.val : Int) + 4 * (c.val : Int)) 4) = (a.val : Int) + 2 * (b.val : Int) + 4 * 1 := by decide
theorem or3' {a b c : Int} (ha : a = 0 ∨ a = 1) (hb : b = 0 ∨ b = 1) (hc : c = 0 ∨ c = 1) : w8 (aOr (a + 2 * b + 4 * c) 1) = 1 + 2 * b + 4 * c ∧ w8 (aOr (a + 2 * b + 4 * c) 2) = a + 2 * 1 + 4 * c ∧ w8 (aOr (a + 2 * b + 4 * c) 4) = a + 2 * b + 4 * 1 := by
  obtain ⟨a', rfl⟩ : ∃ a' : Fin 2, a = (a'.val : Int) := by rcases ha with rfl | rfl; exact ⟨0, rfl⟩; exact ⟨1, rfl⟩
  obtain ⟨b', rfl⟩ : ∃ a' : Fin 2, b = (a'.val : Int) := by rcases hb with rfl | rfl; exact ⟨0, rfl⟩; exact ⟨1, rfl⟩
  obtain ⟨c', rfl⟩ : ∃ a' : Fin 2, c = (a'.val : Int) := by rcases hc with rfl | rfl; exact ⟨0, rfl⟩; exact ⟨1, rfl⟩
  exact or3 a' b' c'
theorem abs_e {x : Int} (h : -2147483648 < x ∧ x < 2147483648) : mJ9_abs x = some (if x < 0 then -x else x) := by
  unfold mJ9_abs
  rw [w32_id (by omega)]
theorem k_join (h : KRt S k C) (o : KOw S k C R) (rr : RRg C R) (hk : k < 4) (g : GSz C) {p q j : Nat} (hp : p < 2 * kLy C) (hj : j < 5) (hq : nxF C p j = (q : Int)) : WP (mX15_join S (p : Int) (q : Int)) (fun z => KOw z k C (rJn C R p q) ∧ ChO k S z ∧ ∀ x, gI z 233 x = gI S 233 x) := by
  have g5 := g.2.2.2.2.1
  have q2 : q < 2 * kLy C := (nxF_rng hp hj).elim (fun g => by omega) (fun ⟨y, y1, y2, _⟩ => by omega)
  obtain ⟨m, hm⟩ : ∃ m, m = min p q := ⟨_, rfl⟩
  have mP : m < 2 * kLy C := by omega
  obtain ⟨r1, r2, r3, r4, r5⟩ := rr.1 m mP
  have oo := or3' r3 r4 r5
  have ab : (if (p : Int) - (q : Int) < 0 then -((p : Int) - (q : Int)) else (p : Int) - (q : Int)) = ((max p q - min p q : Nat) : Int) := by split <;> omega
  obtain ⟨D, hD⟩ : ∃ D, D = max p q - min p q := ⟨_, rfl⟩
  have sk : stK C p q = if D = kLy C then 4 else if D = 1 then 1 else 2 := by rw [hD]; rfl
  have sc := stK_cases hp hj hq
  have em : min (p : Int) (q : Int) = (m : Int) := by omega
  have nLy : kLy C ≠ 1 := by have := g.2.2.2.2.2.1; have := g.1; omega
  unfold mX15_join
  rw [min_e (by omega) (by omega), bX_some, em, h.1.1, gk_chip hk, rdI_e (by omega), Int.toNat_natCast, (o.1 m mP).2, abs_e (by omega), bX_some, ab, ← hD, h.1.2.2.1, w32_id (by omega), w32_id (by omega)]
  have kd : (if (D : Int) = (kLy C : Int) then some (4 : Int) else bX (some (D : Int)) fun x5 => bX (if w32 x5 = 1 then if w32 (p : Int) < (kLy C : Int) then some true else some false else some false) fun b => if b = true then some 1 else some 2) = some ((stK C p q : Nat) : Int) := by
    rw [sk]
    by_cases e : D = kLy C
    · rw [if_pos (by omega), if_pos e]; rfl
    · rw [if_neg (by omega), if_neg e, bX_some, w32_id (by omega), w32_id (by omega)]
      rw [if_neg e] at sk
      by_cases e1 : D = 1
      · rw [if_pos e1] at sk
        have : p < kLy C := by omega
        rw [if_pos (by omega), if_pos (by omega), bX_some, if_pos rfl, if_pos e1]; rfl
      · rw [if_neg (by omega), bX_some, if_neg (by decide), if_neg e1]; rfl
  rw [kd, bX_some, wrI_e (by omega), Int.toNat_natCast]
  refine WP_some.2 ⟨⟨fun x hx => ?_, fun y hy => ?_⟩, ChO.refl.sI (by omega), fun x => hI_sI_a (by omega)⟩
  · have f20 : rJn C R p q 20 x = R 20 x := if_neg (fun z => by have := z.1; unfold stF at this; split at this <;> (try split at this) <;> omega)
    rw [hI_sI_a (by omega), f20]
    refine ⟨(o.1 x hx).1, ?_⟩
    by_cases e : x = m
    · have ex : x = min p q := by omega
      rw [e, gI_set]
      rw [e] at ex
      rcases stK_3 (C := C) (p := p) (q := q) with s | s | s
      · have v1 : rJn C R p q 21 m = 1 := if_pos ⟨by rw [s]; rfl, ex⟩
        have v2 : rJn C R p q 31 m = R 31 m := if_neg (fun z => by rw [s] at z; exact absurd z.1 (by decide))
        have v3 : rJn C R p q 32 m = R 32 m := if_neg (fun z => by rw [s] at z; exact absurd z.1 (by decide))
        rw [v1, v2, v3, s]
        show w32 (w8 (aOr (R 21 m + 2 * R 31 m + 4 * R 32 m) 1)) = _
        rw [oo.1, w32_id (by omega)]
      · have v1 : rJn C R p q 21 m = R 21 m := if_neg (fun z => by rw [s] at z; exact absurd z.1 (by decide))
        have v2 : rJn C R p q 31 m = 1 := if_pos ⟨by rw [s]; rfl, ex⟩
        have v3 : rJn C R p q 32 m = R 32 m := if_neg (fun z => by rw [s] at z; exact absurd z.1 (by decide))
        rw [v1, v2, v3, s]
        show w32 (w8 (aOr (R 21 m + 2 * R 31 m + 4 * R 32 m) 2)) = _
        rw [oo.2.1, w32_id (by omega)]
      · have v1 : rJn C R p q 21 m = R 21 m := if_neg (fun z => by rw [s] at z; exact absurd z.1 (by decide))
        have v2 : rJn C R p q 31 m = R 31 m := if_neg (fun z => by rw [s] at z; exact absurd z.1 (by decide))
        have v3 : rJn C R p q 32 m = 1 := if_pos ⟨by rw [s]; rfl, ex⟩
        rw [v1, v2, v3, s]
        show w32 (w8 (aOr (R 21 m + 2 * R 31 m + 4 * R 32 m) 4)) = _
        rw [oo.2.2, w32_id (by omega)]
    · have nx : ∀ t, rJn C R p q t x = R t x := fun t => if_neg (fun z => e (by rw [z.2, hm]))
      rw [hI_sI_i e, nx, nx, nx]; exact (o.1 x hx).2
  · have f22 : rJn C R p q 22 y = R 22 y := if_neg (fun z => by have := z.1; unfold stF at this; split at this <;> (try split at this) <;> omega)
    rw [hI_sI_a (by omega), f22]; exact o.2 y hy
end KBACK
