/-! the class: a search among free points -/
section KSPREAD
variable {S : Sto} {k : Nat} {C R : Chp} {n : Nat}
def KMk (S : Sto) (C R : Chp) (n : Nat) : Prop := ∀ p, p < 2 * kLy C → gI S 233 p = if R 20 p = (n : Int) then 1 else 0
theorem KMk.ch {z : Sto} {lo hi : Nat} (h : KMk S C R n) (c : Ch lo hi S z) (q : hi < 233 ∨ 233 < lo) : KMk z C R n := fun p hp => (c.1 _ _ (by omega)).trans (h p hp)
theorem k_begin (h4 : gI S 229 4 = ((2 * kLy C : Nat) : Int)) (hl : kLy C ≤ 2356) : WP (mX15_begin S) (fun z => Ch 231 231 S z ∧ ∀ p, p < 2 * kLy C → gI z 231 p = -1) := by
  unfold mX15_begin
  refine WP_call (R := fun z => Ch 231 231 S z ∧ ∀ p, p < 2 * kLy C → gI z 231 p = -1) ?_ (fun z hz => WP_some.2 hz)
  refine WP_cnt (2 * kLy C) (fun i z => z.1 = (i : Int) ∧ Ch 231 231 S z.2 ∧ ∀ p, p < i → gI z.2 231 p = -1) (by unfold cFU; omega) ⟨rfl, Ch.refl, fun x hx => absurd hx (by omega)⟩ (fun i z hi hI => ?_) (fun z hI => ?_)
  · obtain ⟨z1, z2⟩ := z
    obtain ⟨b1, b2, b3⟩ := hI
    dsimp only at b1 b2 b3
    subst b1
    have e4 : gI z2 229 4 = ((2 * kLy C : Nat) : Int) := (b2.1 _ _ (by omega)).trans h4
    unfold mX15_begin_L2
    dsimp only
    rw [e4, w32_id (by omega), w32_id (by omega), if_pos (by omega), wrI_e (by omega), Int.toNat_natCast]
    refine WP_some.2 ⟨by show (i : Int) + 1 = _; omega, b2.sI (by omega), fun x hx => ?_⟩
    by_cases q : x = i
    · subst q
      show gI (sI z2 231 x (-1)) 231 x = _
      rw [gI_set, w32_id (by omega)]
    · show gI (sI z2 231 i (-1)) 231 x = _
      rw [hI_sI_i q]; exact b3 x (by omega)
  · obtain ⟨z1, z2⟩ := z
    obtain ⟨b1, b2, b3⟩ := hI
    dsimp only at b1 b2 b3
    subst b1
    have e4 : gI z2 229 4 = ((2 * kLy C : Nat) : Int) := (b2.1 _ _ (by omega)).trans h4
    unfold mX15_begin_L2
    dsimp only
    rw [e4, w32_id (by omega), if_neg (by omega)]
    exact WP_some.2 ⟨b2, b3⟩
/-- how many points have costs -/
def cnD (d : Nat → Int) (P : Nat) : Nat := smN (fun p => if d p = -1 then 0 else 1) P
theorem cnD_le {d : Nat → Int} {P : Nat} : cnD d P ≤ P := by
  have := smN_le (f := fun p => if d p = -1 then 0 else 1) (n := P) (b := 1) (fun x _ => by split <;> omega)
  unfold cnD; omega
theorem cnD_up {d d' : Nat → Int} {P x : Nat} (hx : x < P) (h0 : d x = -1) (h1 : d' x ≠ -1) (h2 : ∀ y, y < P → y ≠ x → d' y = d y) : cnD d' P = cnD d P + 1 := by
  unfold cnD
  refine smN_up hx ?_ (fun y hy ne => by rw [h2 y hy ne])
  rw [if_pos h0, if_neg h1]
/-- a queue of all points that have costs -/
def BFq (P : Nat) (z : Sto) (tl : Nat) : Prop :=
  (∀ i, i < tl → ∃ x : Nat, x < P ∧ gI z 234 i = (x : Int) ∧ gI z 231 x ≠ -1) ∧ (∀ p, p < P → gI z 231 p ≠ -1 → ∃ i, i < tl ∧ gI z 234 i = (p : Int)) ∧ tl = cnD (fun p => gI z 231 p) P ∧
  (∀ p, p < P → -1 ≤ gI z 231 p ∧ gI z 231 p ≤ tl) ∧ ∀ i j, i ≤ j → j < tl → gI z 231 (gI z 234 i).toNat ≤ gI z 231 (gI z 234 j).toNat
/-- a point is put -/
theorem BFq.put {P tl x : Nat} {z : Sto} {v : Int} (h : BFq P z tl) (hP : P ≤ 4712) (hx : x < P) (h0 : gI z 231 x = -1) (hv : 0 ≤ v ∧ v ≤ tl + 1) (hm : ∀ i, i < tl → gI z 231 (gI z 234 i).toNat ≤ v) :
    BFq P (sI (sI (sI z 231 x v) 232 x 1) 234 tl (x : Int)) (tl + 1) := by
  obtain ⟨h1, h2, h3, h4, h5⟩ := h
  have tP : tl ≤ P := by rw [h3]; exact cnD_le
  have d' : ∀ y, gI (sI (sI (sI z 231 x v) 232 x 1) 234 tl (x : Int)) 231 y = if y = x then v else gI z 231 y := fun y => by
    rw [hI_sI_a (by omega), hI_sI_a (by omega)]
    by_cases q : y = x
    · rw [q, gI_set, w32_id (by omega), if_pos rfl]
    · rw [hI_sI_i q, if_neg q]
  have q' : ∀ i, gI (sI (sI (sI z 231 x v) 232 x 1) 234 tl (x : Int)) 234 i = if i = tl then (x : Int) else gI z 234 i := fun i => by
    by_cases q : i = tl
    · rw [q, gI_set, w32_id (by omega), if_pos rfl]
    · rw [hI_sI_i q, hI_sI_a (by omega), hI_sI_a (by omega), if_neg q]
  generalize sI (sI (sI z 231 x v) 232 x 1) 234 tl (x : Int) = z' at d' q'
  have old : ∀ i, i < tl → ∃ y : Nat, y < P ∧ gI z 234 i = (y : Int) ∧ gI z 231 y ≠ -1 ∧ y ≠ x := fun i hi => by
    obtain ⟨y, y1, y2, y3⟩ := h1 i hi
    exact ⟨y, y1, y2, y3, fun e => y3 (by rw [e]; exact h0)⟩
  refine ⟨fun i hi => ?_, fun p hp g => ?_, ?_, fun p hp => ?_, fun i j hij hj => ?_⟩
  · rw [q']
    by_cases q : i = tl
    · rw [if_pos q]; exact ⟨x, hx, rfl, by rw [d', if_pos rfl]; omega⟩
    · rw [if_neg q]
      obtain ⟨y, y1, y2, y3, y4⟩ := old i (by omega)
      exact ⟨y, y1, y2, by rw [d', if_neg y4]; exact y3⟩
  · rw [d'] at g
    by_cases q : p = x
    · exact ⟨tl, by omega, by rw [q', if_pos rfl, q]⟩
    · rw [if_neg q] at g
      obtain ⟨i, i1, i2⟩ := h2 p hp g
      exact ⟨i, by omega, by rw [q', if_neg (by omega)]; exact i2⟩
  · rw [cnD_up (d := fun p => gI z 231 p) hx h0 (by show gI z' 231 x ≠ -1; rw [d', if_pos rfl]; omega) (fun y _ ne => by show gI z' 231 y = _; rw [d', if_neg ne]), ← h3]
  · rw [d']
    have := h4 p hp
    split <;> omega
  · rw [q', q']
    by_cases q : j = tl
    · rw [if_pos q, Int.toNat_natCast, d' x, if_pos rfl]
      by_cases q2 : i = tl
      · rw [if_pos q2, Int.toNat_natCast, d' x, if_pos rfl]; omega
      · rw [if_neg q2]
        obtain ⟨y, y1, y2, y3, y4⟩ := old i (by omega)
        have := hm i (by omega)
        rw [y2, Int.toNat_natCast] at this ⊢
        rw [d', if_neg y4]; exact this
    · rw [if_neg q, if_neg (by omega)]
      obtain ⟨y, y1, y2, y3, y4⟩ := old i (by omega)
      obtain ⟨u, u1, u2, u3, u4⟩ := old j (by omega)
      have := h5 i j hij (by omega)
      rw [y2, u2, Int.toNat_natCast, Int.toNat_natCast] at this ⊢
      rw [d', if_neg y4, d', if_neg u4]; exact this
/-- costs come from somewhere -/
def BFs (C R : Chp) (n : Nat) (z : Sto) : Prop := ∀ p, p < 2 * kLy C → (R 20 p = (n : Int) → gI z 231 p = 0) ∧ (R 20 p ≠ (n : Int) → gI z 231 p ≠ -1 → prF C R n false p = 1 ∧ gI z 232 p = 1 ∧ ∃ j q : Nat, j < 5 ∧ q < 2 * kLy C ∧ nxF C q j = (p : Int) ∧ gI z 231 q ≠ -1 ∧ gI z 231 p = gI z 231 q + 1)
theorem BFs.put {x tl u j : Nat} {z : Sto} (h : BFs C R n z) (hx : x < 2 * kLy C) (h0 : gI z 231 x = -1) (hf : prF C R n false x = 1) (hj : j < 5) (hu : u < 2 * kLy C) (hn : nxF C u j = (x : Int)) (hd : gI z 231 u ≠ -1) (hr : -1 ≤ gI z 231 u ∧ gI z 231 u ≤ 5000) :
    BFs C R n (sI (sI (sI z 231 x (gI z 231 u + 1)) 232 x 1) 234 tl (x : Int)) := by
  have d' : ∀ y, gI (sI (sI (sI z 231 x (gI z 231 u + 1)) 232 x 1) 234 tl (x : Int)) 231 y = if y = x then gI z 231 u + 1 else gI z 231 y := fun y => by
    rw [hI_sI_a (by omega), hI_sI_a (by omega)]
    by_cases q : y = x
    · rw [q, gI_set, w32_id (by omega), if_pos rfl]
    · rw [hI_sI_i q, if_neg q]
  have s' : ∀ y, gI (sI (sI (sI z 231 x (gI z 231 u + 1)) 232 x 1) 234 tl (x : Int)) 232 y = if y = x then 1 else gI z 232 y := fun y => by
    rw [hI_sI_a (by omega)]
    by_cases q : y = x
    · rw [q, gI_set, w32_id (by omega), if_pos rfl]
    · rw [hI_sI_i q, hI_sI_a (by omega), if_neg q]
  generalize sI (sI (sI z 231 x (gI z 231 u + 1)) 232 x 1) 234 tl (x : Int) = z' at d' s'
  have ux : u ≠ x := fun e => hd (by rw [e]; exact h0)
  intro p hp
  rw [d', s']
  by_cases q : p = x
  · subst q
    rw [if_pos rfl, if_pos rfl]
    refine ⟨fun g => ?_, fun g1 g2 => ⟨hf, rfl, j, u, hj, hu, hn, by rw [d', if_neg ux]; exact hd, by rw [d', if_neg ux]⟩⟩
    have := (h p hp).1 g
    omega
  · rw [if_neg q, if_neg q]
    refine ⟨(h p hp).1, fun g1 g2 => ?_⟩
    obtain ⟨a1, a2, j', y, b1, b2, b3, b4, b5⟩ := (h p hp).2 g1 g2
    have yx : y ≠ x := fun e => b4 (by rw [e]; exact h0)
    exact ⟨a1, a2, j', y, b1, b2, b3, by rw [d', if_neg yx]; exact b4, by rw [d', if_neg yx]; exact b5⟩
/-- neighbours of a point have been seen, in directions ahead of m -/
def BFn (C R : Chp) (n : Nat) (dear : Bool) (z : Sto) (u m : Nat) : Prop := ∀ j x : Nat, j < m → nxF C u j = (x : Int) → R 20 x ≠ (n : Int) → 0 < prF C R n dear x → gI z 231 x ≠ -1 ∧ gI z 231 x ≤ gI z 231 u + (prF C R n dear x : Int)
theorem BFn.mv {z z' : Sto} {dear : Bool} {u m : Nat} (h : BFn C R n dear z u m) (e : gI z' 231 u = gI z 231 u) (g : ∀ y, gI z 231 y ≠ -1 → gI z' 231 y = gI z 231 y) : BFn C R n dear z' u m := fun j x h1 h2 h3 h4 => by
  have := h j x h1 h2 h3 h4
  rw [e, g x this.1]; exact this
theorem k_spread8 (h4 : gI S 229 4 = ((2 * kLy C : Nat) : Int)) (hl : kLy C ≤ 2356) (hm : KMk S C R n) (h0 : ∀ p, p < 2 * kLy C → gI S 231 p = -1) :
    WP (lpF mX15_spread_L8 (0, 0, S)) (fun z => ∃ tl : Nat, z.1 = (tl : Int) ∧ Ch 231 234 S z.2 ∧ (∀ p, gI z.2 233 p = gI S 233 p) ∧ BFq (2 * kLy C) z.2 tl ∧ ∀ p, p < 2 * kLy C → gI z.2 231 p = if R 20 p = (n : Int) then 0 else -1) := by
  refine WP_cnt (2 * kLy C) (fun i z => ∃ tl : Nat, z.1 = (tl : Int) ∧ z.2.1 = (i : Int) ∧ Ch 231 234 S z.2.2 ∧ (∀ p, gI z.2.2 233 p = gI S 233 p) ∧ BFq (2 * kLy C) z.2.2 tl ∧ ∀ p, p < 2 * kLy C → gI z.2.2 231 p = if p < i ∧ R 20 p = (n : Int) then 0 else -1) (by unfold cFU; omega) ⟨0, rfl, rfl, Ch.refl, fun _ => rfl, ⟨fun i hi => absurd hi (by omega), fun p hp g => absurd (h0 p hp) g, (smN_0 (fun x hx => if_pos (h0 x hx))).symm, fun p hp => by show -1 ≤ gI S 231 p ∧ gI S 231 p ≤ _; rw [h0 p hp]; omega, fun i j _ hj => absurd hj (by omega)⟩, fun p hp => by show gI S 231 p = _; rw [h0 p hp, if_neg (by omega)]⟩ (fun i z hi hI => ?_) (fun z hI => ?_)
  · obtain ⟨z0, z1, z2⟩ := z
    obtain ⟨tl, b0, b1, b2, b3, b4, b5⟩ := hI
    dsimp only at b0 b1 b2 b3 b4 b5
    subst b0 b1
    have e4 : gI z2 229 4 = ((2 * kLy C : Nat) : Int) := (b2.1 _ _ (by omega)).trans h4
    have tP : tl ≤ 2 * kLy C := by rw [b4.2.2.1]; exact cnD_le
    have em := hm i hi
    unfold mX15_spread_L8
    dsimp only
    rw [e4, w32_id (by omega), w32_id (by omega), if_pos (by omega), rdZ_e (by omega), Int.toNat_natCast, b3, em]
    by_cases q : R 20 i = (n : Int)
    · have d0 : gI z2 231 i = -1 := by rw [b5 i hi, if_neg (by omega)]
      have t1 : tl < 2 * kLy C := by
        have e := cnD_up (d := fun p => gI z2 231 p) (d' := fun p => if p = i then 0 else gI z2 231 p) hi d0 (by show (if i = i then (0 : Int) else _) ≠ -1; rw [if_pos rfl]; decide) (fun y _ ne => if_neg ne)
        have l := cnD_le (d := fun p => if p = i then 0 else gI z2 231 p) (P := 2 * kLy C)
        rw [← b4.2.2.1] at e
        omega
      rw [if_pos q, if_neg (by decide), wrI_e (by omega), Int.toNat_natCast, wrI_e (by omega), Int.toNat_natCast]
      have z3 : ∀ z, sI (sI z2 231 i 0) 234 tl (i : Int) = z → BFq (2 * kLy C) z (tl + 1) := fun z e => by
        subst e
        have := b4.put (v := 0) (by omega) hi d0 (by omega) (fun y hy => by
          obtain ⟨u, u1, u2, u3⟩ := b4.1 y hy
          rw [u2, Int.toNat_natCast]
          have := b5 u u1
          split at this <;> omega)
        have e1 : ∀ a j, a ≠ 232 → gI (sI (sI z2 231 i 0) 234 tl (i : Int)) a j = gI (sI (sI (sI z2 231 i 0) 232 i 1) 234 tl (i : Int)) a j := fun a j g => by
          by_cases g1 : a = 234
          · subst g1
            by_cases g2 : j = tl
            · rw [g2, gI_set, gI_set]
            · rw [hI_sI_i g2, hI_sI_i g2, hI_sI_a (by omega), hI_sI_a (by omega), hI_sI_a (by omega)]
          · rw [hI_sI_a g1, hI_sI_a g1, hI_sI_a g]
        obtain ⟨k1, k2, k3, k4, k5⟩ := this
        refine ⟨fun y hy => ?_, fun p hp => ?_, ?_, fun p hp => ?_, fun y u => ?_⟩
        · rw [e1 _ _ (by omega)]
          obtain ⟨x, x1, x2, x3⟩ := k1 y hy
          exact ⟨x, x1, x2, by rw [e1 _ _ (by omega)]; exact x3⟩
        · rw [e1 _ _ (by omega)]
          intro g
          obtain ⟨y, y1, y2⟩ := k2 p hp g
          exact ⟨y, y1, by rw [e1 _ _ (by omega)]; exact y2⟩
        · rw [k3]; exact congrArg (fun d => cnD d _) (funext (fun p => (e1 _ _ (by omega)).symm))
        · rw [e1 _ _ (by omega)]; exact k4 p hp
        · rw [e1 234 y (by omega), e1 234 u (by omega), e1 231 _ (by omega), e1 231 _ (by omega)]; exact k5 y u
      refine WP_some.2 ⟨tl + 1, by show (tl : Int) + 1 = _; omega, by show (i : Int) + 1 = _; omega, (b2.sI (by omega)).sI (by omega), fun p => by rw [hI_sI_a (by omega), hI_sI_a (by omega)]; exact b3 p, z3 _ rfl, fun p hp => ?_⟩
      dsimp only
      rw [hI_sI_a (by omega)]
      by_cases e : p = i
      · rw [e, gI_set, if_pos ⟨by omega, q⟩]; rfl
      · rw [hI_sI_i e, b5 p hp]
        by_cases g : p < i ∧ R 20 p = (n : Int)
        · rw [if_pos g, if_pos ⟨by omega, g.2⟩]
        · rw [if_neg g, if_neg (fun x => g ⟨by omega, x.2⟩)]
    · rw [if_neg q, if_pos (by decide)]
      refine WP_some.2 ⟨tl, rfl, by show (i : Int) + 1 = _; omega, b2, b3, b4, fun p hp => ?_⟩
      dsimp only
      rw [b5 p hp]
      by_cases g : p < i ∧ R 20 p = (n : Int)
      · rw [if_pos g, if_pos ⟨by omega, g.2⟩]
      · rw [if_neg g, if_neg (fun x => g ⟨by
          by_cases e : p = i
          · rw [e] at x; exact absurd x.2 q
          · omega, x.2⟩)]
  · obtain ⟨z0, z1, z2⟩ := z
    obtain ⟨tl, b0, b1, b2, b3, b4, b5⟩ := hI
    dsimp only at b0 b1 b2 b3 b4 b5
    subst b0 b1
    have e4 : gI z2 229 4 = ((2 * kLy C : Nat) : Int) := (b2.1 _ _ (by omega)).trans h4
    unfold mX15_spread_L8
    dsimp only
    rw [e4, w32_id (by omega), if_neg (by omega)]
    exact WP_some.2 ⟨tl, rfl, b2, b3, b4, fun p hp => by
      rw [b5 p hp]
      by_cases g : R 20 p = (n : Int)
      · rw [if_pos g, if_pos ⟨hp, g⟩]
      · rw [if_neg g, if_neg (fun x => g x.2)]⟩
theorem k_spread61 (h : KRt S k C) (o : KOw S k C R) (rr : RRg C R) (hk : k < 4) (g : GSz C) (w : WFC C) (hn : n < kN C) {hd tl : Nat} (ht : hd < tl) (hq : BFq (2 * kLy C) S tl) (hs : BFs C R n S) (h1 : ∀ i j, hd ≤ i → i < tl → j < tl → gI S 231 (gI S 234 j).toNat ≤ gI S 231 (gI S 234 i).toNat + 1) (h2 : ∀ i, i < hd → BFn C R n false S (gI S 234 i).toNat 5) {T : Sto} {v : Int} :
    WP (lpF (mX15_spread_L61 (v, (hd : Int), T) (n : Int)) ((tl : Int), 0, S)) (fun z => ∃ tl' : Nat, z.1 = (tl' : Int) ∧ tl ≤ tl' ∧ Ch 231 234 S z.2 ∧ (∀ p, gI z.2 233 p = gI S 233 p) ∧ BFq (2 * kLy C) z.2 tl' ∧ BFs C R n z.2 ∧ (∀ i j, hd + 1 ≤ i → i < tl' → j < tl' → gI z.2 231 (gI z.2 234 j).toNat ≤ gI z.2 231 (gI z.2 234 i).toNat + 1) ∧ ∀ i, i < hd + 1 → BFn C R n false z.2 (gI z.2 234 i).toNat 5) := by
  have g5 := g.2.2.2.2.1
  obtain ⟨u, u1, u2, u3⟩ := hq.1 hd ht
  refine WP_cnt 5 (fun j z => ∃ tl' : Nat, z.1 = (tl' : Int) ∧ z.2.1 = (j : Int) ∧ tl ≤ tl' ∧ Ch 231 234 S z.2.2 ∧ (∀ p, gI z.2.2 233 p = gI S 233 p) ∧ BFq (2 * kLy C) z.2.2 tl' ∧ BFs C R n z.2.2 ∧ (∀ i j, hd ≤ i → i < tl' → j < tl' → gI z.2.2 231 (gI z.2.2 234 j).toNat ≤ gI z.2.2 231 (gI z.2.2 234 i).toNat + 1) ∧ (∀ i, i < hd → BFn C R n false z.2.2 (gI z.2.2 234 i).toNat 5) ∧ gI z.2.2 234 hd = (u : Int) ∧ gI z.2.2 231 u ≠ -1 ∧ BFn C R n false z.2.2 u j) (by unfold cFU; omega) ⟨tl, rfl, rfl, Nat.le_refl _, Ch.refl, fun _ => rfl, hq, hs, h1, h2, u2, u3, fun j x hj => absurd hj (by omega)⟩ (fun j z hj hI => ?_) (fun z hI => ?_)
  · obtain ⟨z0, z1, z2⟩ := z
    obtain ⟨tl', b0, b1, b2, b3, b4, b5, b6, b7, b8, b9, b10, b11⟩ := hI
    dsimp only at b0 b1 b2 b3 b4 b5 b6 b7 b8 b9 b10 b11
    subst b0 b1
    have hz := h.ch b3 hk (by omega)
    have oz := o.ch b3 (by omega)
    have tP : tl' ≤ 2 * kLy C := by rw [b5.2.2.1]; exact cnD_le
    have same : (∀ x : Nat, nxF C u j = (x : Int) → R 20 x ≠ (n : Int) → 0 < prF C R n false x → gI z2 231 x ≠ -1) → BFn C R n false z2 u (j + 1) := fun hx j' x l1 l2 l3 l4 => by
      by_cases e : j' = j
      · subst e
        have fx := hx x l2 l3 l4
        refine ⟨fx, ?_⟩
        obtain ⟨y, y1, y2⟩ : ∃ y : Nat, nxF C u j' = (y : Int) ∧ y < 2 * kLy C := (nxF_rng u1 hj).elim (fun g => by rw [g] at l2; omega) (fun ⟨y, y1, y2, _⟩ => ⟨y, y1, y2⟩)
        have xy : x = y := by omega
        obtain ⟨i, i1, i2⟩ := b5.2.1 x (by omega) fx
        have m := b7 hd i (Nat.le_refl _) (by omega) i1
        rw [i2, b9, Int.toNat_natCast, Int.toNat_natCast] at m
        omega
      · exact b11 j' x (by omega) l2 l3 l4
    have stay : BFn C R n false z2 u (j + 1) → WP (some (Sum.inl ((tl' : Int), (j : Int) + 1, z2) : (Int × Int × Sto) ⊕ (Int × Sto))) (WE (fun z => ∃ tl' : Nat, z.1 = (tl' : Int) ∧ z.2.1 = ((j + 1 : Nat) : Int) ∧ tl ≤ tl' ∧ Ch 231 234 S z.2.2 ∧ (∀ p, gI z.2.2 233 p = gI S 233 p) ∧ BFq (2 * kLy C) z.2.2 tl' ∧ BFs C R n z.2.2 ∧ (∀ i j, hd ≤ i → i < tl' → j < tl' → gI z.2.2 231 (gI z.2.2 234 j).toNat ≤ gI z.2.2 231 (gI z.2.2 234 i).toNat + 1) ∧ (∀ i, i < hd → BFn C R n false z.2.2 (gI z.2.2 234 i).toNat 5) ∧ gI z.2.2 234 hd = (u : Int) ∧ gI z.2.2 231 u ≠ -1 ∧ BFn C R n false z.2.2 u (j + 1)) (fun z => ∃ tl' : Nat, z.1 = (tl' : Int) ∧ tl ≤ tl' ∧ Ch 231 234 S z.2 ∧ (∀ p, gI z.2 233 p = gI S 233 p) ∧ BFq (2 * kLy C) z.2 tl' ∧ BFs C R n z.2 ∧ (∀ i j, hd + 1 ≤ i → i < tl' → j < tl' → gI z.2 231 (gI z.2 234 j).toNat ≤ gI z.2 231 (gI z.2 234 i).toNat + 1) ∧ ∀ i, i < hd + 1 → BFn C R n false z.2 (gI z.2 234 i).toNat 5)) :=
      fun hb => WP_some.2 ⟨tl', rfl, by show (j : Int) + 1 = _; omega, b2, b3, b4, b5, b6, b7, b8, b9, b10, hb⟩
    unfold mX15_spread_L61
    dsimp only
    rw [w32_id (by omega), if_pos (by omega), rdI_e (by omega), Int.toNat_natCast, b9, k_next hz hk g u1 hj, bX_some]
    rcases nxF_rng u1 hj with e | ⟨x, ex, x1, x2⟩
    · rw [e, if_neg (by decide), bX_some, if_neg (by decide), bX_some]
      exact stay (same (fun x hx => by rw [e] at hx; omega))
    · have rd := b5.2.2.2.1 x x1
      rw [ex, w32_id (by omega), if_pos (by omega), rdI_e (by omega), Int.toNat_natCast, w32_id (by omega)]
      by_cases q : gI z2 231 x = -1
      · rw [if_pos q, bX_some, if_pos rfl, k_isFree hz oz rr hk g w x1 hn, bX_some]
        by_cases f : freR C R n x
        · have t1 : tl' < 2 * kLy C := by
            have e := cnD_up (d := fun p => gI z2 231 p) (d' := fun p => if p = x then 0 else gI z2 231 p) x1 q (by show (if x = x then (0 : Int) else _) ≠ -1; rw [if_pos rfl]; decide) (fun y _ ne => if_neg ne)
            have l := cnD_le (d := fun p => if p = x then 0 else gI z2 231 p) (P := 2 * kLy C)
            rw [← b5.2.2.1] at e
            omega
          have ru := b5.2.2.2.1 u u1
          have pf : prF C R n false x = 1 := if_pos f
          rw [if_pos f, if_neg (by decide), rdI_e (by omega), Int.toNat_natCast, b9, rdI_e (by omega), Int.toNat_natCast, wrI_e (by omega), Int.toNat_natCast, wrI_e (by omega), Int.toNat_natCast, wrI_e (by omega), Int.toNat_natCast, bX_some]
          have mono : ∀ i, i < tl' → gI z2 231 (gI z2 234 i).toNat ≤ gI z2 231 u + 1 := fun i hi => by
            have m := b7 hd i (Nat.le_refl _) (by omega) hi
            rw [b9, Int.toNat_natCast] at m; exact m
          have Q := b5.put (v := gI z2 231 u + 1) (by omega) x1 q (by omega) mono
          have D := b6.put (tl := tl') x1 q pf hj u1 ex b10 (by omega)
          have d' : ∀ y, gI (sI (sI (sI z2 231 x (gI z2 231 u + 1)) 232 x 1) 234 tl' (x : Int)) 231 y = if y = x then gI z2 231 u + 1 else gI z2 231 y := fun y => by
            rw [hI_sI_a (by omega), hI_sI_a (by omega)]
            by_cases q : y = x
            · rw [q, gI_set, w32_id (by omega), if_pos rfl]
            · rw [hI_sI_i q, if_neg q]
          have q' : ∀ i, gI (sI (sI (sI z2 231 x (gI z2 231 u + 1)) 232 x 1) 234 tl' (x : Int)) 234 i = if i = tl' then (x : Int) else gI z2 234 i := fun i => by
            by_cases q : i = tl'
            · rw [q, gI_set, w32_id (by omega), if_pos rfl]
            · rw [hI_sI_i q, hI_sI_a (by omega), hI_sI_a (by omega), if_neg q]
          have c' : Ch 231 234 S (sI (sI (sI z2 231 x (gI z2 231 u + 1)) 232 x 1) 234 tl' (x : Int)) := ((b3.sI (by omega)).sI (by omega)).sI (by omega)
          have m' : ∀ p, gI (sI (sI (sI z2 231 x (gI z2 231 u + 1)) 232 x 1) 234 tl' (x : Int)) 233 p = gI S 233 p := fun p => by
            rw [hI_sI_a (by omega), hI_sI_a (by omega), hI_sI_a (by omega)]; exact b4 p
          generalize sI (sI (sI z2 231 x (gI z2 231 u + 1)) 232 x 1) 234 tl' (x : Int) = z3 at Q D d' q' c' m' ⊢
          have keep : ∀ y, gI z2 231 y ≠ -1 → gI z3 231 y = gI z2 231 y := fun y hy => by rw [d', if_neg (fun e => hy (by rw [e]; exact q))]
          have dq : ∀ i, i < tl' → gI z3 231 (gI z2 234 i).toNat = gI z2 231 (gI z2 234 i).toNat := fun i hi => by
            obtain ⟨y, y1, y2, y3⟩ := b5.1 i hi
            rw [y2, Int.toNat_natCast]; exact keep y y3
          refine WP_some.2 ⟨tl' + 1, by show (tl' : Int) + 1 = _; omega, by show (j : Int) + 1 = _; omega, by omega, c', m', Q, D, fun i y h1 h2 h3 => ?_, fun i hi => ?_, by rw [q', if_neg (by omega)]; exact b9, by rw [keep u b10]; exact b10, fun j' y l1 l2 l3 l4 => ?_⟩
          · dsimp only
            rw [q', q']
            by_cases e1 : y = tl'
            · rw [if_pos e1, Int.toNat_natCast, d' x, if_pos rfl]
              by_cases e2 : i = tl'
              · rw [if_pos e2, Int.toNat_natCast, d' x, if_pos rfl]; omega
              · rw [if_neg e2, dq i (by omega)]
                have m := b5.2.2.2.2 hd i h1 (by omega)
                rw [b9, Int.toNat_natCast] at m
                omega
            · rw [if_neg e1, dq y (by omega)]
              by_cases e2 : i = tl'
              · rw [if_pos e2, Int.toNat_natCast, d' x, if_pos rfl]
                have := mono y (by omega)
                omega
              · rw [if_neg e2, dq i (by omega)]
                exact b7 i y h1 (by omega) (by omega)
          · dsimp only
            rw [q', if_neg (by omega)]
            exact (b8 i hi).mv (dq i (by omega)) keep
          · by_cases e1 : j' = j
            · subst e1
              have : y = x := by omega
              subst this
              rw [d' y, if_pos rfl, keep u b10, pf]; omega
            · have := b11 j' y (by omega) l2 l3 l4
              rw [keep y this.1, keep u b10]; exact this
        · rw [if_neg f, if_pos (by decide), bX_some]
          refine stay (same (fun y hy l3 l4 => ?_))
          have : y = x := by omega
          subst this
          unfold prF at l4
          rw [if_neg f, if_neg (fun g => absurd g.2 (by decide))] at l4
          omega
      · rw [if_neg q, bX_some, if_neg (by decide), bX_some]
        refine stay (same (fun y hy l3 l4 => ?_))
        have : y = x := by omega
        subst this; exact q
  · obtain ⟨z0, z1, z2⟩ := z
    obtain ⟨tl', b0, b1, b2, b3, b4, b5, b6, b7, b8, b9, b10, b11⟩ := hI
    dsimp only at b0 b1 b2 b3 b4 b5 b6 b7 b8 b9 b10 b11
    subst b0 b1
    unfold mX15_spread_L61
    dsimp only
    rw [if_neg (by decide)]
    refine WP_some.2 ⟨tl', rfl, b2, b3, b4, b5, b6, fun i j h1 => b7 i j (by omega), fun i hi => ?_⟩
    by_cases e : i = hd
    · rw [e, b9, Int.toNat_natCast]; exact b11
    · exact b8 i (by omega)
theorem k_spread (h : KRt S k C) (o : KOw S k C R) (rr : RRg C R) (hk : k < 4) (g : GSz C) (w : WFC C) (hn : n < kN C) (hm : KMk S C R n) :
    WP (mX15_spread S (n : Int)) (fun z => Ch 231 234 S z ∧ (∀ p, gI z 233 p = gI S 233 p) ∧ DOk C R n false (fun p => gI z 231 p) ∧ (∀ p, p < 2 * kLy C → gI z 231 p ≤ 5000) ∧ ∀ p, p < 2 * kLy C → R 20 p ≠ (n : Int) → gI z 231 p ≠ -1 → gI z 232 p = (prF C R n false p : Int)) := by
  have g5 := g.2.2.2.2.1
  unfold mX15_spread
  refine WP_call (k_begin h.1.2.2.2.1 g5) (fun x1 h1 => ?_)
  obtain ⟨c1, d1⟩ := h1
  refine WP_call (k_spread8 ((c1.1 _ _ (by omega)).trans h.1.2.2.2.1) g5 (hm.ch c1 (by omega)) d1) (fun y7 h7 => ?_)
  obtain ⟨y1, y2⟩ := y7
  obtain ⟨tl, e0, e1, e2, e3, e4⟩ := h7
  dsimp only at e0 e1 e2 e3 e4
  subst e0
  have c2 : Ch 231 234 S y2 := ((Ch.refl (lo := 231) (hi := 234)).tr c1 (by omega) (by omega)).tr e1 (by omega) (by omega)
  dsimp only
  refine WP_call (R := fun z => Ch 231 234 S z ∧ (∀ p, gI z 233 p = gI S 233 p) ∧ DOk C R n false (fun p => gI z 231 p) ∧ (∀ p, p < 2 * kLy C → gI z 231 p ≤ 5000) ∧ ∀ p, p < 2 * kLy C → R 20 p ≠ (n : Int) → gI z 231 p ≠ -1 → gI z 232 p = (prF C R n false p : Int)) ?_ (fun z hz => WP_some.2 hz)
  have bs : BFs C R n y2 := fun p hp => by
    rw [e4 p hp]
    refine ⟨fun q => if_pos q, fun q1 q2 => absurd (if_neg q1) q2⟩
  refine WP_lpF (fun z => ∃ hd tl : Nat, z.2.1 = (hd : Int) ∧ z.1 = (tl : Int) ∧ hd ≤ tl ∧ Ch 231 234 S z.2.2 ∧ (∀ p, gI z.2.2 233 p = gI S 233 p) ∧ BFq (2 * kLy C) z.2.2 tl ∧ BFs C R n z.2.2 ∧ (∀ i j, hd ≤ i → i < tl → j < tl → gI z.2.2 231 (gI z.2.2 234 j).toNat ≤ gI z.2.2 231 (gI z.2.2 234 i).toNat + 1) ∧ ∀ i, i < hd → BFn C R n false z.2.2 (gI z.2.2 234 i).toNat 5) (fun z => 5000 - z.2.1.toNat) ⟨0, tl, rfl, rfl, Nat.zero_le _, c2, fun p => (e2 p).trans (c1.1 _ _ (by omega)), e3, bs, fun i j _ hi hj => ?_, fun i hi => absurd hi (by omega)⟩ (by unfold cFU; show 5000 - _ < _; omega) (fun z hI => ?_)
  · obtain ⟨u, u1, u2, u3⟩ := e3.1 i hi
    obtain ⟨v, v1, v2, v3⟩ := e3.1 j hj
    rw [e4 u u1] at u3
    rw [e4 v v1] at v3
    dsimp only
    rw [u2, v2, Int.toNat_natCast, Int.toNat_natCast, e4 u u1, e4 v v1]
    split <;> split <;> omega
  · obtain ⟨z0, z1, z2⟩ := z
    obtain ⟨hd, tl, b0, b1, b2, b3, b4, b5, b6, b7, b8⟩ := hI
    dsimp only at b0 b1 b2 b3 b4 b5 b6 b7 b8
    subst b0 b1
    have tP : tl ≤ 2 * kLy C := by rw [b5.2.2.1]; exact cnD_le
    unfold mX15_spread_L53
    dsimp only
    rw [w32_id (by omega), w32_id (by omega)]
    by_cases q : hd < tl
    · rw [if_pos (by omega)]
      refine WP_call (k_spread61 (h.ch b3 hk (by omega)) (o.ch b3 (by omega)) rr hk g w hn q b5 b6 b7 b8) (fun y hy => WP_some.2 ?_)
      obtain ⟨tl', a0, a1, a2, a3, a4, a5, a6, a7⟩ := hy
      refine ⟨⟨hd + 1, tl', by show (hd : Int) + 1 = _; omega, a0, by omega, b3.tr a2 (by omega) (by omega), fun p => (a3 p).trans (b4 p), a4, a5, a6, a7⟩, ?_⟩
      show 5000 - ((hd : Int) + 1).toNat < 5000 - (hd : Int).toNat
      omega
    · rw [if_neg (by omega)]
      have e : hd = tl := by omega
      subst e
      refine WP_some.2 ⟨b3, b4, fun p hp => ?_, fun p hp => by have := b5.2.2.2.1 p hp; show gI z2 231 p ≤ _; omega, fun p hp h1 h2 => by rw [((b6 p hp).2 h1 h2).2.1, ((b6 p hp).2 h1 h2).1]; rfl⟩
      refine ⟨(b5.2.2.2.1 p hp).1, (b6 p hp).1, fun h1 h2 => ?_, fun h1 j q l1 l2 l3 l4 => ?_⟩
      · obtain ⟨a1, a2, j, q, a3, a4, a5, a6, a7⟩ := (b6 p hp).2 h1 h2
        exact ⟨by omega, j, q, a3, a4, a5, a6, by rw [a1]; exact a7⟩
      · obtain ⟨i, i1, i2⟩ := b5.2.1 p hp h1
        have := b8 i i1 j q l1
        rw [i2, Int.toNat_natCast] at this
        exact this l2 l3 l4
end KSPREAD
