/-! what hangs together: the class -/
abbrev bJn (C : Chp) (a b : Nat) : Prop := ((C 24 (5 * a) = C 24 (5 * b) ∧ C 24 (5 * a) < 2) ∨ (C 24 (5 * a) ≠ C 24 (5 * b) ∧ (C 24 (5 * a) = 2 ∨ C 24 (5 * b) = 2))) ∧ bMet C a b
abbrev bCv (C : Chp) (b : Nat) (x y : Int) : Prop := C 24 (5 * b) = 0 ∧ C 24 (5 * b + 1) ≤ x ∧ x ≤ C 24 (5 * b + 3) ∧ C 24 (5 * b + 2) ≤ y ∧ y ≤ C 24 (5 * b + 4)
/-- boxes that are joined, pins that lie in boxes: as far as they were looked at -/
def E1 (C : Chp) (a b x y : Nat) : Prop := (x < y ∧ y < kBx C ∧ bJn C x y) ∧ (x < a ∨ (x = a ∧ y < b))
def E2 (C : Chp) (p b x y : Nat) : Prop := ∃ q, x = kBx C + q ∧ y < kBx C ∧ q < kPn C ∧ bCv C y (4 * pvX C q) (4 * pvY C q) ∧ (q < p ∨ (q = p ∧ y < b))
/-- all of that, as the class goes through it -/
def EAll (C : Chp) (x y : Nat) : Prop := (x < y ∧ y < kBx C ∧ bJn C x y) ∨ ∃ q, x = kBx C + q ∧ y < kBx C ∧ q < kPn C ∧ bCv C y (4 * pvX C q) (4 * pvY C q)
section KGATHER
variable {S : Sto} {k : Nat} {C : Chp}
theorem kBx_e (wB : WFB C) (h : C 23 0 ≠ -1) : C 23 0 = (kBx C : Int) ∧ kBx C ≤ 2000 := by have := wB.1; unfold kBx; omega
theorem k_covers (h : KBx S (344 + 22 * k) C) (hk : k < 4) (wB : WFB C) {b : Nat} (hb : b < kBx C) {x y : Int} (hx : -1000 ≤ x ∧ x ≤ 1000) (hy : -1000 ≤ y ∧ y ≤ 1000) : mX16_covers S (b : Int) x y = some (if bCv C b x y then 1 else 0) := by
  have hb2 : kBx C ≤ 2000 := by have := wB.1; unfold kBx; omega
  obtain ⟨e0, e1, e2, e3, e4⟩ := h.at hb
  have w := wB.2 b hb
  obtain ⟨z0, z1, z2, z3, z4⟩ := zt5 (b := b)
  unfold mX16_covers
  rw [h.1, gk_chip hk, rdI_e (by omega), z0, e0, w32_id (by omega)]
  by_cases q0 : C 24 (5 * b) = 0
  · rw [if_pos q0, gk_chip hk, rdI_e (by omega), z1, e1, w32_id (by omega), w32_id (by omega)]
    by_cases q1 : C 24 (5 * b + 1) ≤ x
    · rw [if_pos q1, gk_chip hk, rdI_e (by omega), z3, e3, w32_id (by omega)]
      by_cases q2 : x ≤ C 24 (5 * b + 3)
      · rw [if_pos q2, gk_chip hk, rdI_e (by omega), z2, e2, w32_id (by omega), w32_id (by omega)]
        by_cases q3 : C 24 (5 * b + 2) ≤ y
        · rw [if_pos q3, gk_chip hk, rdI_e (by omega), z4, e4, w32_id (by omega)]
          by_cases q4 : y ≤ C 24 (5 * b + 4)
          · rw [if_pos q4, bX_some, if_pos rfl, bX_some, if_pos ⟨q0, q1, q2, q3, q4⟩]; rfl
          · rw [if_neg q4, bX_some, if_neg (by decide), bX_some, if_neg (fun g => q4 g.2.2.2.2)]; rfl
        · rw [if_neg q3, bX_some, if_neg (by decide), bX_some, if_neg (fun g => q3 g.2.2.2.1)]; rfl
      · rw [if_neg q2, bX_some, if_neg (by decide), bX_some, if_neg (fun g => q2 g.2.2.1)]; rfl
    · rw [if_neg q1, bX_some, if_neg (by decide), bX_some, if_neg (fun g => q1 g.2.1)]; rfl
  · rw [if_neg q0, bX_some, if_neg (by decide), bX_some, if_neg (fun g => q0 g.1)]; rfl
/-- what the class needs while it joins -/
def KGa (k : Nat) (C : Chp) (S : Sto) : Prop := KBx S (344 + 22 * k) C ∧ KPins S C (kPins C) ∧ gR S 219 0 = 344 + 22 * k ∧ RepP S (344 + 22 * k) C
theorem KGa.ch {z : Sto} {lo hi : Nat} (h : KGa k C S) (g : Ch lo hi S z) (q : 241 ≤ lo ∧ hi ≤ 243) : KGa k C z :=
  ⟨h.1.ch g (by omega), h.2.1.mv (fun a i l1 l2 => g.1 a i (by omega)), (g.2.2.1 _ _).trans h.2.2.1, h.2.2.2.ch g (by omega)⟩
theorem k_gather47 (h : KGa k C S) (hk : k < 4) (wB : WFB C) (hB : C 23 0 ≠ -1) {N : Nat} (hN : kBx C ≤ N ∧ N ≤ 2640) {a : Nat} (ha : a < kBx C) {f : Nat → Nat} (hf : UFs S 241 N (E1 C a (a + 1)) f) {S0 : Sto} (h0 : gI S0 (344 + 22 * k) 20 = (kBx C : Int)) {T : Sto} :
    WP (lpF (mX16_gather_L47 S0 (344 + 22 * k) ((a : Int), T)) ((a : Int) + 1, S)) (fun z => Ch 241 241 S z ∧ ∃ f', UFs z 241 N (E1 C (a + 1) (a + 2)) f') := by
  obtain ⟨nb, nb2⟩ := kBx_e wB hB
  have wa := wB.2 a ha
  have final : ∀ z f', UFs z 241 N (E1 C a (kBx C)) f' → UFs z 241 N (E1 C (a + 1) (a + 2)) f' := fun z f' u => u.cg (fun _ => rfl) (fun x y => by
    unfold E1
    constructor
    · rintro ⟨q1, q2⟩; exact ⟨q1, by omega⟩
    · rintro ⟨q1, q2⟩; exact ⟨q1, by omega⟩)
  refine WP_cnt (kBx C - (a + 1)) (fun i z => z.1 = ((a + 1 + i : Nat) : Int) ∧ Ch 241 241 S z.2 ∧ ∃ f', UFs z.2 241 N (E1 C a (a + 1 + i)) f') (by unfold cFU; omega) ⟨by show (a : Int) + 1 = _; omega, Ch.refl, f, hf⟩ (fun i z hi hI => ?_) (fun z hI => ?_)
  · obtain ⟨z1, z2⟩ := z
    obtain ⟨b1, b2, f', b3⟩ := hI
    dsimp only at b1 b2 b3
    subst b1
    have hz := (h.ch b2 (by omega)).1
    have hb : a + 1 + i < kBx C := by omega
    obtain ⟨ea, _⟩ := hz.at ha
    obtain ⟨eb, _⟩ := hz.at hb
    have wb := wB.2 _ hb
    obtain ⟨za, _⟩ := zt5 (b := a)
    obtain ⟨zb, _⟩ := zt5 (b := a + 1 + i)
    have step : ∀ y, Ch 241 241 S y → (∃ f'', UFs y 241 N (E1 C a (a + 1 + (i + 1))) f'') → WP (some (Sum.inl (((a + 1 + i : Nat) : Int) + 1, y) : (Int × Sto) ⊕ Sto)) (WE (fun z => z.1 = ((a + 1 + (i + 1) : Nat) : Int) ∧ Ch 241 241 S z.2 ∧ ∃ f', UFs z.2 241 N (E1 C a (a + 1 + (i + 1))) f') (fun z => Ch 241 241 S z ∧ ∃ f', UFs z 241 N (E1 C (a + 1) (a + 2)) f')) :=
      fun y h1 h2 => WP_some.2 ⟨by show ((a + 1 + i : Nat) : Int) + 1 = _; omega, h1, h2⟩
    have no : ¬ bJn C a (a + 1 + i) → UFs z2 241 N (E1 C a (a + 1 + (i + 1))) f' := fun q => b3.cg (fun _ => rfl) (fun x y => by
      unfold E1
      constructor
      · rintro ⟨q1, q2⟩; exact ⟨q1, by omega⟩
      · rintro ⟨q1, q2⟩
        refine ⟨q1, ?_⟩
        by_cases l : x = a ∧ y = a + 1 + i
        · obtain ⟨rfl, rfl⟩ := l; exact absurd q1.2.2 q
        · omega)
    unfold mX16_gather_L47
    dsimp only
    rw [h0, w32_id (by omega), w32_id (by omega), if_pos (by omega), hz.1, gk_chip hk, rdI_e (by omega), za, ea, gk_chip hk, rdI_e (by omega), zb, eb, w32_id (by omega), w32_id (by omega)]
    have lay : (if C 24 (5 * a) = C 24 (5 * (a + 1 + i)) then gk (344 + 22 * k) 22 fun g11 => rdI 10000 z2 (g11 + 15) (5 * (a : Int)) fun v12 => if w32 v12 < 2 then some (1 : Int) else some 0 else gk (344 + 22 * k) 22 fun g13 => rdI 10000 z2 (g13 + 15) (5 * (a : Int)) fun v14 => bX (if ¬ w32 v14 = 2 then gk (344 + 22 * k) 22 fun g15 => rdI 10000 z2 (g15 + 15) (5 * ((a + 1 + i : Nat) : Int)) fun v16 => if w32 v16 = 2 then some true else some false else some true) fun b => if b = true then some 1 else some 0) = some (if ((C 24 (5 * a) = C 24 (5 * (a + 1 + i)) ∧ C 24 (5 * a) < 2) ∨ (C 24 (5 * a) ≠ C 24 (5 * (a + 1 + i)) ∧ (C 24 (5 * a) = 2 ∨ C 24 (5 * (a + 1 + i)) = 2))) then 1 else 0) := by
      by_cases q : C 24 (5 * a) = C 24 (5 * (a + 1 + i))
      · rw [if_pos q, gk_chip hk, rdI_e (by omega), za, ea, w32_id (by omega)]
        by_cases q2 : C 24 (5 * a) < 2
        · rw [if_pos q2, if_pos (.inl ⟨q, q2⟩)]
        · rw [if_neg q2, if_neg (fun g => g.elim (fun g => q2 g.2) (fun g => g.1 q))]
      · rw [if_neg q, gk_chip hk, rdI_e (by omega), za, ea, w32_id (by omega)]
        by_cases q2 : C 24 (5 * a) = 2
        · rw [if_neg (fun g => g q2), bX_some, if_pos rfl, if_pos (.inr ⟨q, .inl q2⟩)]
        · rw [if_pos q2, gk_chip hk, rdI_e (by omega), zb, eb, w32_id (by omega)]
          by_cases q3 : C 24 (5 * (a + 1 + i)) = 2
          · rw [if_pos q3, bX_some, if_pos rfl, if_pos (.inr ⟨q, .inr q3⟩)]
          · rw [if_neg q3, bX_some, if_neg (by decide), if_neg (fun g => g.elim (fun g => q g.1) (fun g => g.2.elim q2 q3))]
    rw [lay, bX_some]
    by_cases q : (C 24 (5 * a) = C 24 (5 * (a + 1 + i)) ∧ C 24 (5 * a) < 2) ∨ (C 24 (5 * a) ≠ C 24 (5 * (a + 1 + i)) ∧ (C 24 (5 * a) = 2 ∨ C 24 (5 * (a + 1 + i)) = 2))
    · rw [if_pos q, if_pos (by decide), k_meet hz hk rfl wB ha hb, bX_some]
      by_cases q2 : bMet C a (a + 1 + i)
      · rw [if_pos q2, if_pos (by decide), bX_some, if_pos rfl]
        refine WP_call (WP_call (k_join16 b3 hN.2 (show a < N by omega) (show a + 1 + i < N by omega)) (fun x hx => WP_some.2 hx)) (fun x hx => ?_)
        obtain ⟨⟨f'', u⟩, c⟩ := hx
        refine step x (b2.tr c (by omega) (by omega)) ⟨f'', u.cg (fun _ => rfl) (fun x y => ?_)⟩
        unfold E1
        constructor
        · rintro (⟨q1, q3⟩ | ⟨rfl, rfl⟩)
          · exact ⟨q1, by omega⟩
          · exact ⟨⟨by omega, hb, q, q2⟩, by omega⟩
        · rintro ⟨q1, q3⟩
          by_cases l : x = a ∧ y = a + 1 + i
          · exact .inr l
          · exact .inl ⟨q1, by omega⟩
      · rw [if_neg q2, if_neg (by decide), bX_some, if_neg (by decide), bX_some]
        exact step z2 b2 ⟨f', no (fun g => q2 g.2)⟩
    · rw [if_neg q, if_neg (by decide), bX_some, if_neg (by decide), bX_some]
      exact step z2 b2 ⟨f', no (fun g => q g.1)⟩
  · obtain ⟨z1, z2⟩ := z
    obtain ⟨b1, b2, f', b3⟩ := hI
    dsimp only at b1 b2 b3
    subst b1
    unfold mX16_gather_L47
    dsimp only
    rw [h0, w32_id (by omega), w32_id (by omega), if_neg (by omega)]
    refine WP_some.2 ⟨b2, f', final _ _ ?_⟩
    rw [show a + 1 + (kBx C - (a + 1)) = kBx C by omega] at b3
    exact b3
theorem k_gather208 (h : KGa k C S) (hk : k < 4) (wB : WFB C) (hB : C 23 0 ≠ -1) {N : Nat} (hN : kBx C + kPn C ≤ N ∧ N ≤ 2640) {p : Nat} (hp : p < kPn C) (hx : 0 ≤ pvX C p ∧ pvX C p ≤ 100) (hy : 0 ≤ pvY C p ∧ pvY C p ≤ 100) {E : Nat → Nat → Prop} {f : Nat → Nat} (hf : UFs S 241 N (fun x y => E x y ∨ E2 C p 0 x y) f) {S0 : Sto} (h0 : gI S0 (344 + 22 * k) 20 = (kBx C : Int)) {T : Sto} :
    WP (lpF (mX16_gather_L208 S0 (344 + 22 * k) (pvX C p) (pvY C p) ((p : Int), T)) (0, S)) (fun z => Ch 241 241 S z ∧ ∃ f', UFs z 241 N (fun x y => E x y ∨ E2 C (p + 1) 0 x y) f') := by
  obtain ⟨nb, nb2⟩ := kBx_e wB hB
  refine WP_cnt (kBx C) (fun b z => z.1 = (b : Int) ∧ Ch 241 241 S z.2 ∧ ∃ f', UFs z.2 241 N (fun x y => E x y ∨ E2 C p b x y) f') (by unfold cFU; omega) ⟨rfl, Ch.refl, f, hf⟩ (fun b z hb hI => ?_) (fun z hI => ?_)
  · obtain ⟨z1, z2⟩ := z
    obtain ⟨b1, b2, f', b3⟩ := hI
    dsimp only at b1 b2 b3
    subst b1
    have hz := (h.ch b2 (by omega)).1
    unfold mX16_gather_L208
    dsimp only
    rw [h0, w32_id (by omega), w32_id (by omega), if_pos (by omega), k_covers hz hk wB hb (by omega) (by omega), bX_some]
    by_cases q : bCv C b (4 * pvX C p) (4 * pvY C p)
    · rw [if_pos q, if_pos (by decide)]
      have ep : (kBx C : Int) + (p : Int) = ((kBx C + p : Nat) : Int) := by omega
      rw [ep]
      refine WP_call (R := fun y => Ch 241 241 S y ∧ ∃ f'', UFs y 241 N (fun x y => E x y ∨ E2 C p (b + 1) x y) f'') ?_ (fun y hy => WP_some.2 ⟨by show (b : Int) + 1 = _; omega, hy⟩)
      refine WP_call (k_join16 b3 hN.2 (show kBx C + p < N by omega) (show b < N by omega)) (fun x hx => WP_some.2 ?_)
      obtain ⟨⟨f'', u⟩, c⟩ := hx
      refine ⟨b2.tr c (by omega) (by omega), f'', u.cg (fun _ => rfl) (fun x y => ?_)⟩
      constructor
      · rintro ((g | ⟨r, r1, r2, r3, r4, r5⟩) | ⟨rfl, rfl⟩)
        · exact .inl g
        · exact .inr ⟨r, r1, r2, r3, r4, by omega⟩
        · exact .inr ⟨p, rfl, hb, hp, q, by omega⟩
      · rintro (g | ⟨r, r1, r2, r3, r4, r5⟩)
        · exact .inl (.inl g)
        · by_cases l : r = p ∧ y = b
          · obtain ⟨rfl, rfl⟩ := l; exact .inr ⟨r1, rfl⟩
          · exact .inl (.inr ⟨r, r1, r2, r3, r4, by omega⟩)
    · rw [if_neg q, if_neg (by decide), bX_some]
      refine WP_some.2 ⟨by show (b : Int) + 1 = _; omega, b2, f', b3.cg (fun _ => rfl) (fun x y => ?_)⟩
      constructor
      · rintro (g | ⟨r, r1, r2, r3, r4, r5⟩)
        · exact .inl g
        · exact .inr ⟨r, r1, r2, r3, r4, by omega⟩
      · rintro (g | ⟨r, r1, r2, r3, r4, r5⟩)
        · exact .inl g
        · by_cases l : r = p ∧ y = b
          · obtain ⟨rfl, rfl⟩ := l; exact absurd r4 q
          · exact .inr ⟨r, r1, r2, r3, r4, by omega⟩
  · obtain ⟨z1, z2⟩ := z
    obtain ⟨b1, b2, f', b3⟩ := hI
    dsimp only at b1 b2 b3
    subst b1
    unfold mX16_gather_L208
    dsimp only
    rw [h0, w32_id (by omega), if_neg (by omega)]
    refine WP_some.2 ⟨b2, f', b3.cg (fun _ => rfl) (fun x y => ?_)⟩
    constructor
    · rintro (g | ⟨r, r1, r2, r3, r4, r5⟩)
      · exact .inl g
      · exact .inr ⟨r, r1, r2, r3, r4, by omega⟩
    · rintro (g | ⟨r, r1, r2, r3, r4, r5⟩)
      · exact .inl g
      · exact .inr ⟨r, r1, r2, r3, r4, by omega⟩
end KGATHER
