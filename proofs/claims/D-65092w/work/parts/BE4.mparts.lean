/-! what hangs together: the reference -/
def ER (C : Chp) (a b q x y : Nat) : Prop := (x < y ∧ y < kBx C ∧ bJn C x y ∧ (x < a ∨ (x = a ∧ y < b))) ∨ ∃ p, y = kBx C + p ∧ x < kBx C ∧ p < kPn C ∧ bCv C x (4 * pvX C p) (4 * pvY C p) ∧ (x < a ∨ (x = a ∧ p < q))
theorem ER_all {C : Chp} {x y : Nat} : (EAll C x y → ER C (kBx C) 0 0 x y ∨ ER C (kBx C) 0 0 y x) ∧ (ER C (kBx C) 0 0 x y → EAll C x y ∨ EAll C y x) := by
  constructor
  · rintro (⟨h1, h2, h3⟩ | ⟨q, h1, h2, h3, h4⟩)
    · exact .inl (.inl ⟨h1, h2, h3, .inl (by omega)⟩)
    · exact .inr (.inr ⟨q, h1, h2, h3, h4, .inl h2⟩)
  · rintro (⟨h1, h2, h3, _⟩ | ⟨q, h1, h2, h3, h4, _⟩)
    · exact .inl (.inl ⟨h1, h2, h3⟩)
    · exact .inr (.inr ⟨q, h1, h2, h3, h4⟩)
section MPARTS
variable {S : Sto} {k : Nat} {C : Chp} {N : Nat}
theorem m_joined (h : MBx S k C) (wB : WFB C) (hk : k < 4) {a b : Nat} (ha : a < kBx C) (hb : b < kBx C) : mX23_areJoined S (k : Int) (a : Int) (b : Int) = some (if bJn C a b then 1 else 0) := by
  obtain ⟨e0, _⟩ := m_sides h wB hk ha
  obtain ⟨f0, _⟩ := m_sides h wB hk hb
  have rg := wB.2 a ha
  have rh := wB.2 b hb
  unfold mX23_areJoined
  rw [e0, f0, bX_some, bX_some, w32_id (by omega), w32_id (by omega)]
  have lay : (if C 24 (5 * a) = C 24 (5 * b) then if C 24 (5 * a) < 2 then some (1 : Int) else some 0 else bX (if ¬ C 24 (5 * a) = 2 then if C 24 (5 * b) = 2 then some true else some false else some true) fun b => if b = true then some 1 else some 0) = some (if (C 24 (5 * a) = C 24 (5 * b) ∧ C 24 (5 * a) < 2) ∨ (C 24 (5 * a) ≠ C 24 (5 * b) ∧ (C 24 (5 * a) = 2 ∨ C 24 (5 * b) = 2)) then 1 else 0) := by
    by_cases q : C 24 (5 * a) = C 24 (5 * b)
    · rw [if_pos q]
      by_cases q2 : C 24 (5 * a) < 2
      · rw [if_pos q2, if_pos (.inl ⟨q, q2⟩)]
      · rw [if_neg q2, if_neg (fun g => g.elim (fun g => q2 g.2) (fun g => g.1 q))]
    · rw [if_neg q]
      by_cases q2 : C 24 (5 * a) = 2
      · rw [if_neg (fun g => g q2), bX_some, if_pos rfl, if_pos (.inr ⟨q, .inl q2⟩)]
      · rw [if_pos q2]
        by_cases q3 : C 24 (5 * b) = 2
        · rw [if_pos q3, bX_some, if_pos rfl, if_pos (.inr ⟨q, .inr q3⟩)]
        · rw [if_neg q3, bX_some, if_neg (by decide), if_neg (fun g => g.elim (fun g => q g.1) (fun g => g.2.elim q2 q3))]
  rw [lay, bX_some]
  by_cases q : (C 24 (5 * a) = C 24 (5 * b) ∧ C 24 (5 * a) < 2) ∨ (C 24 (5 * a) ≠ C 24 (5 * b) ∧ (C 24 (5 * a) = 2 ∨ C 24 (5 * b) = 2))
  · rw [if_pos q, if_pos (by decide), m_areMet h wB hk ha hb, bX_some]
    by_cases m : bMet C a b
    · rw [if_pos m, if_pos (by decide), bX_some, if_pos rfl, bX_some, gz_1, if_pos ⟨q, m⟩]
    · rw [if_neg m, if_neg (by decide), bX_some, if_neg (by decide), bX_some, gz_0, if_neg (fun g => m g.2)]
  · rw [if_neg q, if_neg (by decide), bX_some, if_neg (by decide), bX_some, gz_0, if_neg (fun g => q g.1)]
theorem m_isIn (h : MBx S k C) (wB : WFB C) (hk : k < 4) {b : Nat} (hb : b < kBx C) {x y : Int} (hx : -1000 ≤ x ∧ x ≤ 1000) (hy : -1000 ≤ y ∧ y ≤ 1000) : mX23_isIn S (k : Int) (b : Int) x y = some (if bCv C b x y then 1 else 0) := by
  obtain ⟨e0, e1, e2, e3, e4⟩ := m_sides h wB hk hb
  have w := wB.2 b hb
  unfold mX23_isIn
  rw [e0, bX_some, w32_id (by omega)]
  by_cases q0 : C 24 (5 * b) = 0
  · rw [if_pos q0, e1, bX_some, w32_id (by omega), w32_id (by omega)]
    by_cases q1 : C 24 (5 * b + 1) ≤ x
    · rw [if_pos q1, e3, bX_some, w32_id (by omega)]
      by_cases q2 : x ≤ C 24 (5 * b + 3)
      · rw [if_pos q2, e2, bX_some, w32_id (by omega), w32_id (by omega)]
        by_cases q3 : C 24 (5 * b + 2) ≤ y
        · rw [if_pos q3, e4, bX_some, w32_id (by omega)]
          by_cases q4 : y ≤ C 24 (5 * b + 4)
          · rw [if_pos q4, bX_some, if_pos rfl, bX_some, if_pos ⟨q0, q1, q2, q3, q4⟩]; rfl
          · rw [if_neg q4, bX_some, if_neg (by decide), bX_some, if_neg (fun g => q4 g.2.2.2.2)]; rfl
        · rw [if_neg q3, bX_some, if_neg (by decide), bX_some, if_neg (fun g => q3 g.2.2.2.1)]; rfl
      · rw [if_neg q2, bX_some, if_neg (by decide), bX_some, if_neg (fun g => q2 g.2.2.1)]; rfl
    · rw [if_neg q1, bX_some, if_neg (by decide), bX_some, if_neg (fun g => q1 g.2.1)]; rfl
  · rw [if_neg q0, bX_some, if_neg (by decide), bX_some, if_neg (fun g => q0 g.1)]; rfl
theorem m_parts14 (hc0 : gI S 2000 159 = (kPn C : Int)) (hn : kBx C ≤ 2000) (hP : kPn C ≤ 640) (hN : N = kBx C + kPn C) :
    WP (lpF (mX23_findParts_L14 (kBx C : Int)) (0, S)) (fun z => Ch 2149 2149 S z ∧ ∃ f, UFs z 2149 N (fun _ _ => False) f) := by
  refine WP_cnt N (fun i z => z.1 = (i : Int) ∧ Ch 2149 2149 S z.2 ∧ ∀ x, x < i → gI z.2 2149 x = (x : Int)) (by unfold cFU; omega) ⟨rfl, Ch.refl, fun x hx => absurd hx (by omega)⟩ (fun i z hi hI => ?_) (fun z hI => ?_)
  · obtain ⟨z1, z2⟩ := z
    obtain ⟨b1, b2, b3⟩ := hI
    dsimp only at b1 b2 b3
    subst b1
    have hc : gI z2 2000 159 = (kPn C : Int) := (b2.1 _ _ (by omega)).trans hc0
    unfold mX23_findParts_L14
    dsimp only
    rw [hc, w32_id (by omega), w32_id (by omega), if_pos (by omega), wrI_e (by omega), Int.toNat_natCast]
    refine WP_some.2 ⟨by show (i : Int) + 1 = _; omega, b2.sI (by omega), fun x hx => ?_⟩
    by_cases q : x = i
    · subst q
      show gI (sI z2 2149 x (x : Int)) 2149 x = _
      rw [gI_set, w32_id (by omega)]
    · show gI (sI z2 2149 i (i : Int)) 2149 x = _
      rw [hI_sI_i q]; exact b3 x (by omega)
  · obtain ⟨z1, z2⟩ := z
    obtain ⟨b1, b2, b3⟩ := hI
    dsimp only at b1 b2 b3
    subst b1
    have hc : gI z2 2000 159 = (kPn C : Int) := (b2.1 _ _ (by omega)).trans hc0
    unfold mX23_findParts_L14
    dsimp only
    rw [hc, w32_id (by omega), w32_id (by omega), if_neg (by omega)]
    exact WP_some.2 ⟨b2, fun x => x, fun x hx => ⟨x, b3 x hx, Nat.le_refl _, rfl, ⟨fun _ => rfl, fun _ => rfl⟩, Nat.le_refl _⟩, fun a b e => e.elim, fun g _ x _ => rfl⟩
theorem m_parts49 (h : MBx S k C) (wB : WFB C) (hk : k < 4) (hn : kBx C ≤ 2000) (hN : kBx C ≤ N ∧ N ≤ 2700) {a : Nat} (ha : a < kBx C) {f : Nat → Nat} (hf : UFs S 2149 N (ER C a (a + 1) 0) f) {T : Sto} :
    WP (lpF (mX23_findParts_L49 (kBx C : Int) (k : Int) ((a : Int), T)) ((a : Int) + 1, S)) (fun z => Ch 2149 2149 S z ∧ ∃ f', UFs z 2149 N (ER C a (kBx C) 0) f') := by
  refine WP_cnt (kBx C - (a + 1)) (fun i z => z.1 = ((a + 1 + i : Nat) : Int) ∧ Ch 2149 2149 S z.2 ∧ ∃ f', UFs z.2 2149 N (ER C a (a + 1 + i) 0) f') (by unfold cFU; omega) ⟨by show (a : Int) + 1 = _; omega, Ch.refl, f, hf⟩ (fun i z hi hI => ?_) (fun z hI => ?_)
  · obtain ⟨z1, z2⟩ := z
    obtain ⟨b1, b2, f', b3⟩ := hI
    dsimp only at b1 b2 b3
    subst b1
    have hz := h.ch b2 (by omega)
    have hb : a + 1 + i < kBx C := by omega
    unfold mX23_findParts_L49
    dsimp only
    rw [w32_id (by omega), w32_id (by omega), if_pos (by omega), m_joined hz wB hk ha hb, bX_some]
    by_cases q : bJn C a (a + 1 + i)
    · rw [if_pos q, if_pos (by decide)]
      refine WP_call (R := fun y => Ch 2149 2149 S y ∧ ∃ f'', UFs y 2149 N (ER C a (a + 1 + (i + 1)) 0) f'') ?_ (fun y hy => WP_some.2 ⟨by show ((a + 1 + i : Nat) : Int) + 1 = _; omega, hy⟩)
      refine WP_call (m_unite b3 hN.2 (show a < N by omega) (show a + 1 + i < N by omega)) (fun x hx => WP_some.2 ?_)
      obtain ⟨⟨f'', u⟩, c⟩ := hx
      refine ⟨b2.tr c (by omega) (by omega), f'', u.cg (fun _ => rfl) (fun x y => ?_)⟩
      constructor
      · rintro ((⟨g1, g2, g3, g4⟩ | ⟨p, g1, g2, g3, g4, g5⟩) | ⟨rfl, rfl⟩)
        · exact .inl ⟨g1, g2, g3, by omega⟩
        · exact .inr ⟨p, g1, g2, g3, g4, g5⟩
        · exact .inl ⟨by omega, hb, q, by omega⟩
      · rintro (⟨g1, g2, g3, g4⟩ | ⟨p, g1, g2, g3, g4, g5⟩)
        · by_cases l : x = a ∧ y = a + 1 + i
          · exact .inr l
          · exact .inl (.inl ⟨g1, g2, g3, by omega⟩)
        · exact .inl (.inr ⟨p, g1, g2, g3, g4, g5⟩)
    · rw [if_neg q, if_neg (by decide), bX_some]
      refine WP_some.2 ⟨by show ((a + 1 + i : Nat) : Int) + 1 = _; omega, b2, f', b3.cg (fun _ => rfl) (fun x y => ?_)⟩
      constructor
      · rintro (⟨g1, g2, g3, g4⟩ | ⟨p, g1, g2, g3, g4, g5⟩)
        · exact .inl ⟨g1, g2, g3, by omega⟩
        · exact .inr ⟨p, g1, g2, g3, g4, g5⟩
      · rintro (⟨g1, g2, g3, g4⟩ | ⟨p, g1, g2, g3, g4, g5⟩)
        · by_cases l : x = a ∧ y = a + 1 + i
          · obtain ⟨rfl, rfl⟩ := l; exact absurd g3 q
          · exact .inl ⟨g1, g2, g3, by omega⟩
        · exact .inr ⟨p, g1, g2, g3, g4, g5⟩
  · obtain ⟨z1, z2⟩ := z
    obtain ⟨b1, b2, f', b3⟩ := hI
    dsimp only at b1 b2 b3
    subst b1
    unfold mX23_findParts_L49
    dsimp only
    rw [w32_id (by omega), w32_id (by omega), if_neg (by omega)]
    rw [show a + 1 + (kBx C - (a + 1)) = kBx C by omega] at b3
    exact WP_some.2 ⟨b2, f', b3⟩
theorem m_parts82 (h : MBx S k C) (hM : MPins S C (kPins C)) (w : WFC C) (wp : WFP C) (wB : WFB C) (hP0 : C 16 0 ≠ 0) (hk : k < 4) (hn : kBx C ≤ 2000) (hP : kPn C ≤ 640) (hN : kBx C + kPn C ≤ N ∧ N ≤ 2700) {a : Nat} (ha : a < kBx C) {f : Nat → Nat} (hf : UFs S 2149 N (ER C a (kBx C) 0) f) {T : Sto} :
    WP (lpF (mX23_findParts_L82 (k : Int) ((a : Int), T) (kBx C : Int)) (0, S)) (fun z => Ch 2149 2149 S z ∧ ∃ f', UFs z 2149 N (ER C (a + 1) (a + 1 + 1) 0) f') := by
  refine WP_cnt (kPn C) (fun p z => z.1 = (p : Int) ∧ Ch 2149 2149 S z.2 ∧ ∃ f', UFs z.2 2149 N (ER C a (kBx C) p) f') (by unfold cFU; omega) ⟨rfl, Ch.refl, f, hf⟩ (fun p z hp hI => ?_) (fun z hI => ?_)
  · obtain ⟨z1, z2⟩ := z
    obtain ⟨b1, b2, f', b3⟩ := hI
    dsimp only at b1 b2 b3
    subst b1
    have hz := h.ch b2 (by omega)
    have hc : gI z2 2000 159 = (kPn C : Int) := (b2.1 _ _ (by omega)).trans hM.1
    have mp := (hM.2 p hp).2 hP0
    have ex : gI z2 2127 p = pvX C p := (b2.1 _ _ (by omega)).trans mp.1
    have ey : gI z2 2128 p = pvY C p := (b2.1 _ _ (by omega)).trans mp.2
    have rg := pXY_rng w wp hP0 hp
    have r1 := kS_le wp
    have r2 := kH_le w wp
    have ep : (kBx C : Int) + (p : Int) = ((kBx C + p : Nat) : Int) := by omega
    unfold mX23_findParts_L82
    dsimp only
    rw [hc, w32_id (by omega), w32_id (by omega), if_pos (by omega), rdI_e (by omega), Int.toNat_natCast, ex, rdI_e (by omega), Int.toNat_natCast, ey, m_isIn hz wB hk ha (by omega) (by omega), bX_some]
    by_cases q : bCv C a (4 * pvX C p) (4 * pvY C p)
    · rw [if_pos q, if_pos (by decide), ep]
      refine WP_call (R := fun y => Ch 2149 2149 S y ∧ ∃ f'', UFs y 2149 N (ER C a (kBx C) (p + 1)) f'') ?_ (fun y hy => WP_some.2 ⟨by show (p : Int) + 1 = _; omega, hy⟩)
      refine WP_call (m_unite b3 hN.2 (show a < N by omega) (show kBx C + p < N by omega)) (fun x hx => WP_some.2 ?_)
      obtain ⟨⟨f'', u⟩, c⟩ := hx
      refine ⟨b2.tr c (by omega) (by omega), f'', u.cg (fun _ => rfl) (fun x y => ?_)⟩
      constructor
      · rintro ((⟨g1, g2, g3, g4⟩ | ⟨r, g1, g2, g3, g4, g5⟩) | ⟨rfl, rfl⟩)
        · exact .inl ⟨g1, g2, g3, g4⟩
        · exact .inr ⟨r, g1, g2, g3, g4, by omega⟩
        · exact .inr ⟨p, rfl, ha, hp, q, by omega⟩
      · rintro (⟨g1, g2, g3, g4⟩ | ⟨r, g1, g2, g3, g4, g5⟩)
        · exact .inl (.inl ⟨g1, g2, g3, g4⟩)
        · by_cases l : x = a ∧ r = p
          · obtain ⟨rfl, rfl⟩ := l; exact .inr ⟨rfl, g1⟩
          · exact .inl (.inr ⟨r, g1, g2, g3, g4, by omega⟩)
    · rw [if_neg q, if_neg (by decide), bX_some]
      refine WP_some.2 ⟨by show (p : Int) + 1 = _; omega, b2, f', b3.cg (fun _ => rfl) (fun x y => ?_)⟩
      constructor
      · rintro (⟨g1, g2, g3, g4⟩ | ⟨r, g1, g2, g3, g4, g5⟩)
        · exact .inl ⟨g1, g2, g3, g4⟩
        · exact .inr ⟨r, g1, g2, g3, g4, by omega⟩
      · rintro (⟨g1, g2, g3, g4⟩ | ⟨r, g1, g2, g3, g4, g5⟩)
        · exact .inl ⟨g1, g2, g3, g4⟩
        · by_cases l : x = a ∧ r = p
          · obtain ⟨rfl, rfl⟩ := l; exact absurd g4 q
          · exact .inr ⟨r, g1, g2, g3, g4, by omega⟩
  · obtain ⟨z1, z2⟩ := z
    obtain ⟨b1, b2, f', b3⟩ := hI
    dsimp only at b1 b2 b3
    subst b1
    have hc : gI z2 2000 159 = (kPn C : Int) := (b2.1 _ _ (by omega)).trans hM.1
    unfold mX23_findParts_L82
    dsimp only
    rw [hc, w32_id (by omega), if_neg (by omega)]
    refine WP_some.2 ⟨b2, f', b3.cg (fun _ => rfl) (fun x y => ?_)⟩
    constructor
    · rintro (⟨g1, g2, g3, g4⟩ | ⟨r, g1, g2, g3, g4, g5⟩)
      · exact .inl ⟨g1, g2, g3, by omega⟩
      · exact .inr ⟨r, g1, g2, g3, g4, by omega⟩
    · rintro (⟨g1, g2, g3, g4⟩ | ⟨r, g1, g2, g3, g4, g5⟩)
      · exact .inl ⟨g1, g2, g3, by omega⟩
      · exact .inr ⟨r, g1, g2, g3, g4, by omega⟩
theorem m_parts39 (h : MBx S k C) (hM : MPins S C (kPins C)) (w : WFC C) (wp : WFP C) (wB : WFB C) (hP0 : C 16 0 ≠ 0) (hk : k < 4) (hn : kBx C ≤ 2000) (hP : kPn C ≤ 640) (hN : kBx C + kPn C ≤ N ∧ N ≤ 2700) {f : Nat → Nat} (hf : UFs S 2149 N (fun _ _ => False) f) :
    WP (lpF (mX23_findParts_L39 (kBx C : Int) (k : Int)) (0, S)) (fun z => Ch 2149 2149 S z ∧ ∃ f', UFs z 2149 N (ER C (kBx C) 0 0) f') := by
  refine WP_cnt (kBx C) (fun a z => z.1 = (a : Int) ∧ Ch 2149 2149 S z.2 ∧ ∃ f', UFs z.2 2149 N (ER C a (a + 1) 0) f') (by unfold cFU; omega) ⟨rfl, Ch.refl, f, hf.cg (fun _ => rfl) (fun x y => ⟨fun g => g.elim, fun g => by rcases g with ⟨g1, g2, g3, g4⟩ | ⟨r, g1, g2, g3, g4, g5⟩ <;> omega⟩)⟩ (fun a z ha hI => ?_) (fun z hI => ?_)
  · obtain ⟨z1, z2⟩ := z
    obtain ⟨b1, b2, f', b3⟩ := hI
    dsimp only at b1 b2 b3
    subst b1
    unfold mX23_findParts_L39
    dsimp only
    rw [w32_id (by omega), w32_id (by omega), if_pos (by omega)]
    refine WP_call (m_parts49 (h.ch b2 (by omega)) wB hk hn (by omega) ha b3) (fun x hx => ?_)
    obtain ⟨c1, f1, u1⟩ := hx
    have c1' := b2.tr c1 (by omega) (by omega)
    have hM' : MPins x C (kPins C) := ⟨(c1'.1 _ _ (by omega)).trans hM.1, fun p hp => ⟨(c1'.1 _ _ (by omega)).trans (hM.2 p hp).1, fun g => ⟨(c1'.1 _ _ (by omega)).trans ((hM.2 p hp).2 g).1, (c1'.1 _ _ (by omega)).trans ((hM.2 p hp).2 g).2⟩⟩⟩
    refine WP_call (m_parts82 (h.ch c1' (by omega)) hM' w wp wB hP0 hk hn hP hN ha u1) (fun y hy => WP_some.2 ?_)
    exact ⟨by show (a : Int) + 1 = _; omega, c1'.tr hy.1 (by omega) (by omega), hy.2⟩
  · obtain ⟨z1, z2⟩ := z
    obtain ⟨b1, b2, f', b3⟩ := hI
    dsimp only at b1 b2 b3
    subst b1
    unfold mX23_findParts_L39
    dsimp only
    rw [w32_id (by omega), if_neg (by omega)]
    refine WP_some.2 ⟨b2, f', b3.cg (fun _ => rfl) (fun x y => ?_)⟩
    constructor
    · rintro (⟨g1, g2, g3, g4⟩ | ⟨r, g1, g2, g3, g4, g5⟩)
      · exact .inl ⟨g1, g2, g3, by omega⟩
      · exact .inr ⟨r, g1, g2, g3, g4, by omega⟩
    · rintro (⟨g1, g2, g3, g4⟩ | ⟨r, g1, g2, g3, g4, g5⟩)
      · exact .inl ⟨g1, g2, g3, by omega⟩
      · exact .inr ⟨r, g1, g2, g3, g4, by omega⟩
theorem m_findParts (r : RefK S k C) (rP : RefP S k C) (h : MBx S k C) (w : WFC C) (wp : WFP C) (wB : WFB C) (hB : C 23 0 ≠ -1) (hP0 : C 16 0 ≠ 0) (hk : k < 4) (hP : kPn C ≤ 640) :
    WP (mX23_findParts S (k : Int)) (fun z => MBx z k C ∧ MPins z C (kPins C) ∧ ∃ f, UFs z 2149 (kBx C + kPn C) (ER C (kBx C) 0 0) f) := by
  obtain ⟨nb, nb2⟩ := kBx_e wB hB
  unfold mX23_findParts
  refine WP_callF (m_gather r rP w wp hk) fr_mX23_gatherPins (fun x1 hM hf => ?_)
  have hx1 : MBx x1 k C := ⟨(hf.ei rfl).trans h.1, fun i hi => (hf.ei rfl).trans (h.2 i hi)⟩
  rw [rdI_e (by omega), Int.toNat_natCast, hx1.1, nb]
  have hc : gI x1 2000 159 = (kPn C : Int) := hM.1
  refine WP_call (m_parts14 hc nb2 hP rfl) (fun x2 h2 => ?_)
  obtain ⟨c2, f2, u2⟩ := h2
  have hM2 : MPins x2 C (kPins C) := ⟨(c2.1 _ _ (by omega)).trans hM.1, fun p hp => ⟨(c2.1 _ _ (by omega)).trans (hM.2 p hp).1, fun g => ⟨(c2.1 _ _ (by omega)).trans ((hM.2 p hp).2 g).1, (c2.1 _ _ (by omega)).trans ((hM.2 p hp).2 g).2⟩⟩⟩
  refine WP_call (m_parts39 (hx1.ch c2 (by omega)) hM2 w wp wB hP0 hk nb2 hP (by omega) u2) (fun x3 h3 => WP_some.2 ?_)
  obtain ⟨c3, f3, u3⟩ := h3
  exact ⟨(hx1.ch c2 (by omega)).ch c3 (by omega), ⟨(c3.1 _ _ (by omega)).trans hM2.1, fun p hp => ⟨(c3.1 _ _ (by omega)).trans (hM2.2 p hp).1, fun g => ⟨(c3.1 _ _ (by omega)).trans ((hM2.2 p hp).2 g).1, (c3.1 _ _ (by omega)).trans ((hM2.2 p hp).2 g).2⟩⟩⟩, f3, u3⟩
end MPARTS
