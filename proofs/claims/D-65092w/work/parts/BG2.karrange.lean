/-! wires of a chip: the class begins -/
section KARRANGE
variable {S z : Sto} {k : Nat} {C R : Chp} {n c : Nat} {a : Nat → Nat}
theorem k_arr70 (hc : c < 162) (hn : n < kN C) (hN : kN C ≤ 162) (hm : ∀ i, i < c → gI S 238 i = (a i : Int)) (hv : ∀ i, i < c → a i < kN C ∧ gI S 239 (a i) = kWire C (a i) ∧ 0 ≤ kWire C (a i) ∧ kWire C (a i) ≤ 100) (hw : gI S 239 n = kWire C n ∧ 0 ≤ kWire C n ∧ kWire C n ≤ 100) {T : Sto} :
    WP (lpF (mX15_arrange_L70 ((n : Int), T)) ((c : Int), S)) (fun z => ∃ j : Nat, z.1 = (j : Int) ∧ j ≤ c ∧ Ch 238 238 S z.2 ∧ ∀ i, i ≤ c → (if i = j then (n : Int) else gI z.2 238 i) = (insF (kWire C) n c a i : Int)) := by
  refine WP_lpM (fun s j => ∃ a', s.1 = (j : Int) ∧ j ≤ c ∧ Ch 238 238 S s.2 ∧ (∀ i, i ≤ c → i ≠ j → gI s.2 238 i = (a' i : Int) ∧ a' i < kN C ∧ gI S 239 (a' i) = kWire C (a' i) ∧ 0 ≤ kWire C (a' i) ∧ kWire C (a' i) ≤ 100) ∧ insF (kWire C) n j a' = insF (kWire C) n c a) (fun s j hI => ?_) (m := c) ⟨a, rfl, Nat.le_refl _, Ch.refl, fun i h1 h2 => ⟨hm i (by omega), hv i (by omega)⟩, rfl⟩ (by unfold cFU; omega)
  obtain ⟨z1, z2⟩ := s
  obtain ⟨a', b1, b2, b3, b4, b5⟩ := hI
  dsimp only at b1 b3 b4
  subst b1
  have w239 : ∀ i, gI z2 239 i = gI S 239 i := fun i => b3.1 _ _ (by omega)
  unfold mX15_arrange_L70
  dsimp only
  rw [w32_id (by omega)]
  cases j with
  | zero =>
    rw [if_neg (by omega), bX_some, if_neg (by decide)]
    refine WP_some.2 ⟨0, rfl, by omega, b3, fun i hi => ?_⟩
    rw [← b5]
    show _ = ((updN a' 0 n i : Nat) : Int)
    by_cases e : i = 0
    · rw [if_pos e, e, updN_eq]
    · rw [if_neg e, updN_ne e]; exact (b4 i hi e).1
  | succ j =>
    obtain ⟨p1, p2, p3, p4, p5⟩ := b4 j (by omega) (by omega)
    have ej : ((j + 1 : Nat) : Int) - 1 = (j : Int) := by omega
    have es : insF (kWire C) n (j + 1) a' = if kWire C n < kWire C (a' j) then insF (kWire C) n j (updN a' (j + 1) (a' j)) else updN a' (j + 1) n := rfl
    rw [if_pos (by omega), ej, rdI_e (by omega), Int.toNat_natCast, p1, rdI_e (by omega), Int.toNat_natCast, w239, p3, rdI_e (by omega), Int.toNat_natCast, w239, hw.1, w32_id (by omega), w32_id (by omega)]
    by_cases q : kWire C n < kWire C (a' j)
    · rw [if_pos q] at es
      rw [if_pos q, bX_some, if_pos rfl, rdI_e (by omega), Int.toNat_natCast, p1, wrI_e (by omega), Int.toNat_natCast]
      refine WP_some.2 ⟨j, by omega, updN a' (j + 1) (a' j), by show ((j + 1 : Nat) : Int) + -1 = _; omega, by omega, b3.sI (by omega), fun i h1 h2 => ?_, by rw [← es]; exact b5⟩
      dsimp only
      by_cases e : i = j + 1
      · rw [e, gI_set, updN_eq, w32_id (by omega)]; exact ⟨rfl, p2, p3, p4, p5⟩
      · rw [hI_sI_i e, updN_ne e]; exact b4 i h1 e
    · rw [if_neg q] at es
      rw [if_neg q, bX_some, if_neg (by decide)]
      refine WP_some.2 ⟨j + 1, rfl, b2, b3, fun i hi => ?_⟩
      rw [← b5, es]
      by_cases e : i = j + 1
      · rw [if_pos e, e, updN_eq]
      · rw [if_neg e, updN_ne e]; exact (b4 i hi e).1
theorem k_arrange (h1 : KRt S k C) (hp : KPp S k C) (r : RepK S (344 + 22 * k) C) (hk : k < 4) (w : WFC C) (wp : WFP C) (h0 : C 16 0 ≠ 0) (g : GSz C) : WP (mX15_arrange S) (fun z => KNw z C ∧ (∀ m, m < kN C → gI z (344 + 22 * k + 14) m = 0) ∧ ChC k S z ∧ (∀ i, gI z (344 + 22 * k + 12) i = gI S (344 + 22 * k + 12) i ∧ gI z (344 + 22 * k + 13) i = gI S (344 + 22 * k + 13) i)) := by
  have g7 := g.2.2.2.2.2.2.1
  unfold mX15_arrange
  rw [wf_eq]
  refine WP_call (R := fun z => KNw z C ∧ (∀ m, m < kN C → gI z (344 + 22 * k + 14) m = 0) ∧ ChC k S z ∧ (∀ i, gI z (344 + 22 * k + 12) i = gI S (344 + 22 * k + 12) i ∧ gI z (344 + 22 * k + 13) i = gI S (344 + 22 * k + 13) i)) ?_ (fun z hz => WP_some.2 hz)
  refine WP_cnt (kN C) (fun n s => s.1 = (n : Int) ∧ (gI s.2 229 16 = ((rowF C n).1 : Int) ∧ ∀ i, i < (rowF C n).1 → gI s.2 238 i = ((rowF C n).2 i : Int)) ∧ (∀ i, i < (rowF C n).1 → gI s.2 239 ((rowF C n).2 i) = kWire C ((rowF C n).2 i)) ∧ (∀ m, m < n → gI s.2 (344 + 22 * k + 14) m = 0) ∧ ChC k S s.2 ∧ (∀ i, gI s.2 (344 + 22 * k + 12) i = gI S (344 + 22 * k + 12) i ∧ gI s.2 (344 + 22 * k + 13) i = gI S (344 + 22 * k + 13) i)) (by unfold cFU; omega) ⟨rfl, ⟨by rw [gI_set]; rfl, fun i hi => absurd hi (Nat.not_lt_zero _)⟩, fun i hi => absurd hi (Nat.not_lt_zero _), fun m hm => absurd hm (by omega), ChC.ofD (ChD.refl.sI (by omega)), fun i => ⟨hI_sI_a (by omega), hI_sI_a (by omega)⟩⟩ (fun n s hn hI => ?_) (fun s hI => ?_)
  · obtain ⟨z1, z2⟩ := s
    obtain ⟨b1, ⟨b2, b3⟩, b4, b5, b6, b7⟩ := hI
    dsimp only at b1 b2 b3 b4 b5 b6 b7
    subst b1
    have rl := rowF_le (C := C) n
    have hz := h1.chC b6
    have pz := hp.chC b6
    have rz : RepK z2 (344 + 22 * k) C := by
      obtain ⟨t1, t2, t3, t4, t5, t6⟩ := r
      have cl : ∀ a i, 344 + 22 * k ≤ a → a ≤ 344 + 22 * k + 9 → gI z2 a i = gI S a i := fun a i l1 l2 => b6.1 a i (by omega) (by omega) (by omega) (by omega) (by omega)
      refine ⟨?_, fun g' hg' => ?_, fun g' hg' => ?_, fun g' hg' => ?_, fun g' hg' => ?_, fun g' hg' => ?_⟩
      · simp (disch := omega) only [cl]; exact t1
      · rw [cl _ _ (by omega) (by omega)]; exact t2 g' hg'
      · rw [cl _ _ (by omega) (by omega)]; exact t3 g' hg'
      · rw [cl _ _ (by omega) (by omega)]; exact t4 g' hg'
      · rw [cl _ _ (by omega) (by omega)]; exact t5 g' hg'
      · simp (disch := omega) only [cl]; exact t6 g' hg'
    have cO : ChO k z2 (sI z2 (344 + 22 * k + 14) n 0) := ChO.refl.sI (by omega)
    have hz6 := hz.chO cO
    have pz6 := pz.chC (ChC.ofO cO)
    have o14 : ∀ m, m < n + 1 → gI (sI z2 (344 + 22 * k + 14) n 0) (344 + 22 * k + 14) m = 0 := fun m hm => by
      by_cases e : m = n
      · rw [e, gI_set]; rfl
      · rw [hI_sI_i e]; exact b5 m (by omega)
    have mn : gI (sI z2 (344 + 22 * k + 14) n 0) 223 n = (kMany C n : Int) := (pz6.1.2.2 n hn).2
    have ml := pMany_le (f := kPf C) (n := n) (m := kPn C)
    have mr : kMany C n ≤ 640 := by have := g.2.2.2.2.2.2.2; unfold kMany; omega
    have es : rowF C (n + 1) = if kMany C n < 2 then rowF C n else ((rowF C n).1 + 1, insF (kWire C) n (rowF C n).1 (rowF C n).2) := rfl
    unfold mX15_arrange_L7
    dsimp only
    rw [hz.1.1, gk_chip hk, k_nets rz w, bX_some, w32_id (by omega), w32_id (by omega), if_pos (by omega), gk_chip hk, wrI_e (by omega), Int.toNat_natCast, rdI_e (by omega), Int.toNat_natCast, mn, w32_id (by omega)]
    by_cases q : kMany C n < 2
    · rw [if_pos q] at es
      rw [if_pos (by omega), bX_some, es]
      exact WP_some.2 ⟨by show (n : Int) + 1 = _; omega, ⟨by dsimp only; rw [hI_sI_a (by omega)]; exact b2, fun i hi => by dsimp only; rw [hI_sI_a (by omega)]; exact b3 i hi⟩, fun i hi => by dsimp only; rw [hI_sI_a (by omega)]; exact b4 i hi, o14, b6.tr (ChC.ofO cO), fun i => by dsimp only; rw [hI_sI_a (by omega), hI_sI_a (by omega)]; exact b7 i⟩
    · rw [if_neg q] at es
      have kr := kWire_rng w wp h0 n (by omega)
      rw [if_neg (by omega), k_wire pz6.1 hk rfl pz6.2.1 w wp pz6.2.2 h0 hn, bX_some, wrI_e (by omega), Int.toNat_natCast, wf_eq, hI_sI_a (by omega), hI_sI_a (by omega), b2]
      have m238 : ∀ i, i < (rowF C n).1 → gI (sI (sI (sI z2 (344 + 22 * k + 14) n 0) 239 n (kWire C n)) 229 16 (((rowF C n).1 : Int) + 1)) 238 i = ((rowF C n).2 i : Int) := fun i hi => by
        rw [hI_sI_a (by omega), hI_sI_a (by omega), hI_sI_a (by omega)]; exact b3 i hi
      have m239 : ∀ x, gI (sI (sI (sI z2 (344 + 22 * k + 14) n 0) 239 n (kWire C n)) 229 16 (((rowF C n).1 : Int) + 1)) 239 x = if x = n then kWire C n else gI z2 239 x := fun x => by
        rw [hI_sI_a (by omega)]
        by_cases e : x = n
        · rw [e, gI_set, if_pos rfl, w32_id (by omega)]
        · rw [hI_sI_i e, hI_sI_a (by omega), if_neg e]
      have m14 : ∀ m, m < n + 1 → gI (sI (sI (sI z2 (344 + 22 * k + 14) n 0) 239 n (kWire C n)) 229 16 (((rowF C n).1 : Int) + 1)) (344 + 22 * k + 14) m = 0 := fun m hm => by
        rw [hI_sI_a (by omega), hI_sI_a (by omega)]; exact o14 m hm
      have m16 : gI (sI (sI (sI z2 (344 + 22 * k + 14) n 0) 239 n (kWire C n)) 229 16 (((rowF C n).1 : Int) + 1)) 229 16 = ((rowF C n).1 : Int) + 1 := by rw [gI_set, w32_id (by omega)]
      have mC : ChC k S (sI (sI (sI z2 (344 + 22 * k + 14) n 0) 239 n (kWire C n)) 229 16 (((rowF C n).1 : Int) + 1)) := b6.tr ((ChC.ofO cO).tr (ChC.ofD ((ChD.refl.sI (by omega)).sI (by omega))))
      have m12 : ∀ i, gI (sI (sI (sI z2 (344 + 22 * k + 14) n 0) 239 n (kWire C n)) 229 16 (((rowF C n).1 : Int) + 1)) (344 + 22 * k + 12) i = gI S (344 + 22 * k + 12) i ∧ gI (sI (sI (sI z2 (344 + 22 * k + 14) n 0) 239 n (kWire C n)) 229 16 (((rowF C n).1 : Int) + 1)) (344 + 22 * k + 13) i = gI S (344 + 22 * k + 13) i := fun i => by
        rw [hI_sI_a (by omega), hI_sI_a (by omega), hI_sI_a (by omega), hI_sI_a (by omega), hI_sI_a (by omega), hI_sI_a (by omega)]; exact b7 i
      generalize sI (sI (sI z2 (344 + 22 * k + 14) n 0) 239 n (kWire C n)) 229 16 (((rowF C n).1 : Int) + 1) = y at m238 m239 m14 m16 mC m12 ⊢
      have hv : ∀ i, i < (rowF C n).1 → (rowF C n).2 i < kN C ∧ gI y 239 ((rowF C n).2 i) = kWire C ((rowF C n).2 i) ∧ 0 ≤ kWire C ((rowF C n).2 i) ∧ kWire C ((rowF C n).2 i) ≤ 100 := fun i hi => by
        have l := row_lt hi
        have kr' := kWire_rng w wp h0 ((rowF C n).2 i) (by omega)
        exact ⟨by omega, by rw [m239, if_neg (by omega)]; exact b4 i hi, kr'.1, kr'.2⟩
      refine WP_call (R := fun (x : Sto) => Ch 238 238 y x ∧ ∀ i, i ≤ (rowF C n).1 → gI x 238 i = (insF (kWire C) n (rowF C n).1 (rowF C n).2 i : Int)) (WP_call (k_arr70 (by omega) hn g7 m238 hv ⟨by rw [m239, if_pos rfl], kr.1, kr.2⟩) (fun x hx => ?_)) (fun x hx => ?_)
      · obtain ⟨j, x1, x2, x3, x4⟩ := hx
        rw [x1, wrI_e (by omega), Int.toNat_natCast]
        refine WP_some.2 ⟨x3.sI (by omega), fun i hi => ?_⟩
        rw [← x4 i hi]
        by_cases e : i = j
        · rw [if_pos e, e, gI_set, w32_id (by omega)]
        · rw [if_neg e, hI_sI_i e]
      · obtain ⟨x1, x2⟩ := hx
        rw [es]
        refine WP_some.2 ⟨by show (n : Int) + 1 = _; omega, ⟨?_, fun i hi => ?_⟩, fun i hi => ?_, fun m hm => ?_, mC.tr (ChC.ofD (ChD.of x1 (by omega))), fun i => ?_⟩
        · show gI x 229 16 = (((rowF C n).1 + 1 : Nat) : Int)
          rw [x1.1 _ _ (by omega), m16]; omega
        · have hi : i < (rowF C n).1 + 1 := hi
          exact x2 i (by omega)
        · have hi' : i < (rowF C (n + 1)).1 := by rw [es]; exact hi
          have l := row_lt hi'
          rw [es] at l
          have l : insF (kWire C) n (rowF C n).1 (rowF C n).2 i < n + 1 ∧ 2 ≤ kMany C (insF (kWire C) n (rowF C n).1 (rowF C n).2 i) := l
          show gI x 239 (insF (kWire C) n (rowF C n).1 (rowF C n).2 i) = kWire C (insF (kWire C) n (rowF C n).1 (rowF C n).2 i)
          rw [x1.1 _ _ (by omega), m239]
          generalize hv' : insF (kWire C) n (rowF C n).1 (rowF C n).2 i = v at l ⊢
          by_cases e : v = n
          · rw [if_pos e, e]
          · rw [if_neg e]
            -- an older net of the row
            have ex : ∃ j, j < (rowF C n).1 ∧ (rowF C n).2 j = v := Classical.byContradiction (fun no => by
              have su := rowF_sum (C := C) (fun m => if m = v then 1 else 0) n
              rw [smN_0 (fun x hx => if_neg (fun g => no ⟨x, hx, g⟩))] at su
              have ge := smN_ge (f := fun m => if kMany C m < 2 then 0 else if m = v then 1 else 0) (n := n) (x := v) (by omega)
              rw [if_neg (by omega), if_pos rfl, ← su] at ge
              omega)
            obtain ⟨j, j1, j2⟩ := ex
            have := b4 j j1
            rw [j2] at this; exact this
        · show gI x (344 + 22 * k + 14) m = 0
          rw [x1.1 _ _ (by omega)]; exact m14 m hm
        · show gI x (344 + 22 * k + 12) i = _ ∧ gI x (344 + 22 * k + 13) i = _
          rw [x1.1 _ _ (by omega), x1.1 _ _ (by omega)]; exact m12 i
  · obtain ⟨z1, z2⟩ := s
    obtain ⟨b1, ⟨b2, b3⟩, b4, b5, b6, b7⟩ := hI
    dsimp only at b1 b2 b3 b4 b5 b6 b7
    subst b1
    have hz := h1.chC b6
    have rz : RepK z2 (344 + 22 * k) C := by
      obtain ⟨t1, t2, t3, t4, t5, t6⟩ := r
      have cl : ∀ a i, 344 + 22 * k ≤ a → a ≤ 344 + 22 * k + 9 → gI z2 a i = gI S a i := fun a i l1 l2 => b6.1 a i (by omega) (by omega) (by omega) (by omega) (by omega)
      refine ⟨?_, fun g' hg' => ?_, fun g' hg' => ?_, fun g' hg' => ?_, fun g' hg' => ?_, fun g' hg' => ?_⟩
      · simp (disch := omega) only [cl]; exact t1
      · rw [cl _ _ (by omega) (by omega)]; exact t2 g' hg'
      · rw [cl _ _ (by omega) (by omega)]; exact t3 g' hg'
      · rw [cl _ _ (by omega) (by omega)]; exact t4 g' hg'
      · rw [cl _ _ (by omega) (by omega)]; exact t5 g' hg'
      · simp (disch := omega) only [cl]; exact t6 g' hg'
    unfold mX15_arrange_L7
    dsimp only
    rw [hz.1.1, gk_chip hk, k_nets rz w, bX_some, w32_id (by omega), if_neg (by omega)]
    exact WP_some.2 ⟨⟨b2, b3⟩, b5, b6, b7⟩
end KARRANGE
