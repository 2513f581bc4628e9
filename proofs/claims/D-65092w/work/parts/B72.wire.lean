/-! the wire of a net: both sides -/
theorem min_e {x y : Int} (hx : -2147483648 ≤ x ∧ x < 2147483648) (hy : -2147483648 ≤ y ∧ y < 2147483648) : mJ9_min x y = some (min x y) := by
  unfold mJ9_min; rw [w32_id hx, w32_id hy]; rfl
theorem min_sw (a b c : Int) : min (min a b) c = min a (min c b) := by rw [Int.min_assoc, Int.min_comm b c]
theorem max_sw (a b c : Int) : max (max a b) c = max a (max c b) := by rw [Int.max_assoc, Int.max_comm b c]
theorem mm_rng {a b lo hi : Int} (h1 : lo ≤ a ∧ a ≤ hi) (h2 : lo ≤ b ∧ b ≤ hi) : (lo ≤ min a b ∧ min a b ≤ hi) ∧ lo ≤ max a b ∧ max a b ≤ hi := by
  have := min_facts a b; have := max_facts a b; generalize min a b = x at *; generalize max a b = y at *; omega
section KWIRE
variable {S : Sto} {L k : Nat} {C : Chp}
theorem k_x (h : KPins S C (kPins C)) (hk : k < 4) (hL : L = 344 + 22 * k) (hg : gR S 219 0 = L) (w : WFC C) (wp : WFP C) (rP : RepP S L C) (h0 : C 16 0 ≠ 0) {p : Nat} (hp : p < kPn C) : mX13_x S (p : Int) = some (pvX C p) := by
  have ok := (kPins_ok w).1 p hp
  have o2 := (h.2.1 p hp).2.1
  have o3 := (h.2.1 p hp).2.2.1
  have hc : kPn C ≤ 640 := (kPins_ok w).2
  have hn := w.nums
  have p1 := wp.1
  have e11 := rP.1.1
  subst hL
  unfold mX13_x pvX pX kPf
  rw [rdI_e (by omega), Int.toNat_natCast, o2]
  rcases ok.2 with ⟨q1, q2⟩ | ⟨q1, q2⟩ | ⟨q1, q2, q3⟩
  · rw [q1]; rfl
  · rw [q1, w32_id (by omega), if_neg (by omega), rdI_e (by omega), Int.toNat_natCast, o2, q1, w32_id (by omega), if_pos rfl, hg, gk_chip hk, bX_some, e11, if_neg (by omega), if_pos rfl]
  · have r2 := rP.2 h0 ((kPins C).2 p).2.1.toNat (by omega)
    have hE : kE C ≤ 156 := by unfold kE; omega
    rw [w32_id (by omega), if_neg (by omega), rdI_e (by omega), Int.toNat_natCast, o2, w32_id (by omega), if_neg (by omega), hg, gk_chip hk, rdI_e (by omega), Int.toNat_natCast, o2, rdI_e (by omega), r2.1, rdI_e (by omega), Int.toNat_natCast, o3, bX_some, if_neg (by omega), if_neg (by omega)]
theorem k_y (h : KPins S C (kPins C)) (hk : k < 4) (hL : L = 344 + 22 * k) (hg : gR S 219 0 = L) (w : WFC C) (rP : RepP S L C) (h0 : C 16 0 ≠ 0) {p : Nat} (hp : p < kPn C) : mX13_y S (p : Int) = some (pvY C p) := by
  have ok := (kPins_ok w).1 p hp
  have o2 := (h.2.1 p hp).2.1
  have o3 := (h.2.1 p hp).2.2.1
  have hc : kPn C ≤ 640 := (kPins_ok w).2
  have hn := w.nums
  subst hL
  unfold mX13_y pvY pY kPf
  rw [rdI_e (by omega), Int.toNat_natCast, o2]
  rcases ok.2 with ⟨q1, q2⟩ | ⟨q1, q2⟩ | ⟨q1, q2, q3⟩
  · rw [q1, w32_id (by omega), if_pos (by omega), rdI_e (by omega), Int.toNat_natCast, o3, bX_some, if_pos (by omega)]
  · rw [q1, w32_id (by omega), if_pos (by omega), rdI_e (by omega), Int.toNat_natCast, o3, bX_some, if_pos (by omega)]
  · have r2 := rP.2 h0 ((kPins C).2 p).2.1.toNat (by omega)
    have hE : kE C ≤ 156 := by unfold kE; omega
    rw [w32_id (by omega), if_neg (by omega), hg, gk_chip hk, rdI_e (by omega), Int.toNat_natCast, o2, rdI_e (by omega), r2.2, bX_some, if_neg (by omega)]
theorem k_wire22 (h : KPins S C (kPins C)) (hk : k < 4) (hL : L = 344 + 22 * k) (hg : gR S 219 0 = L) (w : WFC C) (wp : WFP C) (rP : RepP S L C) (h0 : C 16 0 ≠ 0) {n : Nat} (hn : n < kN C) :
    WP (lpF (mX13_wire_L22 S) (1000000, -1000000, 1000000, -1000000, pPrev (kPf C) n (kPn C))) (fun z => z = (pLo (pvX C) (kPf C) n (kPn C), pHi (pvX C) (kPf C) n (kPn C), pLo (pvY C) (kPf C) n (kPn C), pHi (pvY C) (kPf C) n (kPn C))) := by
  have hs := kS_le wp
  have hh := kH_le w wp
  have hc : kPn C ≤ 640 := (kPins_ok w).2
  have rg := fun m (hm : m ≤ kPn C) => (pLo_rng (v := pvX C) (f := kPf C) (n := n) (m := m) (a := 0) (b := 61) (fun p hp => by have := pXY_rng w wp h0 (p := p) (by omega); omega) (by omega) (by omega))
  have rh := fun m (hm : m ≤ kPn C) => (pLo_rng (v := pvY C) (f := kPf C) (n := n) (m := m) (a := 0) (b := 37) (fun p hp => by have := pXY_rng w wp h0 (p := p) (by omega); omega) (by omega) (by omega))
  have g0 := rg _ (Nat.le_refl _)
  have g1 := rh _ (Nat.le_refl _)
  have fin : (-1000000 : Int) ≤ 1000000 := by omega
  refine WP_lpF (fun z => ∃ m, m ≤ kPn C ∧ z.2.2.2.2 = pPrev (kPf C) n m ∧ (-1000000 ≤ z.1 ∧ z.1 ≤ 1000000 ∧ -1000000 ≤ z.2.1 ∧ z.2.1 ≤ 1000000 ∧ -1000000 ≤ z.2.2.1 ∧ z.2.2.1 ≤ 1000000 ∧ -1000000 ≤ z.2.2.2.1 ∧ z.2.2.2.1 ≤ 1000000) ∧ min z.1 (pLo (pvX C) (kPf C) n m) = pLo (pvX C) (kPf C) n (kPn C) ∧ max z.2.1 (pHi (pvX C) (kPf C) n m) = pHi (pvX C) (kPf C) n (kPn C) ∧ min z.2.2.1 (pLo (pvY C) (kPf C) n m) = pLo (pvY C) (kPf C) n (kPn C) ∧ max z.2.2.2.1 (pHi (pvY C) (kPf C) n m) = pHi (pvY C) (kPf C) n (kPn C))
    (fun z => (z.2.2.2.2 + 1).toNat) ⟨kPn C, Nat.le_refl _, rfl, ⟨fin, Int.le_refl _, Int.le_refl _, fin, fin, Int.le_refl _, Int.le_refl _, fin⟩, Int.min_eq_right g0.2.1, Int.max_eq_right g0.2.2.2.1, Int.min_eq_right g1.2.1, Int.max_eq_right g1.2.2.2.1⟩ (by have := pPrev_rng (f := kPf C) (n := n) (m := kPn C); show (pPrev (kPf C) n (kPn C) + 1).toNat < cFU; unfold cFU; omega) (fun z hI => ?_)
  obtain ⟨x0, x1, y0, y1, p⟩ := z
  obtain ⟨m, m1, m2, m3, m4, m5, m6, m7⟩ := hI
  dsimp only at m2 m3 m4 m5 m6 m7
  have pr := pPrev_rng (f := kPf C) (n := n) (m := m)
  unfold mX13_wire_L22
  dsimp only
  rw [w32_id (by omega)]
  by_cases q : p = -1
  · rw [if_neg (by omega)]
    have nn := fun v => pLo_none (v := v) (f := kPf C) (n := n) (m := m) (by omega)
    rw [(nn _).1] at m4 m6
    rw [(nn _).2] at m5 m7
    refine WP_some.2 ?_
    show (x0, x1, y0, y1) = _
    rw [Int.min_eq_left (by omega)] at m4 m6
    rw [Int.max_eq_left (by omega)] at m5 m7
    rw [← m4, ← m5, ← m6, ← m7]
  · obtain ⟨q', rfl⟩ : ∃ q' : Nat, p = (q' : Int) := ⟨p.toNat, by omega⟩
    have hq : q' < kPn C := by omega
    have pp := fun v => pLo_prev (v := v) (f := kPf C) (n := n) (m := m) (q := q') m2.symm
    have xr := pXY_rng w wp h0 hq
    have net : ((kPins C).2 q').1 = n := by
      have e := pPrev_net (f := kPf C) (n := n) (m := m) (by omega)
      rw [← m2, Int.toNat_natCast] at e
      exact e
    have nx := (h.2.1 q' hq).2.2.2
    rw [net] at nx
    have qr := rg q' (by omega)
    have qh := rh q' (by omega)
    rw [if_pos (by omega), k_x h hk hL hg w wp rP h0 hq, k_y h hk hL hg w rP h0 hq]
    rw [bX_some, min_e (by omega) (by omega), bX_some, bX_some, max_e (by omega) (by omega), bX_some, bX_some, min_e (by omega) (by omega), bX_some, bX_some, max_e (by omega) (by omega), bX_some, rdI_e (by omega), Int.toNat_natCast, nx]
    rw [(pp _).1] at m4 m6
    rw [(pp _).2] at m5 m7
    have pq := pPrev_rng (f := (kPins C).2) (n := n) (m := q')
    have u1 := (mm_rng (a := x0) (b := pvX C q') (lo := -1000000) (hi := 1000000) (by omega) (by omega)).1
    have u2 := (mm_rng (a := x1) (b := pvX C q') (lo := -1000000) (hi := 1000000) (by omega) (by omega)).2
    have u3 := (mm_rng (a := y0) (b := pvY C q') (lo := -1000000) (hi := 1000000) (by omega) (by omega)).1
    have u4 := (mm_rng (a := y1) (b := pvY C q') (lo := -1000000) (hi := 1000000) (by omega) (by omega)).2
    refine WP_some.2 ⟨⟨q', by omega, rfl, ⟨u1.1, u1.2, u2.1, u2.2, u3.1, u3.2, u4.1, u4.2⟩, ?_, ?_, ?_, ?_⟩, ?_⟩
    · dsimp only; rw [min_sw]; exact m4
    · dsimp only; rw [max_sw]; exact m5
    · dsimp only; rw [min_sw]; exact m6
    · dsimp only; rw [max_sw]; exact m7
    · dsimp only; clear u1 u2 u3 u4 m4 m5 m6 m7 qr qh g0 g1 rg rh; omega
theorem k_wire (h : KPins S C (kPins C)) (hk : k < 4) (hL : L = 344 + 22 * k) (hg : gR S 219 0 = L) (w : WFC C) (wp : WFP C) (rP : RepP S L C) (h0 : C 16 0 ≠ 0) {n : Nat} (hn : n < kN C) : mX13_wire S (n : Int) = some (kWire C n) := by
  have hnn := w.nums
  have f := (h.2.2 n hn).1
  obtain ⟨z, h1, rfl⟩ := k_wire22 h hk hL hg w wp rP h0 hn
  have pm := kMany_pos w hn
  have ne : pPrev (kPins C).2 n (kPins C).1 ≠ -1 := fun e => by
    have : ∀ m, pPrev (kPins C).2 n m = -1 → pMany (kPins C).2 n m = 0 := by
      intro m
      induction m with
      | zero => exact fun _ => rfl
      | succ m ih =>
        intro g
        have ee : pPrev (kPins C).2 n (m + 1) = if ((kPins C).2 m).1 = n then (m : Int) else pPrev (kPins C).2 n m := rfl
        rw [ee] at g
        by_cases q : ((kPins C).2 m).1 = n
        · rw [if_pos q] at g; omega
        · rw [if_neg q] at g
          show pMany (kPins C).2 n m + (if ((kPins C).2 m).1 = n then 1 else 0) = 0
          rw [if_neg q, ih g]
    exact pm (this _ e)
  have pr := pPrev_rng (f := (kPins C).2) (n := n) (m := (kPins C).1)
  have hc : kPn C ≤ 640 := (kPins_ok w).2
  have hc' : (kPins C).1 ≤ 640 := hc
  unfold mX13_wire
  rw [rdI_e (by omega), Int.toNat_natCast, f]
  show bX (lpF (mX13_wire_L22 S) (1000000, -1000000, 1000000, -1000000, pPrev (kPf C) n (kPn C))) _ = _
  rw [h1, bX_some, rdI_e (by omega), Int.toNat_natCast, f, w32_id (by omega), if_neg ne]
  rfl
end KWIRE
/-! sums of wires -/
def kTot (C : Chp) : Nat → Int
  | 0 => 0
  | n + 1 => kTot C n + kWire C n
theorem kTot_rng {C : Chp} (w : WFC C) (wp : WFP C) (h0 : C 16 0 ≠ 0) {n : Nat} (h : n ≤ kN C) : 0 ≤ kTot C n ∧ kTot C n ≤ 100 * n := by
  induction n with
  | zero => exact ⟨Int.le_refl _, Int.le_refl _⟩
  | succ n ih =>
    have := ih (by omega)
    have := kWire_rng w wp h0 n (kMany_pos w (by omega))
    show 0 ≤ kTot C n + kWire C n ∧ kTot C n + kWire C n ≤ _
    omega
theorem k_total {S : Sto} {L k : Nat} {C : Chp} (h : KPins S C (kPins C)) (hk : k < 4) (hL : L = 344 + 22 * k) (hg : gR S 219 0 = L) (r : RepK S L C) (w : WFC C) (wp : WFP C) (rP : RepP S L C) (h0 : C 16 0 ≠ 0) : mX13_total S = some (kTot C (kN C)) := by
  have hnn := w.nums
  have key : WP (lpF (mX13_total_L4 S) (0, 0)) (fun z => z = kTot C (kN C)) := by
    refine WP_cnt (kN C) (fun i z => z.1 = kTot C i ∧ z.2 = (i : Int)) (by unfold cFU; omega) ⟨rfl, rfl⟩ (fun i z hi hI => ?_) (fun z hI => ?_)
    · obtain ⟨b1, b2⟩ := hI
      unfold mX13_total_L4
      rw [hg, hL, gk_chip hk, ← hL, k_nets r w, bX_some, b2, w32_id (by omega), w32_id (by omega), if_pos (by omega), k_wire h hk hL hg w wp rP h0 hi, bX_some, b1]
      exact WP_some.2 ⟨rfl, by show (i : Int) + 1 = _; omega⟩
    · obtain ⟨b1, b2⟩ := hI
      unfold mX13_total_L4
      rw [hg, hL, gk_chip hk, ← hL, k_nets r w, bX_some, b2, if_neg (by omega)]
      exact WP_some.2 b1
  unfold mX13_total
  rw [key.of, bX_some]
