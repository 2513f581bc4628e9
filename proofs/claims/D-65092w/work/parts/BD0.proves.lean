/-! a chip's tables: both sides -/
section TABS
variable {S : Sto} {k : Nat} {C : Chp}
theorem k_bit19 (w : WFC C) (hW : ∀ n u, n < kN C → u < kWds C → KWd S C n u) {e : Int} (he : -2 ≤ e ∧ e < kN C) {p : Nat} (hp : p < 2 ^ kB C) : mX19_bit S e (p : Int) = some (b2i (kBit C p e)) := by
  have hn := w.nums
  have p12 : 2 ^ kB C ≤ 4096 := Nat.pow_le_pow_right (n := 2) (by omega) hn.2.1
  have s6 : aShr (p : Int) 6 = ((p / 64 : Nat) : Int) := by rw [aShr_6, w32_id (by omega)]; omega
  have s63 : aAnd (p : Int) 63 = ((p % 64 : Nat) : Int) := by rw [aAnd_63]; omega
  obtain ⟨p1, p2⟩ := kWds_p hp
  unfold mX19_bit kBit
  rw [w32_id (by omega)]
  by_cases q : e < 0
  · rw [if_pos q, if_pos q, bX_some]
    rcases (by omega : e = -1 ∨ e = -2) with rfl | rfl
    · rfl
    · rfl
  · obtain ⟨n, rfl⟩ : ∃ n : Nat, e = (n : Int) := ⟨e.toNat, by omega⟩
    have kw := kWds_rng w
    have zt : (64 * (n : Int) + ((p / 64 : Nat) : Int)).toNat = 64 * n + p / 64 := by omega
    rw [if_neg q, if_neg q, s6, s63, rdL_e (by omega), zt, bX_some, l2i_shr (by omega), hW n (p / 64) (by omega) p1 (p % 64) (by omega), p2, Bool.and_true, show 64 * (p / 64) + p % 64 = p by omega, Int.toNat_natCast]
theorem k_tab28 (hk : k < 4) (r : RepK S (344 + 22 * k) C) (w : WFC C) (hR : gR S 264 0 = 344 + 22 * k) (hW : ∀ n u, n < kN C → u < kWds C → KWd S C n u) {p : Nat} (hp : p < 2 ^ kB C) : lpF (mX19_tables_L28 ((p : Int), S)) (0, 0) = some ((kTold C p : Nat) : Int) := by
  have hn := w.nums
  have eo := r.1.2.2.1
  rw [w.o] at eo
  refine WP.of ?_
  refine WP_cnt (kO C) (fun j z => z.2 = (j : Int) ∧ z.1 = ((bitsN j (fun j => kBit C p (C 6 j)) : Nat) : Int)) (by unfold cFU; omega) ⟨rfl, rfl⟩ (fun j z hj hI => ?_) (fun z hI => ?_)
  · obtain ⟨b1, b2⟩ := hI
    have hx := w.2.2.2.1 j hj
    have := w.i; have := w.r; have := w.g
    unfold mX19_tables_L28
    dsimp only
    rw [hR, gk_chip hk, eo, b1, w32_id (by omega), w32_id (by omega), if_pos (by omega), gk_chip hk, rdI_e (by omega), Int.toNat_natCast, r.2.2.2.1 j hj, k_bit19 w hW (by omega) hp, bX_some, b2]
    exact WP_some.2 ⟨by show (j : Int) + 1 = _; omega, aOr_bits (n := j) (f := fun j => kBit C p (C 6 j)) rfl (by omega)⟩
  · obtain ⟨b1, b2⟩ := hI
    unfold mX19_tables_L28
    dsimp only
    rw [hR, gk_chip hk, eo, b1, w32_id (by omega), if_neg (by omega)]
    exact WP_some.2 b2
theorem k_tab70 (hk : k < 4) (r : RepK S (344 + 22 * k) C) (w : WFC C) (hR : gR S 264 0 = 344 + 22 * k) (hW : ∀ n u, n < kN C → u < kWds C → KWd S C n u) {p : Nat} (hp : p < 2 ^ kB C) : lpF (mX19_tables_L70 ((p : Int), S)) (0, 0) = some ((kMoved C p : Nat) : Int) := by
  have hn := w.nums
  have eo := r.1.2.1
  rw [w.r] at eo
  refine WP.of ?_
  refine WP_cnt (kR C) (fun j z => z.2 = (j : Int) ∧ z.1 = ((bitsN j (fun j => kBit C p (C 7 j)) : Nat) : Int)) (by unfold cFU; omega) ⟨rfl, rfl⟩ (fun j z hj hI => ?_) (fun z hI => ?_)
  · obtain ⟨b1, b2⟩ := hI
    have hx := w.2.2.2.2.1 j hj
    have := w.i; have := w.r; have := w.g
    unfold mX19_tables_L70
    dsimp only
    rw [hR, gk_chip hk, eo, b1, w32_id (by omega), w32_id (by omega), if_pos (by omega), gk_chip hk, rdI_e (by omega), Int.toNat_natCast, r.2.2.2.2.1 j hj, k_bit19 w hW (by omega) hp, bX_some, b2]
    exact WP_some.2 ⟨by show (j : Int) + 1 = _; omega, aOr_bits (n := j) (f := fun j => kBit C p (C 7 j)) rfl (by omega)⟩
  · obtain ⟨b1, b2⟩ := hI
    unfold mX19_tables_L70
    dsimp only
    rw [hR, gk_chip hk, eo, b1, w32_id (by omega), if_neg (by omega)]
    exact WP_some.2 b2
theorem k_tables (hk : k < 4) (r : RepK S (344 + 22 * k) C) (w : WFC C) : WP (mX19_tables S (344 + 22 * k)) (fun z => ∀ p, p < 2 ^ kB C → gI z 268 p = ((kTold C p : Nat) : Int) ∧ gI z 269 p = ((kMoved C p : Nat) : Int)) := by
  have hn := w.nums
  obtain ⟨P, hP⟩ : ∃ P, 2 ^ kB C = P := ⟨_, rfl⟩
  have hpl : P ≤ 4096 := by rw [← hP]; exact Nat.pow_le_pow_right (n := 2) (by omega) hn.2.1
  have hsh := aShl1 (k := kB C) (by omega)
  rw [hP] at hsh
  unfold mX19_tables
  refine WP_callF (k_fill hk r w) fr_mX19_fill (fun x1 h1 hg => ?_)
  obtain ⟨f1, f2⟩ := h1
  have r1 : RepK x1 (344 + 22 * k) C := r.cg (fun a i _ _ => hg.1.gi (okP_cons (fun e => absurd e.symm (by omega)) <| okP_cons (fun e => absurd e.symm (by omega)) <| okP_cons (fun e => absurd e.symm (by omega)) okP_nil))
  rw [hP]
  refine WP_call (R := fun z => ∀ p, p < P → gI z 268 p = ((kTold C p : Nat) : Int) ∧ gI z 269 p = ((kMoved C p : Nat) : Int)) ?_ (fun z hz => WP_some.2 hz)
  refine WP_cnt P (fun p z => z.1 = (p : Int) ∧ Ch 268 269 x1 z.2 ∧ ∀ j, j < p → gI z.2 268 j = ((kTold C j : Nat) : Int) ∧ gI z.2 269 j = ((kMoved C j : Nat) : Int)) (by unfold cFU; omega) ⟨rfl, Ch.refl, fun j hj => absurd hj (Nat.not_lt_zero _)⟩ (fun p z hp hI => ?_) (fun z hI => ?_)
  · obtain ⟨z1, z2⟩ := z
    obtain ⟨b1, b2, b3⟩ := hI
    dsimp only at b1 b2 b3
    subst b1
    have rz : RepK z2 (344 + 22 * k) C := r1.ch b2 (by omega)
    have hz := f1.ch b2 (by omega)
    have wz : ∀ n u, n < kN C → u < kWds C → KWd z2 C n u := fun n u h1 h2 i hi => by rw [b2.2.1 265 _ (by omega)]; exact f2 n u h1 h2 i hi
    have l1 := kTold_lt (C := C) (p := p)
    have l2 := kMoved_lt (C := C) (p := p)
    have pO : 2 ^ kO C ≤ 65536 := Nat.pow_le_pow_right (n := 2) (by omega) hn.2.2.2.1
    have pR : 2 ^ kR C ≤ 64 := Nat.pow_le_pow_right (n := 2) (by omega) hn.1
    unfold mX19_tables_L7
    dsimp only
    rw [hz.1, gk_chip hk, k_bits rz w, bX_some, hsh, w32_id (by omega), w32_id (by omega), if_pos (by omega), k_tab28 hk rz w hz.1 wz (by rw [hP]; exact hp), bX_some, k_tab70 hk rz w hz.1 wz (by rw [hP]; exact hp), bX_some, wrI_e (by omega), Int.toNat_natCast, wrI_e (by omega), Int.toNat_natCast]
    refine WP_some.2 ⟨by show (p : Int) + 1 = _; omega, (b2.sI (by omega)).sI (by omega), fun j hj => ?_⟩
    dsimp only
    by_cases q : j = p
    · subst q
      exact ⟨by rw [hI_sI_a (by omega), gI_set, w32_id (by omega)], by rw [gI_set, w32_id (by omega)]⟩
    · rw [hI_sI_a (by omega), hI_sI_i q, hI_sI_i q, hI_sI_a (by omega)]; exact b3 j (by omega)
  · obtain ⟨z1, z2⟩ := z
    obtain ⟨b1, b2, b3⟩ := hI
    dsimp only at b1 b2 b3
    subst b1
    have rz : RepK z2 (344 + 22 * k) C := r1.ch b2 (by omega)
    have hz := f1.ch b2 (by omega)
    unfold mX19_tables_L7
    dsimp only
    rw [hz.1, gk_chip hk, k_bits rz w, bX_some, hsh, w32_id (by omega), if_neg (by omega)]
    exact WP_some.2 b3
/-- the reference: one pattern's outputs, next values -/
theorem m_lay59 (r : RefK S k C) (w : WFC C) (hk : k < 4) {p : Nat} (hp : p < 4096) (hv : ∀ n, n < kN C → tb (gL S 2121 n) (p % 64) = kVal C p n) (h0 : gI S 2073 p = 0) {T : Sto} :
    WP (lpF (mX23_layChip_L59 (k : Int) ((p : Int), T)) (0, S)) (fun z => gI z 2073 p = ((kTold C p : Nat) : Int) ∧ (∀ a i, ¬ (a = 2073 ∧ i = p) → gI z a i = gI S a i) ∧ ∀ a i, gL z a i = gL S a i) := by
  have hn := w.nums
  have s63 : aAnd (p : Int) 63 = ((p % 64 : Nat) : Int) := by rw [aAnd_63]; omega
  refine WP_cnt (kO C) (fun j z => z.1 = (j : Int) ∧ gI z.2 2073 p = ((bitsN j (fun j => kBit C p (C 6 j)) : Nat) : Int) ∧ (∀ a i, ¬ (a = 2073 ∧ i = p) → gI z.2 a i = gI S a i) ∧ ∀ a i, gL z.2 a i = gL S a i) (by unfold cFU; omega) ⟨rfl, h0, fun _ _ _ => rfl, fun _ _ => rfl⟩ (fun j z hj hI => ?_) (fun z hI => ?_)
  · obtain ⟨b1, b2, b3, b4⟩ := hI
    have rz : RefK z.2 k C := r.cg (fun a i _ _ => b3 a i (by omega))
    have hx := w.2.2.2.1 j hj
    have := w.i; have := w.r; have := w.g
    have eo := rz.1.2.2.1
    rw [w.o] at eo
    have zt : (16 * (k : Int) + (j : Int)).toNat = 16 * k + j := by omega
    have lt := bitsN_lt (j + 1) (fun j => kBit C p (C 6 j))
    have pO : 2 ^ (j + 1) ≤ 65536 := Nat.pow_le_pow_right (n := 2) (by omega) (show j + 1 ≤ 16 by omega)
    unfold mX23_layChip_L59
    dsimp only
    rw [rdI_e (by omega), Int.toNat_natCast, eo, b1, w32_id (by omega), w32_id (by omega), if_pos (by omega), rdI_e (by omega), Int.toNat_natCast, b2, rdI_e (by omega), zt, rz.2.2.2.1 j hj, s63, m_bitOfNet (b := kVal C p) (by omega) (by omega) (fun q => by rw [b4]; exact hv _ (by omega)), bX_some, wrI_e (by omega), Int.toNat_natCast]
    rw [aOr_bits (n := j) (f := fun j => kBit C p (C 6 j)) (b := if C 6 j < 0 then decide (C 6 j = -2) else kVal C p (C 6 j).toNat) rfl (by omega)]
    refine WP_some.2 ⟨by show (j : Int) + 1 = _; omega, by rw [gI_set, w32_id (by omega)], fun a i q => ?_, fun a i => by rw [gL_sI]; exact b4 a i⟩
    dsimp only
    rw [hI_sI, if_neg q]; exact b3 a i q
  · obtain ⟨b1, b2, b3, b4⟩ := hI
    have rz : RefK z.2 k C := r.cg (fun a i _ _ => b3 a i (by omega))
    have eo := rz.1.2.2.1
    rw [w.o] at eo
    unfold mX23_layChip_L59
    dsimp only
    rw [rdI_e (by omega), Int.toNat_natCast, eo, b1, w32_id (by omega), if_neg (by omega)]
    exact WP_some.2 ⟨b2, b3, b4⟩
theorem m_lay111 (r : RefK S k C) (w : WFC C) (hk : k < 4) {p : Nat} (hp : p < 4096) (hv : ∀ n, n < kN C → tb (gL S 2121 n) (p % 64) = kVal C p n) (h0 : gI S 2074 p = 0) {T : Sto} :
    WP (lpF (mX23_layChip_L111 (k : Int) ((p : Int), T)) (0, S)) (fun z => gI z 2074 p = ((kMoved C p : Nat) : Int) ∧ (∀ a i, ¬ (a = 2074 ∧ i = p) → gI z a i = gI S a i) ∧ ∀ a i, gL z a i = gL S a i) := by
  have hn := w.nums
  have s63 : aAnd (p : Int) 63 = ((p % 64 : Nat) : Int) := by rw [aAnd_63]; omega
  refine WP_cnt (kR C) (fun j z => z.1 = (j : Int) ∧ gI z.2 2074 p = ((bitsN j (fun j => kBit C p (C 7 j)) : Nat) : Int) ∧ (∀ a i, ¬ (a = 2074 ∧ i = p) → gI z.2 a i = gI S a i) ∧ ∀ a i, gL z.2 a i = gL S a i) (by unfold cFU; omega) ⟨rfl, h0, fun _ _ _ => rfl, fun _ _ => rfl⟩ (fun j z hj hI => ?_) (fun z hI => ?_)
  · obtain ⟨b1, b2, b3, b4⟩ := hI
    have rz : RefK z.2 k C := r.cg (fun a i _ _ => b3 a i (by omega))
    have hx := w.2.2.2.2.1 j hj
    have := w.i; have := w.r; have := w.g
    have eo := rz.1.2.1
    rw [w.r] at eo
    have zt : (6 * (k : Int) + (j : Int)).toNat = 6 * k + j := by omega
    have lt := bitsN_lt (j + 1) (fun j => kBit C p (C 7 j))
    have pO : 2 ^ (j + 1) ≤ 65536 := Nat.pow_le_pow_right (n := 2) (by omega) (show j + 1 ≤ 16 by omega)
    unfold mX23_layChip_L111
    dsimp only
    rw [rdI_e (by omega), Int.toNat_natCast, eo, b1, w32_id (by omega), w32_id (by omega), if_pos (by omega), rdI_e (by omega), Int.toNat_natCast, b2, rdI_e (by omega), zt, rz.2.2.2.2.1 j hj, s63, m_bitOfNet (b := kVal C p) (by omega) (by omega) (fun q => by rw [b4]; exact hv _ (by omega)), bX_some, wrI_e (by omega), Int.toNat_natCast]
    rw [aOr_bits (n := j) (f := fun j => kBit C p (C 7 j)) (b := if C 7 j < 0 then decide (C 7 j = -2) else kVal C p (C 7 j).toNat) rfl (by omega)]
    refine WP_some.2 ⟨by show (j : Int) + 1 = _; omega, by rw [gI_set, w32_id (by omega)], fun a i q => ?_, fun a i => by rw [gL_sI]; exact b4 a i⟩
    dsimp only
    rw [hI_sI, if_neg q]; exact b3 a i q
  · obtain ⟨b1, b2, b3, b4⟩ := hI
    have rz : RefK z.2 k C := r.cg (fun a i _ _ => b3 a i (by omega))
    have eo := rz.1.2.1
    rw [w.r] at eo
    unfold mX23_layChip_L111
    dsimp only
    rw [rdI_e (by omega), Int.toNat_natCast, eo, b1, w32_id (by omega), if_neg (by omega)]
    exact WP_some.2 ⟨b2, b3, b4⟩
theorem m_layChip (r : RefK S k C) (w : WFC C) (hk : k < 4) : WP (mX23_layChip S (k : Int)) (fun z => ∀ p, p < 2 ^ kB C → gI z 2073 p = ((kTold C p : Nat) : Int) ∧ gI z 2074 p = ((kMoved C p : Nat) : Int)) := by
  have hn := w.nums
  have e0 := r.1.1
  rw [w.i] at e0
  have e1 := r.1.2.1
  rw [w.r] at e1
  obtain ⟨P, hP⟩ : ∃ P, 2 ^ kB C = P := ⟨_, rfl⟩
  have hpl : P ≤ 4096 := by rw [← hP]; exact Nat.pow_le_pow_right (n := 2) (by omega) hn.2.1
  have hsh := aShl1 (k := kB C) (by omega)
  rw [hP] at hsh
  have es : (kI C : Int) + (kR C : Int) = ((kB C : Nat) : Int) := by omega
  unfold mX23_layChip
  rw [rdI_e (by omega), Int.toNat_natCast, e0, rdI_e (by omega), Int.toNat_natCast, e1, hP]
  refine WP_call (R := fun z => ∀ p, p < P → gI z 2073 p = ((kTold C p : Nat) : Int) ∧ gI z 2074 p = ((kMoved C p : Nat) : Int)) ?_ (fun z hz => WP_some.2 hz)
  refine WP_cnt P (fun p z => z.1 = (p : Int) ∧ RefK z.2 k C ∧ (p % 64 ≠ 0 → ∀ n, n < kN C → ∀ i, i < 64 → tb (gL z.2 2121 n) i = kVal C (64 * (p / 64) + i) n) ∧ ∀ j, j < p → gI z.2 2073 j = ((kTold C j : Nat) : Int) ∧ gI z.2 2074 j = ((kMoved C j : Nat) : Int)) (by unfold cFU; omega) ⟨rfl, r, fun h => absurd rfl h, fun j hj => absurd hj (Nat.not_lt_zero _)⟩ (fun p z hp hI => ?_) (fun z hI => ?_)
  · obtain ⟨z1, z2⟩ := z
    obtain ⟨b1, b2, b3, b4⟩ := hI
    dsimp only at b1 b2 b3 b4
    subst b1
    have s6 : aShr (p : Int) 6 = ((p / 64 : Nat) : Int) := by rw [aShr_6, w32_id (by omega)]; omega
    have s63 : aAnd (p : Int) 63 = ((p % 64 : Nat) : Int) := by rw [aAnd_63]; omega
    unfold mX23_layChip_L18
    dsimp only
    rw [es, hsh, w32_id (by omega), w32_id (by omega), if_pos (by omega), s63, w32_id (by omega), s6]
    refine WP_call (R := fun y => RefK y k C ∧ (∀ n, n < kN C → ∀ i, i < 64 → tb (gL y 2121 n) i = kVal C (64 * (p / 64) + i) n) ∧ ∀ j, j < p → gI y 2073 j = ((kTold C j : Nat) : Int) ∧ gI y 2074 j = ((kMoved C j : Nat) : Int)) ?_ (fun y5 h5 => ?_)
    · by_cases q : p % 64 = 0
      · rw [if_pos (by omega)]
        refine WP_callF (m_workNets (b := false) (st := -1) (pn := -1) (x := 0) b2 w hk (by omega) (by omega) (by omega) (fun i hi => tb_0)) fr_mX23_workNets (fun x8 hw hg => WP_some.2 ⟨b2.fr hg (by decide), fun n hn' i hi => hw n hn' i hi, fun j hj => ?_⟩)
        rw [hg.gi (okP_1 (by omega)), hg.gi (okP_1 (by omega))]; exact b4 j hj
      · rw [if_neg (by omega)]
        exact WP_some.2 ⟨b2, b3 q, b4⟩
    · obtain ⟨c1, c2, c3⟩ := h5
      rw [wrI_e (by omega), Int.toNat_natCast, wrI_e (by omega), Int.toNat_natCast]
      obtain ⟨T, hT⟩ : ∃ T, sI (sI y5 2073 p 0) 2074 p 0 = T := ⟨_, rfl⟩
      rw [hT]
      have t1 : ∀ a i, ¬ (a = 2073 ∧ i = p) → ¬ (a = 2074 ∧ i = p) → gI T a i = gI y5 a i := fun a i q1 q2 => by rw [← hT, hI_sI, if_neg q2, hI_sI, if_neg q1]
      have rT : RefK T k C := c1.cg (fun a i _ _ => t1 a i (by omega) (by omega))
      have tL : ∀ a i, gL T a i = gL y5 a i := fun a i => by rw [← hT]; rfl
      have hv : ∀ n, n < kN C → tb (gL T 2121 n) (p % 64) = kVal C p n := fun n hn' => by rw [tL, c2 n hn' (p % 64) (by omega), show 64 * (p / 64) + p % 64 = p by omega]
      refine WP_call (m_lay59 rT w hk (by omega) hv (by rw [← hT, hI_sI_a (by omega), gI_set]; rfl)) (fun y14 h14 => ?_)
      obtain ⟨d1, d2, d3⟩ := h14
      have r14 : RefK y14 k C := rT.cg (fun a i _ _ => d2 a i (by omega))
      refine WP_call (m_lay111 r14 w hk (by omega) (fun n hn' => by rw [d3]; exact hv n hn') (by rw [d2 _ _ (by omega), ← hT, gI_set]; rfl)) (fun y21 h21 => ?_)
      obtain ⟨g1, g2, g3⟩ := h21
      refine WP_some.2 ⟨by show (p : Int) + 1 = _; omega, r14.cg (fun a i _ _ => g2 a i (by omega)), fun q n hn' i hi => ?_, fun j hj => ?_⟩
      · dsimp only
        rw [g3, d3, tL, c2 n hn' i hi, show (p + 1) / 64 = p / 64 by omega]
      · dsimp only
        by_cases q : j = p
        · subst q
          exact ⟨by rw [g2 _ _ (by omega)]; exact d1, g1⟩
        · rw [g2 _ _ (by omega), g2 _ _ (by omega), d2 _ _ (by omega), d2 _ _ (by omega), t1 _ _ (by omega) (by omega), t1 _ _ (by omega) (by omega)]; exact c3 j (by omega)
  · obtain ⟨z1, z2⟩ := z
    obtain ⟨b1, b2, b3, b4⟩ := hI
    dsimp only at b1 b2 b3 b4
    subst b1
    unfold mX23_layChip_L18
    dsimp only
    rw [es, hsh, w32_id (by omega), if_neg (by omega)]
    exact WP_some.2 b4
end TABS
