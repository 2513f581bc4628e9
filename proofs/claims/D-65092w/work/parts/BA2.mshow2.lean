/-! what shows a fault: the reference's word of a fault -/
section MSHOW2
variable {S : Sto} {k : Nat} {C : Chp}
theorem MRight.ch {S' : Sto} {u lo hi : Nat} (h : MRight S C u) (g : Ch lo hi S S') (q : hi < 2176) : MRight S' C u := fun i l => ⟨fun j hj => by rw [g.2.1 2176 _ (by omega)]; exact (h i l).1 j hj, fun j hj => by rw [g.2.1 2176 _ (by omega)]; exact (h i l).2 j hj⟩
theorem kFst_rng (w : WFC C) {f : Nat} : -1 ≤ kFst C f ∧ kFst C f < 1000 := by
  have hn := w.nums
  unfold kFst; split <;> omega
theorem kPin_rng (w : WFC C) {n : Nat} : ∀ {g l : Nat}, g + n ≤ kG C → kPin C n g l ≤ 3 * (g + n) := by
  induction n with
  | zero => intro g l _; show 3 * g ≤ _; omega
  | succ n ih =>
    intro g l hg
    have ar := w.ar (g := g) (by omega)
    by_cases q : l < kAr C g
    · rw [kPin_stop q]; omega
    · rw [kPin_step q]; have := ih (g := g + 1) (l := l - kAr C g) (by omega); omega
theorem kFpn_rng (w : WFC C) {f : Nat} : -1 ≤ kFpn C f ∧ kFpn C f < 1000 := by
  have hn := w.nums
  have p := kPin_rng w (n := kG C) (g := 0) (l := (f - 2 * kN C) / 2) (by omega)
  unfold kFpn; split <;> omega
theorem m_shownWord (r : RefK S k C) (w : WFC C) (hk : k < 4) {u : Nat} (hu : u < 64) {f : Nat} (hf : f < kFa C) (hR : MRight S C u) :
    WP (mX23_shownWord S (k : Int) (u : Int) (f : Int)) (fun z => ∀ i, i < 64 → tb z.1 i = (kShow C f (64 * u + i) && (decide (6 ≤ kB C) || decide (i < 2 ^ kB C)))) := by
  have hn := w.nums
  have fa := kFa_le w
  have w6 := w.2.2.2.1
  have w7 := w.2.2.2.2.1
  have eg := w.g
  have ei := w.i
  have er := w.r
  unfold mX23_shownWord
  refine WP_call (m_findFault r w hk hf) (fun x1 hx1 => ?_)
  obtain ⟨a1, a2, a3⟩ := hx1
  have r1 : RefK x1 k C := r.ch a3 (by omega)
  have R1 := hR.ch a3 (by omega)
  refine WP_call (R := fun y => ∀ i, i < 64 → tb y i = kFv f) ?_ (fun y2 hy2 => ?_)
  · rw [aAnd_1, w32_id (by omega)]
    unfold kFv
    by_cases q : f % 2 = 1
    · rw [if_pos (by omega)]; exact WP_some.2 (fun i hi => by rw [tb_m1 hi, decide_eq_true q])
    · rw [if_neg (by omega)]; exact WP_some.2 (fun i hi => by rw [tb_0, decide_eq_false q])
  rw [a1, a2]
  refine WP_callF (m_workNets r1 w hk hu (kFst_rng w) (kFpn_rng w) hy2) fr_mX23_workNets (fun x hx hg => ?_)
  have c3 : Ch 2121 2121 x1 x := Ch.of hg rfl
  have r3 : RefK x k C := r1.ch c3 (by omega)
  have R3 := R1.ch c3 (by omega)
  have hv : ∀ n : Int, -2 ≤ n → n < kN C → WP (mX23_wordOfEnd x 2121 n) (fun v => ∀ i, i < 64 → tb v i = kBitF C (64 * u + i) f n) := fun n n1 n2 =>
    (m_wordOfEnd (b := fun i m => kValF C (64 * u + i) (kFst C f) (kFpn C f) (kFv f) m) (by omega) (fun i hi n0 => hx n.toNat (by omega) i hi)).mono (fun v hv i hi => hv i hi)
  have k1 : WP (lpF (mX23_shownWord_L40 x (k : Int)) (0, 0)) (fun z => ∀ i, i < 64 → tb z i = kDifN (fun j => kBit C (64 * u + i) (C 6 j)) (fun j => kBitF C (64 * u + i) f (C 6 j)) (kO C)) := by
    refine WP_cnt (kO C) (fun n z => z.2 = (n : Int) ∧ ∀ i, i < 64 → tb z.1 i = kDifN (fun j => kBit C (64 * u + i) (C 6 j)) (fun j => kBitF C (64 * u + i) f (C 6 j)) n) (by unfold cFU; omega) ⟨rfl, fun i hi => tb_0⟩ (fun n z hn' hI => ?_) (fun z hI => ?_)
    · obtain ⟨b1, b2⟩ := hI
      have eo := r3.1.2.2.1
      rw [w.o] at eo
      have e6 := r3.2.2.2.1 n hn'
      have w6n := w6 n hn'
      have zt : (16 * (k : Int) + (n : Int)).toNat = 16 * k + n := by omega
      unfold mX23_shownWord_L40
      rw [rdI_e (by omega), Int.toNat_natCast, eo, b1, w32_id (by omega), w32_id (by omega), if_pos (by omega), rdL_e (by omega), Int.toNat_natCast, rdI_e (by omega), zt, e6]
      refine WP_call (hv (C 6 n) (by omega) (by omega)) (fun v hv' => ?_)
      refine WP_some.2 ⟨by show (n : Int) + 1 = _; omega, fun i hi => ?_⟩
      dsimp only
      rw [tb_or, tb_xor, b2 i hi, (R3 i hi).1 n hn', hv' i hi]
      rfl
    · obtain ⟨b1, b2⟩ := hI
      have eo := r3.1.2.2.1
      rw [w.o] at eo
      unfold mX23_shownWord_L40
      rw [rdI_e (by omega), Int.toNat_natCast, eo, b1, w32_id (by omega), if_neg (by omega)]
      exact WP_some.2 b2
  refine WP_call k1 (fun y9 h9 => ?_)
  have k2 : WP (lpF (mX23_shownWord_L92 x (k : Int)) (y9, 0)) (fun z => ∀ i, i < 64 → tb z i = kShow C f (64 * u + i)) := by
    refine WP_cnt (kR C) (fun n z => z.2 = (n : Int) ∧ ∀ i, i < 64 → tb z.1 i = (tb y9 i || kDifN (fun j => kBit C (64 * u + i) (C 7 j)) (fun j => kBitF C (64 * u + i) f (C 7 j)) n)) (by unfold cFU; omega) ⟨rfl, fun i hi => by show tb y9 i = (tb y9 i || false); rw [Bool.or_false]⟩ (fun n z hn' hI => ?_) (fun z hI => ?_)
    · obtain ⟨b1, b2⟩ := hI
      have eo := r3.1.2.1
      rw [w.r] at eo
      have e7 := r3.2.2.2.2.1 n hn'
      have w7n := w7 n hn'
      have zt : (6 * (k : Int) + (n : Int)).toNat = 6 * k + n := by omega
      have zt2 : (16 + (n : Int)).toNat = 16 + n := by omega
      unfold mX23_shownWord_L92
      rw [rdI_e (by omega), Int.toNat_natCast, eo, b1, w32_id (by omega), w32_id (by omega), if_pos (by omega), rdL_e (by omega), zt2, rdI_e (by omega), zt, e7]
      refine WP_call (hv (C 7 n) (by omega) (by omega)) (fun v hv' => ?_)
      refine WP_some.2 ⟨by show (n : Int) + 1 = _; omega, fun i hi => ?_⟩
      dsimp only
      rw [tb_or, tb_xor, b2 i hi, (R3 i hi).2 n hn', hv' i hi, Bool.or_assoc]
      rfl
    · obtain ⟨b1, b2⟩ := hI
      have eo := r3.1.2.1
      rw [w.r] at eo
      unfold mX23_shownWord_L92
      rw [rdI_e (by omega), Int.toNat_natCast, eo, b1, w32_id (by omega), if_neg (by omega)]
      exact WP_some.2 (fun i hi => by rw [b2 i hi, h9 i hi]; rfl)
  refine WP_call k2 (fun y15 h15 => ?_)
  have e0 := r3.1.1
  rw [w.i] at e0
  have e1 := r3.1.2.1
  rw [w.r] at e1
  have es : (kI C : Int) + (kR C : Int) = ((kB C : Nat) : Int) := by omega
  rw [rdI_e (by omega), Int.toNat_natCast, e0, rdI_e (by omega), Int.toNat_natCast, e1, es, w32_id (by omega)]
  by_cases q : kB C < 6
  · rw [if_pos (by omega), bX_some, aShl1 (by omega)]
    refine WP_some.2 (fun i hi => ?_)
    have m := mask6 ⟨kB C, q⟩ ⟨i, hi⟩
    dsimp only at m
    dsimp only
    rw [tb_and, h15 i hi, m, decide_eq_false (show ¬ 6 ≤ kB C by omega), Bool.false_or]
  · rw [if_neg (by omega), bX_some]
    refine WP_some.2 (fun i hi => ?_)
    dsimp only
    rw [h15 i hi, decide_eq_true (show 6 ≤ kB C by omega), Bool.true_or, Bool.and_true]
end MSHOW2
