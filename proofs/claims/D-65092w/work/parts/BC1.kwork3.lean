/-! the class's faults: a fault's row -/
section KWORK3
variable {S : Sto} {k : Nat} {C : Chp}
/-- a row of what shows -/
def KRw (S : Sto) (k : Nat) (C : Chp) (f : Nat) : Prop := ∀ u i, u < kWds C → i < 64 → tb (gL S (344 + 22 * k + 21) (64 * f + u)) i = (kShow C f (64 * u + i) && kMsk C i)
/-- what is changed: differences, rows of their own -/
def ChR (k f : Nat) (S z : Sto) : Prop := (∀ a i, a ≠ 267 → gI z a i = gI S a i) ∧ (∀ a i, a ≠ 266 → a ≠ 344 + 22 * k + 21 → gL z a i = gL S a i) ∧ (∀ i, (i < 64 * f ∨ 64 * (f + 1) ≤ i) → gL z (344 + 22 * k + 21) i = gL S (344 + 22 * k + 21) i) ∧ (∀ a i, gR z a i = gR S a i) ∧ nC z = nC S ∧ nS z = nS S
theorem ChR.T {f : Nat} {z : Sto} (h : ChR k f S z) : ChT k S z := ⟨h.1, h.2.1, h.2.2.2.1, h.2.2.2.2.1, h.2.2.2.2.2⟩
theorem ChR.tr {f : Nat} {z y : Sto} (h : ChR k f S z) (g : ChR k f z y) : ChR k f S y :=
  ⟨fun a i q => (g.1 a i q).trans (h.1 a i q), fun a i q q' => (g.2.1 a i q q').trans (h.2.1 a i q q'), fun i q => (g.2.2.1 i q).trans (h.2.2.1 i q), fun a i => (g.2.2.2.1 a i).trans (h.2.2.2.1 a i), g.2.2.2.2.1.trans h.2.2.2.2.1, g.2.2.2.2.2.trans h.2.2.2.2.2⟩
theorem k_work2 (hk : k < 4) (r : RepK S (344 + 22 * k) C) (w : WFC C) (h : KFl S k C) : WP (lpF mX19_work_L2 (0, S)) (fun z => (∀ n, n < kN C → gI z 267 n = 0) ∧ (∀ a i, a ≠ 267 → gI z a i = gI S a i) ∧ (∀ a i, gL z a i = gL S a i) ∧ (∀ a i, gR z a i = gR S a i) ∧ nC z = nC S ∧ nS z = nS S) := by
  have hn := w.nums
  refine WP_cnt (kN C) (fun n z => z.1 = (n : Int) ∧ (∀ m, m < n → gI z.2 267 m = 0) ∧ (∀ a i, a ≠ 267 → gI z.2 a i = gI S a i) ∧ (∀ a i, gL z.2 a i = gL S a i) ∧ (∀ a i, gR z.2 a i = gR S a i) ∧ nC z.2 = nC S ∧ nS z.2 = nS S) (by unfold cFU; omega) ⟨rfl, fun m hm => absurd hm (Nat.not_lt_zero _), fun _ _ _ => rfl, fun _ _ => rfl, fun _ _ => rfl, rfl, rfl⟩ (fun n z hn' hI => ?_) (fun z hI => ?_)
  · obtain ⟨b1, b2, b3, b4, b5, b6, b7⟩ := hI
    have rz : RepK z.2 (344 + 22 * k) C := r.cg (fun a i _ _ => b3 a i (by omega))
    unfold mX19_work_L2
    rw [b5, h.1, gk_chip hk, k_nets rz w, bX_some, b1, w32_id (by omega), w32_id (by omega), if_pos (by omega), wrI_e (by omega), Int.toNat_natCast]
    refine WP_some.2 ⟨by show (n : Int) + 1 = _; omega, fun m hm => ?_, fun a i q => by dsimp only; rw [hI_sI_a q]; exact b3 a i q, fun a i => by dsimp only; rw [gL_sI]; exact b4 a i, fun a i => by dsimp only; rw [gR_sI]; exact b5 a i, b6, b7⟩
    dsimp only
    by_cases q : m = n
    · subst q; rw [gI_set]; rfl
    · rw [hI_sI_i q]; exact b2 m (by omega)
  · obtain ⟨b1, b2, b3, b4, b5, b6, b7⟩ := hI
    have rz : RepK z.2 (344 + 22 * k) C := r.cg (fun a i _ _ => b3 a i (by omega))
    unfold mX19_work_L2
    rw [b5, h.1, gk_chip hk, k_nets rz w, bX_some, b1, w32_id (by omega), if_neg (by omega)]
    exact WP_some.2 ⟨b2, b3, b4, b5, b6, b7⟩
theorem k_work28 (hk : k < 4) (w : WFC C) (h : KFl S k C) {f : Nat} (hf : f < 1224) : WP (lpF (mX19_work_L28 (f : Int)) (0, S)) (fun z => (∀ u, u < kWds C → gL z (344 + 22 * k + 21) (64 * f + u) = 0) ∧ (∀ a i, gI z a i = gI S a i) ∧ (∀ a i, a ≠ 344 + 22 * k + 21 → gL z a i = gL S a i) ∧ (∀ i, (i < 64 * f ∨ 64 * (f + 1) ≤ i) → gL z (344 + 22 * k + 21) i = gL S (344 + 22 * k + 21) i) ∧ (∀ a i, gR z a i = gR S a i) ∧ nC z = nC S ∧ nS z = nS S) := by
  have kw := kWds_rng w
  refine WP_cnt (kWds C) (fun t z => z.1 = (t : Int) ∧ (∀ u, u < t → gL z.2 (344 + 22 * k + 21) (64 * f + u) = 0) ∧ (∀ a i, gI z.2 a i = gI S a i) ∧ (∀ a i, a ≠ 344 + 22 * k + 21 → gL z.2 a i = gL S a i) ∧ (∀ i, (i < 64 * f ∨ 64 * (f + 1) ≤ i) → gL z.2 (344 + 22 * k + 21) i = gL S (344 + 22 * k + 21) i) ∧ (∀ a i, gR z.2 a i = gR S a i) ∧ nC z.2 = nC S ∧ nS z.2 = nS S) (by unfold cFU; omega) ⟨rfl, fun m hm => absurd hm (Nat.not_lt_zero _), fun _ _ => rfl, fun _ _ _ => rfl, fun _ _ => rfl, fun _ _ => rfl, rfl, rfl⟩ (fun t z ht hI => ?_) (fun z hI => ?_)
  · obtain ⟨b1, b2, b3, b4, b5, b6, b7, b8⟩ := hI
    have zt : (64 * (f : Int) + (t : Int)).toNat = 64 * f + t := by omega
    unfold mX19_work_L28
    rw [b3, h.2.1, b1, w32_id (by omega), w32_id (by omega), if_pos (by omega), b6, h.1, gk_chip hk, wrL_e (by omega), zt]
    refine WP_some.2 ⟨by show (t : Int) + 1 = _; omega, fun u hu => ?_, fun a i => by dsimp only; rw [gI_sL]; exact b3 a i, fun a i q => by dsimp only; rw [gL_sLn (.inl q)]; exact b4 a i q, fun i q => by dsimp only; rw [gL_sLn (.inr (by omega))]; exact b5 i q, fun a i => by dsimp only; rw [gR_sL]; exact b6 a i, b7, b8⟩
    dsimp only
    by_cases q : u = t
    · subst q; rw [gL_sLe ⟨rfl, rfl⟩]
    · rw [gL_sLn (.inr (by omega))]; exact b2 u (by omega)
  · obtain ⟨b1, b2, b3, b4, b5, b6, b7, b8⟩ := hI
    unfold mX19_work_L28
    rw [b3, h.2.1, b1, w32_id (by omega), if_neg (by omega)]
    exact WP_some.2 ⟨b2, b3, b4, b5, b6, b7, b8⟩
/-- ends of one sort are looked at, one after the other -/
theorem k_ends1 (hk : k < 4) (r : RepK S (344 + 22 * k) C) (w : WFC C) (h : KFl S k C) (hW : ∀ n u, n < kN C → u < kWds C → KWd S C n u) {f : Nat} (hf : f < 1224) (hS : ∀ n, n < kN C → SeenOk S C (VF C f) n)
    {lim : Nat} (hl : lim ≤ 16) {ends : Nat → Int} (he : ∀ j, j < lim → -2 ≤ ends j ∧ ends j < kN C) {F : Int × Sto → Option ((Int × Sto) ⊕ Sto)}
    (hF : ∀ z, ChT k S z → ∀ j, j < lim → F ((j : Int), z) = bX (mX19_observe z (ends j) (f : Int)) fun x => some (.inl ((j : Int) + 1, x))) (hF2 : ∀ z, ChT k S z → F ((lim : Int), z) = some (.inr z)) :
    WP (lpF F (0, S)) (fun z => ChR k f S z ∧ (∀ i, gI z 267 i = gI S 267 i) ∧ (∀ i, gL z 266 i = gL S 266 i) ∧ ∀ u i, u < kWds C → i < 64 → tb (gL z (344 + 22 * k + 21) (64 * f + u)) i = (tb (gL S (344 + 22 * k + 21) (64 * f + u)) i || (kDifN (fun j => kBit C (64 * u + i) (ends j)) (fun j => kBitF C (64 * u + i) f (ends j)) lim && kMsk C i))) := by
  refine WP_cnt lim (fun t z => z.1 = (t : Int) ∧ ChR k f S z.2 ∧ (∀ i, gI z.2 267 i = gI S 267 i) ∧ (∀ i, gL z.2 266 i = gL S 266 i) ∧ ∀ u i, u < kWds C → i < 64 → tb (gL z.2 (344 + 22 * k + 21) (64 * f + u)) i = (tb (gL S (344 + 22 * k + 21) (64 * f + u)) i || (kDifN (fun j => kBit C (64 * u + i) (ends j)) (fun j => kBitF C (64 * u + i) f (ends j)) t && kMsk C i))) (by unfold cFU; omega)
    ⟨rfl, ⟨fun _ _ _ => rfl, fun _ _ _ _ => rfl, fun _ _ => rfl, fun _ _ => rfl, rfl, rfl⟩, fun _ => rfl, fun _ => rfl, fun u i _ _ => by show _ = (_ || (false && _)); rw [Bool.false_and, Bool.or_false]⟩ (fun t z ht hI => ?_) (fun z hI => ?_)
  · obtain ⟨z1, z2⟩ := z
    obtain ⟨b1, b2, b3, b4, b5⟩ := hI
    dsimp only at b1 b2 b3 b4 b5
    subst b1
    rw [hF z2 b2.T t ht]
    refine WP_call (k_observe hk (b2.T.K hk r) w (b2.T.F hk h) (fun n u h1 h2 => b2.T.W hk (hW n u h1 h2)) hf (he t ht) (fun q u i hu hi => ?_)) (fun y hy => ?_)
    · have := he t ht
      rw [seenW_of (b3 _) (b4 _) (b2.2.1 265 _ (by omega) (by omega))]
      exact hS _ (by omega) u i hu hi
    · obtain ⟨y1, y2, y3, y4, y5⟩ := hy
      refine WP_some.2 ⟨by show (t : Int) + 1 = _; omega, b2.tr ⟨y1.1, y1.2.1, y4, y1.2.2.1, y1.2.2.2.1, y1.2.2.2.2⟩, fun i => (y2 i).trans (b3 i), fun i => (y3 i).trans (b4 i), fun u i hu hi => ?_⟩
      dsimp only
      rw [y5 u i hu hi, b5 u i hu hi]
      show _ = (_ || ((kDifN (fun j => kBit C (64 * u + i) (ends j)) (fun j => kBitF C (64 * u + i) f (ends j)) t || (kBit C (64 * u + i) (ends t) ^^ kBitF C (64 * u + i) f (ends t))) && kMsk C i))
      cases kMsk C i
      · rw [Bool.and_false, Bool.and_false, Bool.and_false, Bool.or_false]
      · rw [Bool.and_true, Bool.and_true, Bool.and_true, Bool.or_assoc]
  · obtain ⟨z1, z2⟩ := z
    obtain ⟨b1, b2, b3, b4, b5⟩ := hI
    dsimp only at b1 b2 b3 b4 b5
    subst b1
    rw [hF2 z2 b2.T]
    exact WP_some.2 ⟨b2, b3, b4, b5⟩
/-- what a fault's working out leaves -/
theorem k_work19 (hk : k < 4) (r : RepK S (344 + 22 * k) C) (w : WFC C) (h : KFl S k C) (hW : ∀ n u, n < kN C → u < kWds C → KWd S C n u) {f : Nat} (hf : f < kFa C) : WP (mX19_work S (f : Int)) (fun z => ChR k f S z ∧ KRw z k C f) := by
  have hn := w.nums
  have fa := kFa_le w
  have kw := kWds_rng w
  unfold mX19_work
  refine WP_call (k_work2 hk r w h) (fun y5 h5 => ?_)
  obtain ⟨f1, f2, f3, f4, f5, f6⟩ := h5
  have c5 : ChR k f S y5 := ⟨f2, fun a i _ _ => f3 a i, fun i _ => f3 _ i, f4, f5, f6⟩
  refine WP_call (k_work28 hk w (c5.T.F hk h) (f := f) (by omega)) (fun y9 h9 => ?_)
  obtain ⟨g1, g2, g3, g4, g5, g6, g7⟩ := h9
  have c9 : ChR k f S y9 := c5.tr ⟨fun a i _ => g2 a i, fun a i _ q => g3 a i q, g4, g5, g6, g7⟩
  have r9 := c9.T.K hk r
  have k9 := c9.T.F hk h
  have w9 := fun n u h1 h2 => c9.T.W hk (n := n) (u := u) (hW n u h1 h2)
  have d9 : ∀ n, n < kN C → gI y9 267 n = 0 := fun n hn' => (g2 _ _).trans (f1 n hn')
  have s9 : ∀ n u i, n < kN C → u < kWds C → i < 64 → tb (seenW y9 n u) i = (kVal C (64 * u + i) n && kMsk C i) := fun n u i h1 h2 h3 => by
    unfold seenW; rw [if_pos (d9 n h1)]; exact w9 n u h1 h2 i h3
  rw [k9.1, gk_chip hk, k_nets r9 w, bX_some, w32_id (by omega), w32_id (by omega)]
  refine WP_call (R := fun y => y = kFst C f) ?_ (fun y12 h12 => ?_)
  · unfold kFst
    by_cases q : f < 2 * kN C
    · rw [if_pos (by omega), if_pos q, gnz_nz (by decide), aDiv_nn (by omega) (by omega)]
      exact WP_some.2 (by omega)
    · rw [if_neg (by omega), if_neg q]; exact WP_some.2 rfl
  subst h12
  refine WP_call (R := fun y => y = kFpn C f) ?_ (fun y14 h14 => ?_)
  · have sr := kFst_rng w (f := f)
    rw [w32_id (by omega)]
    by_cases q : f < 2 * kN C
    · have e : kFst C f = ((f / 2 : Nat) : Int) := if_pos q
      rw [if_neg (by omega)]
      exact WP_some.2 (by unfold kFpn; rw [if_pos q])
    · have e : kFst C f = -1 := if_neg q
      rw [if_pos e, k_pinOf r9 w hk k9.1 (by omega) hf, bX_some]
      exact WP_some.2 rfl
  subst h14
  -- the fault is put
  refine WP_call (R := fun y => Ch67 y9 y ∧ KPut y C f ∧ ∀ n, n < kB C → SeenOk y C (VF C f) n) ?_ (fun y17 h17 => ?_)
  · rw [kFv_bit]
    by_cases q : f < 2 * kN C
    · have e1 : kFst C f = ((f / 2 : Nat) : Int) := if_pos q
      have e2 : kFpn C f = -1 := if_pos q
      have e3 : spcN C f = f / 2 := if_pos q
      rw [e1, w32_id (by omega), if_pos (by omega)]
      refine WP_call (k_setNet w k9 (n := f / 2) (b := kFv f) (by omega)) (fun y hy => ?_)
      obtain ⟨a1, a2, a3, a4⟩ := hy
      have own : SeenOk y C (VF C f) (f / 2) := fun u i hu hi => by
        rw [a4 u i hu hi]
        have ev : VF C f (64 * u + i) (f / 2) = kFv f := by
          unfold VF
          by_cases l : f / 2 < kB C
          · rw [kValF_src l, if_pos e1.symm]
          · have eg := kValF_gate (p := 64 * u + i) (st := kFst C f) (pn := kFpn C f) (b := kFv f) w (g := f / 2 - kB C) (by omega)
            rw [show kB C + (f / 2 - kB C) = f / 2 by omega, if_pos e1.symm] at eg
            exact eg
        rw [ev]
      refine WP_some.2 ⟨a1, ⟨by omega, by rw [e3]; exact own, fun n hn' hne => by rw [a2 n (by omega)]; exact d9 n hn'⟩, fun n hn' => ?_⟩
      by_cases l : n = f / 2
      · rw [l]; exact own
      · intro u i hu hi
        rw [seenW_of (a2 n l) (a3 n u l (by omega)) (a1.2.1 265 _ (by omega)), s9 n u i (by omega) hu hi]
        congr 1
        unfold VF kVal
        rw [kValF_src hn', kValF_src hn', if_neg (by omega), if_neg (by omega)]
    · obtain ⟨g, j, h1, h2, h3, h4, h5⟩ := pin_at w (by omega) hf
      have ar := w.ar h1
      have d : aDiv ((3 * g + j : Nat) : Int) 3 = (g : Int) := by rw [aDiv_nn (by omega) (by omega)]; omega
      have m : aRem ((3 * g + j : Nat) : Int) 3 = (j : Int) := by rw [aRem_nn (by omega) (by omega)]; omega
      rw [h5, if_neg (fun g' => g' (by decide)), gnz_nz (by decide), gnz_nz (by decide), h3, d, m]
      have ahead : ∀ p n, n < kB C + g → VF C f p n = kVal C p n := fun p n l => by
        unfold VF; rw [h3, h5]; exact kValF_ahead w (by omega) n l h1
      refine WP_call (k_again hk r9 w k9 (inp := (j : Int)) (b := kFv f) (V := VF C f) h1 (by omega) (fun j' hj' hne u i hu hi => ?_)) (fun y hy => ?_)
      · have hp := w.p h1 hj'
        rw [s9 _ u i (by omega) hu hi, ahead _ _ hp.2]
      · obtain ⟨a1, a2, a3, a4⟩ := hy
        have ne : ∀ n, n ≠ kB C + g → n < kB C → SeenOk y C (VF C f) n := fun n l hn' u i hu hi => by
          rw [seenW_of (a2 n l) (a3 n u l (by omega)) (a1.2.1 265 _ (by omega)), s9 n u i (by omega) hu hi, ahead _ _ (by omega)]
        refine WP_some.2 ⟨a1, ⟨by omega, ?_, fun n hn' hne => by rw [a2 n (by omega)]; exact d9 n hn'⟩, fun n hn' => ne n (by omega) hn'⟩
        rw [h4]
        intro u i hu hi
        rw [a4 u i hu hi]
        congr 1
        have e : VF C f (64 * u + i) (kB C + g) = (kFn C g).testBit (bitsN (kAr C g) (fun k => if ((3 * g + k : Nat) : Int) = kFpn C f then kFv f else VF C f (64 * u + i) (kP C g k))) := by
          unfold VF
          rw [kValF_gate w h1, if_neg (by omega)]; rfl
        rw [e]
        congr 1
        refine bitsN_congr (fun j' hj' => ?_)
        rw [h3]
        by_cases l : j' = j
        · subst l; rw [if_pos rfl, if_pos rfl]
        · rw [if_neg (by omega), if_neg (by omega)]
  obtain ⟨c17, p17, q17⟩ := h17
  have r17 : RepK y17 (344 + 22 * k) C := c17.K r9
  have k17 := c17.F k9
  have w17 : ∀ n u, n < kN C → u < kWds C → KWd y17 C n u := fun n u h1 h2 i hi => by rw [c17.2.1 265 _ (by omega)]; exact w9 n u h1 h2 i hi
  refine WP_call (k_work125 hk r17 w k17 w17 hf p17 q17) (fun y26 h26 => ?_)
  obtain ⟨c26, s26⟩ := h26
  have c26' : Ch67 y9 y26 := c17.tr c26
  have r26 : RepK y26 (344 + 22 * k) C := c26'.K r9
  have k26 := c26'.F k9
  have w26 : ∀ n u, n < kN C → u < kWds C → KWd y26 C n u := fun n u h1 h2 i hi => by rw [c26'.2.1 265 _ (by omega)]; exact w9 n u h1 h2 i hi
  have e26 : ChR k f y9 y26 := ⟨c26'.1, fun a i q _ => c26'.2.1 a i q, fun i _ => c26'.2.1 _ i (by omega), c26'.2.2.1, c26'.2.2.2.1, c26'.2.2.2.2⟩
  refine WP_call (k_ends1 hk r26 w k26 w26 (f := f) (by omega) s26 (lim := kO C) hn.2.2.2.1 (ends := fun j => C 6 j) (fun j hj => ?_) (fun z hz j hj => ?_) (fun z hz => ?_)) (fun y32 h32 => ?_)
  · have := w.2.2.2.1 j hj
    have := w.i; have := w.r; have := w.g
    omega
  · have kz := hz.F hk k26
    have rz := hz.K hk r26
    have e3 := rz.1.2.2.1
    rw [w.o] at e3
    unfold mX19_work_L189
    dsimp only
    rw [kz.1, gk_chip hk, e3, w32_id (by omega), w32_id (by omega), if_pos (by omega), gk_chip hk, rdI_e (by omega), Int.toNat_natCast, rz.2.2.2.1 j hj]
  · have kz := hz.F hk k26
    have rz := hz.K hk r26
    have e3 := rz.1.2.2.1
    rw [w.o] at e3
    unfold mX19_work_L189
    dsimp only
    rw [kz.1, gk_chip hk, e3, w32_id (by omega), if_neg (by omega)]
  obtain ⟨c32, a32, b32, t32⟩ := h32
  have r32 := c32.T.K hk r26
  have k32 := c32.T.F hk k26
  refine WP_call (k_ends1 hk r32 w k32 (fun n u h1 h2 => c32.T.W hk (w26 n u h1 h2)) (f := f) (by omega) (fun n hn' u i hu hi => ?_) (lim := kR C) (by omega) (ends := fun j => C 7 j) (fun j hj => ?_) (fun z hz j hj => ?_) (fun z hz => ?_)) (fun y38 h38 => ?_)
  · rw [seenW_of (a32 _) (b32 _) (c32.2.1 265 _ (by omega) (by omega))]
    exact s26 n hn' u i hu hi
  · have := w.2.2.2.2.1 j hj
    have := w.i; have := w.r; have := w.g
    omega
  · have kz := hz.F hk k32
    have rz := hz.K hk r32
    have e3 := rz.1.2.1
    rw [w.r] at e3
    unfold mX19_work_L225
    dsimp only
    rw [kz.1, gk_chip hk, e3, w32_id (by omega), w32_id (by omega), if_pos (by omega), gk_chip hk, rdI_e (by omega), Int.toNat_natCast, rz.2.2.2.2.1 j hj]
  · have kz := hz.F hk k32
    have rz := hz.K hk r32
    have e3 := rz.1.2.1
    rw [w.r] at e3
    unfold mX19_work_L225
    dsimp only
    rw [kz.1, gk_chip hk, e3, w32_id (by omega), if_neg (by omega)]
  obtain ⟨c38, _, _, t38⟩ := h38
  refine WP_some.2 ⟨((c9.tr e26).tr c32).tr c38, fun u i hu hi => ?_⟩
  rw [t38 u i hu hi, t32 u i hu hi, c26'.2.1 _ _ (by omega), g1 u hu, tb_0, Bool.false_or]
  unfold kShow
  cases kMsk C i
  · rw [Bool.and_false, Bool.and_false, Bool.and_false, Bool.or_false]
  · rw [Bool.and_true, Bool.and_true, Bool.and_true]
end KWORK3
