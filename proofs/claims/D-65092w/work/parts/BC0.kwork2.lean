/-! the class's faults: the fault is put, all gates behind it again -/
section KWORK2
variable {S : Sto} {k : Nat} {C : Chp}
/-- the fault is put -/
def KPut (S : Sto) (C : Chp) (f : Nat) : Prop := spcN C f < kN C ∧ SeenOk S C (VF C f) (spcN C f) ∧ ∀ n, n < kN C → n ≠ spcN C f → gI S 267 n = 0
theorem pin_at (w : WFC C) {f : Nat} (h1 : 2 * kN C ≤ f) (h2 : f < kFa C) : ∃ g j, g < kG C ∧ j < kAr C g ∧ kFpn C f = ((3 * g + j : Nat) : Int) ∧ spcN C f = kB C + g ∧ kFst C f = -1 := by
  have eF : kFa C = 2 * kN C + 2 * kArs C (kG C) := rfl
  obtain ⟨g, j, _, h4, h5, h6⟩ := kPin_at w (n := kG C) (g := 0) (l := (f - 2 * kN C) / 2) (by rw [Nat.zero_add]; show _ + 0 < _; omega)
  rw [Nat.zero_add] at h4
  have ar := w.ar h4
  refine ⟨g, j, h4, h5, ?_, ?_, ?_⟩
  · unfold kFpn; rw [if_neg (by omega), h6]
  · unfold spcN; rw [if_neg (by omega), h6]; omega
  · unfold kFst; rw [if_neg (by omega)]
/-- a gate's word by its inputs' words -/
theorem VF_gate (w : WFC C) {f g p : Nat} (hg : g < kG C) (hs : kB C + g ≠ spcN C f) (hf : f < kFa C) : VF C f p (kB C + g) = (kFn C g).testBit (bitsN (kAr C g) (fun j => VF C f p (kP C g j))) := by
  have hn := w.nums
  have ar := w.ar hg
  unfold VF
  by_cases q : f < 2 * kN C
  · have e1 : kFst C f = ((f / 2 : Nat) : Int) := if_pos q
    have e2 : kFpn C f = -1 := if_pos q
    have e3 : spcN C f = f / 2 := if_pos q
    rw [kValF_gate w hg, if_neg (by omega)]
    unfold kStep kIdx
    congr 1
    exact bitsN_congr (fun j hj => by rw [if_neg (by omega)])
  · obtain ⟨g', j', h1, h2, h3, h4, h5⟩ := pin_at w (by omega) hf
    have ar' := w.ar h1
    rw [kValF_gate w hg, if_neg (by omega)]
    unfold kStep kIdx
    congr 1
    exact bitsN_congr (fun j hj => by rw [if_neg (by omega)])
/-- what the gates' loop leaves -/
theorem k_work125 (hk : k < 4) (r : RepK S (344 + 22 * k) C) (w : WFC C) (h : KFl S k C) (hW : ∀ n u, n < kN C → u < kWds C → KWd S C n u) {f : Nat} (hf : f < kFa C) (hP : KPut S C f) (hsrc : ∀ n, n < kB C → SeenOk S C (VF C f) n) :
    WP (lpF (mX19_work_L125 (kFst C f) (kFpn C f)) (0, S)) (fun z => Ch67 S z ∧ ∀ n, n < kN C → SeenOk z C (VF C f) n) := by
  have hn := w.nums
  have fa := kFa_le w
  obtain ⟨p1, p2, p3⟩ := hP
  refine WP_cnt (kG C) (fun g z => z.1 = (g : Int) ∧ Ch67 S z.2 ∧ (∀ n, n < kN C → (n < kB C + g ∨ n = spcN C f) → SeenOk z.2 C (VF C f) n) ∧ ∀ n, n < kN C → kB C + g ≤ n → n ≠ spcN C f → gI z.2 267 n = 0) (by unfold cFU; omega)
    ⟨rfl, Ch67.refl, fun n hn' hq => ?_, fun n hn' _ hq => p3 n hn' hq⟩ (fun g z hg hI => ?_) (fun z hI => ?_)
  · rcases hq with hq | rfl
    · exact hsrc n (by omega)
    · exact p2
  · obtain ⟨z1, z2⟩ := z
    obtain ⟨b1, b2, b3, b4⟩ := hI
    dsimp only at b1 b2 b3 b4
    subst b1
    have rz : RepK z2 (344 + 22 * k) C := b2.K r
    have hz := b2.F h
    have eg := rz.1.2.2.2.1
    rw [w.g] at eg
    have ar := w.ar hg
    unfold mX19_work_L125
    dsimp only
    rw [hz.1, gk_chip hk, eg, w32_id (by omega), w32_id (by omega), if_pos (by omega), gk_chip hk, k_netOfGate rz w, bX_some]
    have go : (∀ j, j < kAr C g → SeenOk z2 C (VF C f) (kP C g j)) := fun j hj => b3 _ (by have := w.p hg hj; omega) (.inl (w.p hg hj).2)
    -- the gate is worked out, or left
    have step : kB C + g ≠ spcN C f → WP (bX (bX (mX19_touches z2 (g : Int)) fun x23 => if ¬ w32 x23 = 0 then some true else some false) fun b => if b = true then bX (mX19_again z2 (g : Int) (-1) 0) fun x24 => some x24 else some z2)
        (fun y => Ch67 S y ∧ (∀ n, n < kN C → (n < kB C + (g + 1) ∨ n = spcN C f) → SeenOk y C (VF C f) n) ∧ ∀ n, n < kN C → kB C + (g + 1) ≤ n → n ≠ spcN C f → gI y 267 n = 0) := by
      intro hs
      rw [k_touches hk rz w hz.1 hg, bX_some, w32_b2i]
      cases ht : tchN z2 C g (kAr C g) with
      | true =>
        rw [if_pos (by decide), bX_some, if_pos rfl]
        refine WP_call (k_again hk rz w hz (inp := -1) (b := false) (V := VF C f) hg (by omega) (fun j hj _ => go j hj)) (fun y hy => ?_)
        obtain ⟨y1, y2, y3, y4⟩ := hy
        refine WP_some.2 ⟨b2.tr y1, fun n hn' hq => ?_, fun n hn' hq hq' => by rw [y2 n (by omega)]; exact b4 n hn' (by omega) hq'⟩
        by_cases e : n = kB C + g
        · subst e
          intro u i hu hi
          rw [y4 u i hu hi, VF_gate w hg hs hf]
          congr 2
        · intro u i hu hi
          have kw := kWds_rng w
          rw [seenW_of (y2 n e) (y3 n u e (by omega)) (y1.2.1 265 _ (by omega))]
          exact b3 n hn' (by omega) u i hu hi
      | false =>
        rw [if_neg (by decide), bX_some, if_neg (by decide)]
        refine WP_some.2 ⟨b2, fun n hn' hq => ?_, fun n hn' hq hq' => b4 n hn' (by omega) hq'⟩
        by_cases e : n = kB C + g
        · subst e
          intro u i hu hi
          have hW2 : ∀ m, m < kN C → tb (gL z2 265 (64 * m + u)) i = (kVal C (64 * u + i) m && kMsk C i) := fun m hm => by rw [b2.2.1 265 _ (by omega)]; exact hW m u hm hu i hi
          have d0 := b4 _ hn' (Nat.le_refl _) hs
          unfold seenW
          rw [if_pos d0, hW2 _ hn']
          cases hm : kMsk C i with
          | false => rw [Bool.and_false, Bool.and_false]
          | true =>
            rw [Bool.and_true, Bool.and_true, VF_gate w hg hs hf]
            unfold kVal
            rw [kValF_gate w hg, if_neg (by omega)]
            unfold kStep kIdx
            congr 1
            refine bitsN_congr (fun j hj => ?_)
            have hp := w.p hg hj
            rw [if_neg (by omega)]
            have t := go j hj u i hu hi
            unfold seenW at t
            rw [if_pos (tchN_f ht j hj), hW2 _ (by omega), hm, Bool.and_true, Bool.and_true] at t
            exact t
        · exact b3 n hn' (by omega)
    have fin : ∀ y, (Ch67 S y ∧ (∀ n, n < kN C → (n < kB C + (g + 1) ∨ n = spcN C f) → SeenOk y C (VF C f) n) ∧ ∀ n, n < kN C → kB C + (g + 1) ≤ n → n ≠ spcN C f → gI y 267 n = 0) → WP (some (Sum.inl ((g : Int) + 1, y) : (Int × Sto) ⊕ Sto)) (WE (fun z => z.1 = ((g + 1 : Nat) : Int) ∧ Ch67 S z.2 ∧ (∀ n, n < kN C → (n < kB C + (g + 1) ∨ n = spcN C f) → SeenOk z.2 C (VF C f) n) ∧ ∀ n, n < kN C → kB C + (g + 1) ≤ n → n ≠ spcN C f → gI z.2 267 n = 0) (fun z => Ch67 S z ∧ ∀ n, n < kN C → SeenOk z C (VF C f) n)) :=
      fun y hy => WP_some.2 ⟨by show (g : Int) + 1 = _; omega, hy⟩
    have skip : kB C + g = spcN C f → (Ch67 S z2 ∧ (∀ n, n < kN C → (n < kB C + (g + 1) ∨ n = spcN C f) → SeenOk z2 C (VF C f) n) ∧ ∀ n, n < kN C → kB C + (g + 1) ≤ n → n ≠ spcN C f → gI z2 267 n = 0) := fun hs =>
      ⟨b2, fun n hn' hq => b3 n hn' (by omega), fun n hn' hq hq' => b4 n hn' (by omega) hq'⟩
    by_cases q : f < 2 * kN C
    · have e1 : kFst C f = ((f / 2 : Nat) : Int) := if_pos q
      have e2 : kFpn C f = -1 := if_pos q
      have e3 : spcN C f = f / 2 := if_pos q
      rw [e1, e2, w32_id (by omega), w32_id (by omega), w32_id (by omega)]
      by_cases hs : kB C + g = spcN C f
      · rw [if_neg (fun g' => g' (by omega)), bX_some, if_neg (by decide), bX_some]
        exact fin _ (skip hs)
      · rw [if_pos (by omega), if_neg (fun g' => g' rfl)]
        exact WP_call (step hs) fin
    · obtain ⟨g', j', h1, h2, h3, h4, h5⟩ := pin_at w (by omega) hf
      have ar' := w.ar h1
      have d : aDiv ((3 * g' + j' : Nat) : Int) 3 = (g' : Int) := by rw [aDiv_nn (by omega) (by omega)]; omega
      rw [h3, h5, d, w32_id (by omega), w32_id (by omega), w32_id (by omega), w32_id (by omega), if_pos (by omega), if_pos (by omega), gnz_nz (by decide)]
      by_cases hs : kB C + g = spcN C f
      · rw [if_neg (fun g' => g' (by omega)), bX_some, if_neg (by decide), bX_some]
        exact fin _ (skip hs)
      · rw [if_pos (by omega)]
        exact WP_call (step hs) fin
  · obtain ⟨z1, z2⟩ := z
    obtain ⟨b1, b2, b3, b4⟩ := hI
    dsimp only at b1 b2 b3 b4
    subst b1
    have rz : RepK z2 (344 + 22 * k) C := b2.K r
    have hz := b2.F h
    have eg := rz.1.2.2.2.1
    rw [w.g] at eg
    unfold mX19_work_L125
    dsimp only
    rw [hz.1, gk_chip hk, eg, w32_id (by omega), if_neg (by omega)]
    exact WP_some.2 ⟨b2, fun n hn' => b3 n hn' (.inl (by omega))⟩
end KWORK2
