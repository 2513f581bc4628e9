/-! the class's faults: which patterns show one -/
section KWORK
variable {S : Sto} {k : Nat} {C : Chp}
/-- labels that working a fault out changes -/
def ChT (k : Nat) (S z : Sto) : Prop := (∀ a i, a ≠ 267 → gI z a i = gI S a i) ∧ (∀ a i, a ≠ 266 → a ≠ 344 + 22 * k + 21 → gL z a i = gL S a i) ∧ (∀ a i, gR z a i = gR S a i) ∧ nC z = nC S ∧ nS z = nS S
theorem ChT.refl : ChT k S S := ⟨fun _ _ _ => rfl, fun _ _ _ _ => rfl, fun _ _ => rfl, rfl, rfl⟩
theorem ChT.tr {z y : Sto} (h : ChT k S z) (g : ChT k z y) : ChT k S y :=
  ⟨fun a i q => (g.1 a i q).trans (h.1 a i q), fun a i q q' => (g.2.1 a i q q').trans (h.2.1 a i q q'), fun a i => (g.2.2.1 a i).trans (h.2.2.1 a i), g.2.2.2.1.trans h.2.2.2.1, g.2.2.2.2.trans h.2.2.2.2⟩
theorem ChT.of {z : Sto} (h : Ch 266 267 S z) (h6 : ∀ i, gI z 266 i = gI S 266 i) (h7 : ∀ i, gL z 267 i = gL S 267 i) : ChT k S z :=
  ⟨fun a i q => by
    by_cases l : a = 266
    · subst l; exact h6 i
    · exact h.1 a i (by omega), fun a i q q' => by
    by_cases l : a = 267
    · subst l; exact h7 i
    · exact h.2.1 a i (by omega), h.2.2.1, h.2.2.2.1, h.2.2.2.2⟩
theorem ChT.K (hk : k < 4) {z : Sto} (h : ChT k S z) (r : RepK S (344 + 22 * k) C) : RepK z (344 + 22 * k) C := r.cg (fun a i _ _ => h.1 a i (by omega))
theorem ChT.F (hk : k < 4) {z : Sto} (h : ChT k S z) (r : KFl S k C) : KFl z k C := ⟨(h.2.2.1 _ _).trans r.1, (h.1 _ _ (by omega)).trans r.2.1, fun i hi => by rw [h.2.1 264 2 (by omega) (by omega)]; exact r.2.2 i hi⟩
theorem ChT.W (hk : k < 4) {z : Sto} (h : ChT k S z) {n u : Nat} (r : KWd S C n u) : KWd z C n u := fun i hi => by rw [h.2.1 265 _ (by omega) (by omega)]; exact r i hi
theorem kPin_at (w : WFC C) {n : Nat} : ∀ {g l : Nat}, l + kArs C g < kArs C (g + n) → ∃ g' j, g ≤ g' ∧ g' < g + n ∧ j < kAr C g' ∧ kPin C n g l = 3 * g' + j := by
  induction n with
  | zero => intro g l h; exact absurd h (by show ¬ l + kArs C g < kArs C g; omega)
  | succ n ih =>
    intro g l h
    by_cases q : l < kAr C g
    · exact ⟨g, l, Nat.le_refl _, by omega, q, kPin_stop q⟩
    · have e : kArs C (g + 1) = kArs C g + kAr C g := rfl
      obtain ⟨g', j, h1, h2, h3, h4⟩ := ih (g := g + 1) (l := l - kAr C g) (by rw [show g + 1 + n = g + (n + 1) by omega]; omega)
      exact ⟨g', j, by omega, by omega, h3, by rw [kPin_step q]; exact h4⟩
/-- nets ahead of a gate with a fault at an input -/
theorem kValF_ahead (w : WFC C) {p g j : Nat} {b : Bool} (hj : j < 3) : ∀ n, n < kB C + g → g < kG C → kValF C p (-1) ((3 * g + j : Nat) : Int) b n = kVal C p n := by
  intro n
  induction n using Nat.strongRecOn with
  | ind n ih =>
    intro hn hg
    by_cases q : n < kB C
    · unfold kVal
      rw [kValF_src q, kValF_src q, if_neg (by omega), if_neg (by omega)]
    · obtain ⟨i, rfl⟩ : ∃ i, n = kB C + i := ⟨n - kB C, by omega⟩
      have hi : i < kG C := by omega
      unfold kVal
      rw [kValF_gate w hi, kValF_gate w hi, if_neg (by omega), if_neg (by omega)]
      unfold kStep
      congr 1
      unfold kIdx
      refine bitsN_congr (fun m hm => ?_)
      have hp := w.p hi hm
      have ar := w.ar hi
      rw [if_neg (by omega), if_neg (by omega)]
      exact ih _ (by omega) (by omega) hg
/-- what a net tells in both ways at an end -/
theorem k_observe (hk : k < 4) (r : RepK S (344 + 22 * k) C) (w : WFC C) (h : KFl S k C) (hW : ∀ n u, n < kN C → u < kWds C → KWd S C n u) {f : Nat} (hf : f < 1224) {e : Int} (he : -2 ≤ e ∧ e < kN C)
    (hS : 0 ≤ e → SeenOk S C (fun p n => kValF C p (kFst C f) (kFpn C f) (kFv f) n) e.toNat) :
    WP (mX19_observe S e (f : Int)) (fun z => ChT k S z ∧ (∀ i, gI z 267 i = gI S 267 i) ∧ (∀ i, gL z 266 i = gL S 266 i) ∧ (∀ i, (i < 64 * f ∨ 64 * (f + 1) ≤ i) → gL z (344 + 22 * k + 21) i = gL S (344 + 22 * k + 21) i) ∧
      ∀ u i, u < kWds C → i < 64 → tb (gL z (344 + 22 * k + 21) (64 * f + u)) i = (tb (gL S (344 + 22 * k + 21) (64 * f + u)) i || ((kBit C (64 * u + i) e ^^ kBitF C (64 * u + i) f e) && kMsk C i))) := by
  have hn := w.nums
  have kw := kWds_rng w
  have no : (e < 0 ∨ gI S 267 e.toNat = 0) → ∀ u i, u < kWds C → i < 64 → ((kBit C (64 * u + i) e ^^ kBitF C (64 * u + i) f e) && kMsk C i) = false := by
    intro g u i hu hi
    unfold kBit kBitF
    by_cases q : e < 0
    · rw [if_pos q, if_pos q, Bool.xor_self, Bool.false_and]
    · have q2 : gI S 267 e.toNat = 0 := g.resolve_left q
      have t := hS (by omega) u i hu hi
      unfold seenW at t
      rw [if_pos q2, hW _ _ (by omega) hu i hi] at t
      rw [if_neg q, if_neg q]
      revert t
      cases kMsk C i
      · intro _; rw [Bool.and_false]
      · rw [Bool.and_true, Bool.and_true, Bool.and_true]
        intro t; rw [t, Bool.xor_self]
  have skip : (e < 0 ∨ gI S 267 e.toNat = 0) → WP (some S) (fun z => ChT k S z ∧ (∀ i, gI z 267 i = gI S 267 i) ∧ (∀ i, gL z 266 i = gL S 266 i) ∧ (∀ i, (i < 64 * f ∨ 64 * (f + 1) ≤ i) → gL z (344 + 22 * k + 21) i = gL S (344 + 22 * k + 21) i) ∧
      ∀ u i, u < kWds C → i < 64 → tb (gL z (344 + 22 * k + 21) (64 * f + u)) i = (tb (gL S (344 + 22 * k + 21) (64 * f + u)) i || ((kBit C (64 * u + i) e ^^ kBitF C (64 * u + i) f e) && kMsk C i))) := fun g =>
    WP_some.2 ⟨ChT.refl, fun _ => rfl, fun _ => rfl, fun _ _ => rfl, fun u i hu hi => by rw [no g u i hu hi, Bool.or_false]⟩
  unfold mX19_observe
  rw [w32_id (by omega)]
  by_cases q : 0 ≤ e
  · rw [if_pos q, rdZ_e (by omega), w32_bz]
    by_cases q2 : gI S 267 e.toNat = 0
    · rw [if_pos (bz_eq0.2 q2), bX_some, if_pos rfl]; exact skip (.inr q2)
    · rw [if_neg (fun g => q2 (bz_eq0.1 g)), bX_some, if_neg (by decide)]
      obtain ⟨n, rfl⟩ : ∃ n : Nat, e = (n : Int) := ⟨e.toNat, by omega⟩
      rw [Int.toNat_natCast] at q2 hS
      have hS := hS q
      refine WP_call (R := fun z => ChT k S z ∧ (∀ i, gI z 267 i = gI S 267 i) ∧ (∀ i, gL z 266 i = gL S 266 i) ∧ (∀ i, (i < 64 * f ∨ 64 * (f + 1) ≤ i) → gL z (344 + 22 * k + 21) i = gL S (344 + 22 * k + 21) i) ∧
        ∀ u i, u < kWds C → i < 64 → tb (gL z (344 + 22 * k + 21) (64 * f + u)) i = (tb (gL S (344 + 22 * k + 21) (64 * f + u)) i || ((kBit C (64 * u + i) (n : Int) ^^ kBitF C (64 * u + i) f (n : Int)) && kMsk C i))) ?_ (fun z hz => WP_some.2 hz)
      refine WP_cnt (kWds C) (fun t z => z.1 = (t : Int) ∧ ChT k S z.2 ∧ (∀ i, gI z.2 267 i = gI S 267 i) ∧ (∀ i, gL z.2 266 i = gL S 266 i) ∧ (∀ i, (i < 64 * f ∨ 64 * f + t ≤ i) → gL z.2 (344 + 22 * k + 21) i = gL S (344 + 22 * k + 21) i) ∧
        ∀ u i, u < t → i < 64 → tb (gL z.2 (344 + 22 * k + 21) (64 * f + u)) i = (tb (gL S (344 + 22 * k + 21) (64 * f + u)) i || ((kBit C (64 * u + i) (n : Int) ^^ kBitF C (64 * u + i) f (n : Int)) && kMsk C i))) (by unfold cFU; omega)
        ⟨rfl, ChT.refl, fun _ => rfl, fun _ => rfl, fun _ _ => rfl, fun u i hu => absurd hu (Nat.not_lt_zero _)⟩ (fun t z ht hI => ?_) (fun z hI => ?_)
      · obtain ⟨z1, z2⟩ := z
        obtain ⟨b1, b2, b3, b4, b5, b6⟩ := hI
        dsimp only at b1 b2 b3 b4 b5 b6
        subst b1
        have hz := b2.F hk h
        have zf : (64 * (f : Int) + (t : Int)).toNat = 64 * f + t := by omega
        have zn : (64 * (n : Int) + (t : Int)).toNat = 64 * n + t := by omega
        unfold mX19_observe_L16
        dsimp only
        rw [hz.2.1, w32_id (by omega), w32_id (by omega), if_pos (by omega), hz.1, gk_chip hk, rdL_e (by omega), zf, rdL_e (by omega), zn, rdL_e (by omega), zn, wrL_e (by omega), zf]
        refine WP_some.2 ⟨by show (t : Int) + 1 = _; omega, ⟨fun a i l => by rw [gI_sL]; exact b2.1 a i l, fun a i l l' => by rw [gL_sLn (.inl l')]; exact b2.2.1 a i l l', fun a i => by rw [gR_sL]; exact b2.2.2.1 a i, b2.2.2.2.1, b2.2.2.2.2⟩, fun i => by rw [gI_sL]; exact b3 i, fun i => by rw [gL_sLn (.inl (by omega))]; exact b4 i, fun i hi => ?_, fun u i hu hi => ?_⟩
        · dsimp only; rw [gL_sLn (.inr (by omega))]; exact b5 i (by omega)
        · dsimp only
          by_cases l : u = t
          · subst l
            have t1 := hS u i ht hi
            unfold seenW at t1
            rw [if_neg q2] at t1
            rw [gL_sLe ⟨rfl, rfl⟩, tb_or, tb_xor, b5 _ (by omega), b4, b2.2.1 265 _ (by omega) (by omega), t1, hW _ _ (by omega) ht i hi]
            unfold kBit kBitF
            rw [if_neg (by omega), if_neg (by omega), Int.toNat_natCast]
            cases kMsk C i
            · rw [Bool.and_false, Bool.and_false, Bool.and_false]; rfl
            · rw [Bool.and_true, Bool.and_true, Bool.and_true, Bool.xor_comm]
          · rw [gL_sLn (.inr (by omega))]; exact b6 u i (by omega) hi
      · obtain ⟨z1, z2⟩ := z
        obtain ⟨b1, b2, b3, b4, b5, b6⟩ := hI
        dsimp only at b1 b2 b3 b4 b5 b6
        subst b1
        have hz := b2.F hk h
        unfold mX19_observe_L16
        dsimp only
        rw [hz.2.1, w32_id (by omega), if_neg (by omega)]
        exact WP_some.2 ⟨b2, b3, b4, fun i hi => b5 i (by omega), b6⟩
  · rw [if_neg q, bX_some, if_pos rfl]; exact skip (.inl (by omega))
theorem kFv_bit (f : Nat) : aAnd (f : Int) 1 = b2i (kFv f) := by
  rw [aAnd_1]
  unfold kFv b2i
  by_cases q : f % 2 = 1
  · rw [if_pos (decide_eq_true q)]; omega
  · rw [if_neg (fun g => q (of_decide_eq_true g))]; omega
/-- the net where a fault is put, and what is there then -/
def spcN (C : Chp) (f : Nat) : Nat := if f < 2 * kN C then f / 2 else kB C + kPin C (kG C) 0 ((f - 2 * kN C) / 2) / 3
def VF (C : Chp) (f : Nat) : Nat → Nat → Bool := fun p n => kValF C p (kFst C f) (kFpn C f) (kFv f) n
theorem seenW_of {z : Sto} {n u : Nat} (h7 : gI z 267 n = gI S 267 n) (h6 : gL z 266 (64 * n + u) = gL S 266 (64 * n + u)) (h5 : gL z 265 (64 * n + u) = gL S 265 (64 * n + u)) : seenW z n u = seenW S n u := by
  unfold seenW; rw [h7, h6, h5]
end KWORK
