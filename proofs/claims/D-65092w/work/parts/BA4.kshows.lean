/-! whether a pattern shows a fault: the class -/
section KSHOWS
variable {S : Sto} {L k : Nat} {C : Chp}
def eBit (v : Nat → Bool) (n : Int) : Bool := if n < 0 then decide (n = -2) else v n.toNat
theorem k_bitG (w : WFC C) {T : Nat} {v : Nat → Bool} (hv : ∀ n, n < kN C → gI S T n = b2i (v n)) (hk : aN (kK T) = 162) {n : Int} (hn : -2 ≤ n ∧ n < kN C) : mX22_bit S T n = some (b2i (eBit v n)) := by
  have := w.nums
  unfold mX22_bit eBit
  rw [w32_id (by omega)]
  by_cases h : n < 0
  · rw [if_pos h, if_pos h]
    have : n = -1 ∨ n = -2 := by omega
    rcases this with rfl | rfl <;> rfl
  · rw [if_neg h, if_neg h]
    have e := hv n.toNat (by omega)
    simp (disch := omega) only [hk, rdI_e, rdZ_e, rdL_e, wrI_e, wrL_e, bX_some, bE_inl, bE_inr, bT_inl, bT_inr, bX_ite, ite_someI, ite_someL, ite_someB, tt_eq, iteb, gz_01, gz_b2i, wf_eq, wfL_eq, wfR_eq, e, bz_b2i, w32_b2i, b2i_eq0, b2i_if, Bool.not_eq_false, Bool.decide_eq_true]
theorem k_toldG (h : RepK S L C) (w : WFC C) {T : Nat} {v : Nat → Bool} (hv : ∀ n, n < kN C → gI S T n = b2i (v n)) (hk : aN (kK T) = 162) : mX22_told S L T = some ((bitsN (kO C) (fun j => eBit v (C 6 j)) : Nat) : Int) := by
  have hn := w.nums
  unfold mX22_told
  refine WP.of (WP_call (R := fun x => x = ((bitsN (kO C) (fun j => eBit v (C 6 j)) : Nat) : Int)) ?_ (fun S1 h1 => WP_some.2 h1))
  refine WP_cnt (kO C) (fun i s => s.2 = (i : Int) ∧ s.1 = ((bitsN i (fun j => eBit v (C 6 j)) : Nat) : Int)) (by unfold cFU; omega) ⟨rfl, rfl⟩ (fun i s hi hI => ?_) (fun s hI => ?_)
  · obtain ⟨a1, a2⟩ := hI
    have e1 := h.1.2.2.1
    rw [w.o] at e1
    have e2 := h.2.2.2.1 i hi
    have e3 := w.2.2.2.1 i hi
    rw [w.i, w.r, w.g] at e3
    simp (disch := omega) only [mX22_told_L4, a1, a2, e1, e2, k_bitG w hv hk, WP_ite, WP_some, WP_none, WE_inl, WE_inr, wf, wfL, wfR, rdI_e, rdZ_e, rdL_e, wrI_e, wrL_e, bX_some, bE_inl, bE_inr, bT_inl, bT_inr, bX_ite, ite_someI, ite_someL, ite_someB, tt_eq, iteb, gz_01, gz_b2i, w32_id, w32_gI, w32_bz, Int.toNat_natCast, Int.reduceToNat, Int.toNat_add, Int.toNat_mul, Int.ofNat_lt, Int.ofNat_le, Int.natCast_inj]
    exact ⟨fun _ => ⟨by omega, aOr_bits (f := fun j => eBit v (C 6 j)) rfl (by omega)⟩, fun _ => by omega⟩
  · obtain ⟨a1, a2⟩ := hI
    have e1 := h.1.2.2.1
    rw [w.o] at e1
    simp (disch := omega) only [mX22_told_L4, a1, a2, e1, WP_ite, WP_some, WP_none, WE_inl, WE_inr, wf, wfL, wfR, rdI_e, rdZ_e, rdL_e, wrI_e, wrL_e, bX_some, bE_inl, bE_inr, bT_inl, bT_inr, bX_ite, ite_someI, ite_someL, ite_someB, tt_eq, iteb, gz_01, gz_b2i, w32_id, w32_gI, w32_bz, Int.toNat_natCast, Int.reduceToNat, Int.toNat_add, Int.toNat_mul, Int.ofNat_lt, Int.ofNat_le, Int.natCast_inj]
    exact ⟨fun _ => by omega, fun _ => trivial⟩
theorem k_movedG (h : RepK S L C) (w : WFC C) {T : Nat} {v : Nat → Bool} (hv : ∀ n, n < kN C → gI S T n = b2i (v n)) (hk : aN (kK T) = 162) : mX22_moved S L T = some ((bitsN (kR C) (fun j => eBit v (C 7 j)) : Nat) : Int) := by
  have hn := w.nums
  unfold mX22_moved
  refine WP.of (WP_call (R := fun x => x = ((bitsN (kR C) (fun j => eBit v (C 7 j)) : Nat) : Int)) ?_ (fun S1 h1 => WP_some.2 h1))
  refine WP_cnt (kR C) (fun i s => s.2 = (i : Int) ∧ s.1 = ((bitsN i (fun j => eBit v (C 7 j)) : Nat) : Int)) (by unfold cFU; omega) ⟨rfl, rfl⟩ (fun i s hi hI => ?_) (fun s hI => ?_)
  · obtain ⟨a1, a2⟩ := hI
    have e1 := h.1.2.1
    rw [w.r] at e1
    have e2 := h.2.2.2.2.1 i hi
    have e3 := w.2.2.2.2.1 i hi
    rw [w.i, w.r, w.g] at e3
    simp (disch := omega) only [mX22_moved_L4, a1, a2, e1, e2, k_bitG w hv hk, WP_ite, WP_some, WP_none, WE_inl, WE_inr, wf, wfL, wfR, rdI_e, rdZ_e, rdL_e, wrI_e, wrL_e, bX_some, bE_inl, bE_inr, bT_inl, bT_inr, bX_ite, ite_someI, ite_someL, ite_someB, tt_eq, iteb, gz_01, gz_b2i, w32_id, w32_gI, w32_bz, Int.toNat_natCast, Int.reduceToNat, Int.toNat_add, Int.toNat_mul, Int.ofNat_lt, Int.ofNat_le, Int.natCast_inj]
    exact ⟨fun _ => ⟨by omega, aOr_bits (f := fun j => eBit v (C 7 j)) rfl (by omega)⟩, fun _ => by omega⟩
  · obtain ⟨a1, a2⟩ := hI
    have e1 := h.1.2.1
    rw [w.r] at e1
    simp (disch := omega) only [mX22_moved_L4, a1, a2, e1, WP_ite, WP_some, WP_none, WE_inl, WE_inr, wf, wfL, wfR, rdI_e, rdZ_e, rdL_e, wrI_e, wrL_e, bX_some, bE_inl, bE_inr, bT_inl, bT_inr, bX_ite, ite_someI, ite_someL, ite_someB, tt_eq, iteb, gz_01, gz_b2i, w32_id, w32_gI, w32_bz, Int.toNat_natCast, Int.reduceToNat, Int.toNat_add, Int.toNat_mul, Int.ofNat_lt, Int.ofNat_le, Int.natCast_inj]
    exact ⟨fun _ => by omega, fun _ => trivial⟩
theorem kDif_bits {a b : Nat → Bool} {n : Nat} : kDifN a b n = false ↔ bitsN n a = bitsN n b := by
  have key : kDifN a b n = false ↔ ∀ i, i < n → a i = b i := by
    induction n with
    | zero => exact ⟨fun _ i hi => absurd hi (Nat.not_lt_zero _), fun _ => rfl⟩
    | succ n ih =>
      show (kDifN a b n || (a n ^^ b n)) = false ↔ _
      rw [Bool.or_eq_false_iff, ih]
      constructor
      · intro ⟨h1, h2⟩ i hi
        by_cases q : i = n
        · subst q; revert h2; cases a i <;> cases b i <;> simp
        · exact h1 i (by omega)
      · intro h
        refine ⟨fun i hi => h i (by omega), ?_⟩
        rw [h n (by omega)]; cases b n <;> rfl
  rw [key]
  constructor
  · exact fun h => bitsN_congr h
  · intro h i hi
    have e : (bitsN n a).testBit i = (bitsN n b).testBit i := by rw [h]
    rw [testBit_bitsN, testBit_bitsN, decide_eq_true hi, Bool.true_and, Bool.true_and] at e
    exact e
theorem fv_val {f : Nat} (hf : f < 1224) : (if w32 (aAnd (f : Int) 1) = 1 then (1 : Int) else 0) = b2i (kFv f) := by
  rw [aAnd_1, w32_id (by omega)]
  unfold kFv
  by_cases q : f % 2 = 1
  · rw [if_pos (by omega), decide_eq_true q]; rfl
  · rw [if_neg (by omega), decide_eq_false q]; rfl
theorem k_shows73 (hk : k < 4) (r : RepK S (344 + 22 * k) C) (w : WFC C) {p f : Nat} (hf : f < kFa C) (hR : gR S 264 0 = 344 + 22 * k) (hv : ∀ n, n < kN C → gI S 270 n = b2i (kVal C p n)) :
    WP (lpF (mX19_shows_L73 (kFst C f) (f : Int) (kFpn C f)) (0, S)) (fun z => Ch 271 271 S z ∧ ∀ n, n < kN C → gI z 271 n = b2i (kValF C p (kFst C f) (kFpn C f) (kFv f) n)) := by
  have hn := w.nums
  have fa := kFa_le w
  have sr := kFst_rng w (f := f)
  have pr := kFpn_rng w (f := f)
  have fv := fv_val (f := f) (by omega)
  refine WP_cnt (kN C) (fun n z => z.1 = (n : Int) ∧ Ch 271 271 S z.2 ∧ ∀ m, m < n → gI z.2 271 m = b2i (kValF C p (kFst C f) (kFpn C f) (kFv f) m)) (by unfold cFU; omega) ⟨rfl, Ch.refl, fun m hm => absurd hm (Nat.not_lt_zero _)⟩ (fun n z hn' hI => ?_) (fun z hI => ?_)
  · obtain ⟨b1, b2, b3⟩ := hI
    have rz : RepK z.2 (344 + 22 * k) C := r.ch b2 (by omega)
    have hR' : gR z.2 264 0 = 344 + 22 * k := (b2.2.2.1 264 0).trans hR
    have put : ∀ x : Bool, x = kValF C p (kFst C f) (kFpn C f) (kFv f) n → (WE (fun s => s.1 = ((n + 1 : Nat) : Int) ∧ Ch 271 271 S s.2 ∧ ∀ m, m < n + 1 → gI s.2 271 m = b2i (kValF C p (kFst C f) (kFpn C f) (kFv f) m)) (fun z => Ch 271 271 S z ∧ ∀ n, n < kN C → gI z 271 n = b2i (kValF C p (kFst C f) (kFpn C f) (kFv f) n))) (Sum.inl ((n : Int) + 1, sI z.2 271 n (b2i x))) := fun x hx => by
      refine ⟨by show (n : Int) + 1 = _; omega, b2.sI (by omega), fun m hm => ?_⟩
      dsimp only
      by_cases q : m = n
      · rw [q, gI_set, w32_b2i, hx]
      · rw [hI_sI_i q]; exact b3 m (by omega)
    unfold mX19_shows_L73
    rw [hR', gk_chip hk, k_nets rz w, bX_some, b1, w32_id (by omega), w32_id (by omega), if_pos (by omega), w32_id (by omega)]
    by_cases q1 : (n : Int) = kFst C f
    · rw [if_pos q1, wrI_e (by omega), Int.toNat_natCast, fv, bX_some]
      refine WP_some.2 (put _ ?_)
      by_cases q2 : n < kB C
      · rw [kValF_src q2, if_pos q1]
      · obtain ⟨g, rfl⟩ : ∃ g, n = kB C + g := ⟨n - kB C, by omega⟩
        rw [kValF_gate w (by omega), if_pos q1]
    · rw [if_neg q1, gk_chip hk, k_bits rz w, bX_some, w32_id (by omega)]
      by_cases q2 : n < kB C
      · have e := (b2.1 270 n (by omega)).trans (hv n hn')
        rw [if_pos (by omega), rdZ_e (by omega), Int.toNat_natCast, e, bz_b2i, w1_b2i, wrI_e (by omega), Int.toNat_natCast, bX_some]
        refine WP_some.2 (put _ ?_)
        show kValF C p (-1) (-1) false n = _
        rw [kValF_src q2, kValF_src q2, if_neg (by omega), if_neg q1]
      · obtain ⟨g, rfl⟩ : ∃ g, n = kB C + g := ⟨n - kB C, by omega⟩
        have hg : g < kG C := by omega
        have ar := w.ar hg
        have hc := w.c hg
        have eg := rz.2.1 g hg
        rw [if_neg (by omega), gk_chip hk, k_bits rz w, bX_some]
        have zg : ((kB C + g : Nat) : Int) - ((kB C : Nat) : Int) = (g : Int) := by omega
        have inner : WP (lpF (mX19_shows_L151 z ((kB C : Nat) : Int) (kFpn C f) (f : Int)) (0, 0)) (fun t => t = ((kIdx C (kValF C p (kFst C f) (kFpn C f) (kFv f)) (kFpn C f) (kFv f) g : Nat) : Int)) := by
          refine WP_cnt (kAr C g) (fun j t => t.2 = (j : Int) ∧ t.1 = ((bitsN j (fun j => if ((3 * g + j : Nat) : Int) = kFpn C f then kFv f else kValF C p (kFst C f) (kFpn C f) (kFv f) (kP C g j)) : Nat) : Int)) (by unfold cFU; omega) ⟨rfl, rfl⟩ (fun j t hj hJ => ?_) (fun t hJ => ?_)
          · obtain ⟨c1, c2⟩ := hJ
            have hp := w.p hg hj
            have e4 := rz.2.2.1 (3 * g + j) (by omega)
            rw [hp.1] at e4
            have e5 := b3 (kP C g j) (by omega)
            have zt : (3 * (g : Int) + (j : Int)).toNat = 3 * g + j := by omega
            unfold mX19_shows_L151
            rw [hR', gk_chip hk, b1, zg, k_inputsOf rz w (by omega), bX_some, Int.toNat_natCast, c1, w32_id (by omega), w32_id (by omega), if_pos (by omega)]
            refine WP_call (R := fun y => y = if (if ((3 * g + j : Nat) : Int) = kFpn C f then kFv f else kValF C p (kFst C f) (kFpn C f) (kFv f) (kP C g j)) = true then aShl 1 (j : Int) else 0) ?_ (fun y hy => ?_)
            · rw [w32_id (by omega), w32_id (by omega)]
              by_cases q3 : kFpn C f = 3 * (g : Int) + (j : Int)
              · rw [if_pos q3, fv, w32_b2i, show (if ((3 * g + j : Nat) : Int) = kFpn C f then kFv f else kValF C p (kFst C f) (kFpn C f) (kFv f) (kP C g j)) = kFv f from if_pos (by omega)]
                cases kFv f with
                | true => rw [if_pos (by decide), if_pos rfl]; exact WP_some.2 rfl
                | false => rw [if_neg (by decide), if_neg (by decide)]; exact WP_some.2 rfl
              · rw [if_neg q3, gk_chip hk, rdI_e (by omega), zt, e4, rdZ_e (by omega), Int.toNat_natCast, e5, bz_b2i, w32_b2i, show (if ((3 * g + j : Nat) : Int) = kFpn C f then kFv f else kValF C p (kFst C f) (kFpn C f) (kFv f) (kP C g j)) = kValF C p (kFst C f) (kFpn C f) (kFv f) (kP C g j) from if_neg (by omega)]
                cases kValF C p (kFst C f) (kFpn C f) (kFv f) (kP C g j) with
                | true => rw [if_pos (by decide), if_pos rfl]; exact WP_some.2 rfl
                | false => rw [if_neg (by decide), if_neg (by decide)]; exact WP_some.2 rfl
            · refine WP_some.2 ⟨by show (j : Int) + 1 = _; omega, ?_⟩
              dsimp only
              rw [c2, hy]
              exact aOr_bits' (f := fun j => if ((3 * g + j : Nat) : Int) = kFpn C f then kFv f else kValF C p (kFst C f) (kFpn C f) (kFv f) (kP C g j)) rfl (by omega)
          · obtain ⟨c1, c2⟩ := hJ
            unfold mX19_shows_L151
            rw [hR', gk_chip hk, b1, zg, k_inputsOf rz w (by omega), bX_some, Int.toNat_natCast, c1, w32_id (by omega), if_neg (by omega)]
            exact WP_some.2 c2
        have kb := bitsN_lt (kAr C g) (fun j => if ((3 * g + j : Nat) : Int) = kFpn C f then kFv f else kValF C p (kFst C f) (kFpn C f) (kFv f) (kP C g j))
        have kb2 : 2 ^ kAr C g ≤ 2 ^ 3 := Nat.pow_le_pow_right (by omega) ar.2
        have k8 : kIdx C (kValF C p (kFst C f) (kFpn C f) (kFv f)) (kFpn C f) (kFv f) g < 32 := by unfold kIdx; omega
        rw [inner.of, bX_some, gk_chip hk, gk_chip hk, zg, rdI_e (by omega), Int.toNat_natCast, eg, hc.1, k_tells rz w (by omega) k8, bX_some, w1_b2i, wrI_e (by omega), Int.toNat_natCast, bX_some]
        refine WP_some.2 (put _ ?_)
        rw [kValF_gate w hg, if_neg q1]; rfl
  · obtain ⟨b1, b2, b3⟩ := hI
    have rz : RepK z.2 (344 + 22 * k) C := r.ch b2 (by omega)
    have hR' : gR z.2 264 0 = 344 + 22 * k := (b2.2.2.1 264 0).trans hR
    unfold mX19_shows_L73
    rw [hR', gk_chip hk, k_nets rz w, bX_some, b1, w32_id (by omega), if_neg (by omega)]
    exact WP_some.2 ⟨b2, b3⟩
end KSHOWS
