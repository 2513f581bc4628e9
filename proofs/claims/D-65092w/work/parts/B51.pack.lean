/-! elements put in rows one behind the other -/
/-- ahead of element e: the row at hand, the next site in it -/
def pkN (C : Chp) (w : Nat) : Nat → Nat × Nat
  | 0 => (0, 0)
  | e + 1 => if w < (pkN C w e).2 + kSz C e then ((pkN C w e).1 + 1, kSz C e) else ((pkN C w e).1, (pkN C w e).2 + kSz C e)
def pkX (C : Chp) (w e : Nat) : Nat := if w < (pkN C w e).2 + kSz C e then 0 else (pkN C w e).2
def pkY (C : Chp) (w e : Nat) : Nat := if w < (pkN C w e).2 + kSz C e then (pkN C w e).1 + 1 else (pkN C w e).1
section PACK
variable {C : Chp} {w : Nat}
theorem kSz_rng (wf : WFC C) {e : Nat} (h : e < kE C) : 2 ≤ kSz C e ∧ kSz C e ≤ 4 := by
  unfold kE at h
  unfold kSz
  split
  · omega
  · have := wf.ar (g := e - kR C) (by omega); omega
theorem pkN_next {e : Nat} : pkN C w (e + 1) = (pkY C w e, pkX C w e + kSz C e) := by
  show (if w < (pkN C w e).2 + kSz C e then _ else _) = _
  unfold pkX pkY
  split <;> simp
theorem pkN_rng (wf : WFC C) (hw : 4 ≤ w) : ∀ e, e ≤ kE C → (pkN C w e).2 ≤ w ∧ (pkN C w e).1 ≤ e := by
  intro e
  induction e with
  | zero => exact fun _ => ⟨Nat.zero_le _, Nat.le_refl _⟩
  | succ e ih =>
    intro h
    have i := ih (by omega)
    have s := kSz_rng wf (e := e) (by omega)
    show (if w < (pkN C w e).2 + kSz C e then _ else _ : Nat × Nat).2 ≤ w ∧ (if w < (pkN C w e).2 + kSz C e then _ else _ : Nat × Nat).1 ≤ _
    split <;> dsimp only <;> omega
theorem pkX_rng (wf : WFC C) (hw : 4 ≤ w) {e : Nat} (h : e < kE C) : pkX C w e + kSz C e ≤ w := by
  have s := kSz_rng wf h
  unfold pkX
  split <;> omega
theorem pkN_mono {e f : Nat} (h : e ≤ f) : (pkN C w e).1 ≤ (pkN C w f).1 := by
  induction f with
  | zero => have : e = 0 := by omega
            subst this; exact Nat.le_refl _
  | succ f ih =>
    by_cases q : e = f + 1
    · subst q; exact Nat.le_refl _
    · have := ih (by omega)
      rw [pkN_next]
      show _ ≤ pkY C w f
      unfold pkY
      split <;> omega
theorem pkY_lt {e n : Nat} (h : e < n) : pkY C w e ≤ (pkN C w n).1 := by
  have := pkN_mono (C := C) (w := w) (show e + 1 ≤ n by omega)
  rw [pkN_next] at this
  exact this
theorem pk_apart {e f : Nat} (h : e < f) (hy : pkY C w e = pkY C w f) : pkX C w e + kSz C e ≤ pkX C w f := by
  have key : ∀ n, e + 1 ≤ n → n ≤ f → pkY C w e = (pkN C w n).1 ∧ pkX C w e + kSz C e ≤ (pkN C w n).2 := by
    intro n
    induction n with
    | zero => intro h1 _; omega
    | succ n ih =>
      intro h1 h2
      by_cases q : e = n
      · subst q; rw [pkN_next]; exact ⟨rfl, Nat.le_refl _⟩
      · have i := ih (by omega) (by omega)
        have m : pkY C w n ≤ pkY C w f := by
          have := pkY_lt (C := C) (w := w) (show n < n + 1 by omega)
          by_cases z : n = f
          · omega
          · have a1 := pkY_lt (C := C) (w := w) (show n < f by omega)
            have a2 : (pkN C w f).1 ≤ pkY C w f := by unfold pkY; split <;> omega
            omega
        have l : (pkN C w n).1 ≤ pkY C w n := by unfold pkY; split <;> omega
        have e1 : pkY C w n = (pkN C w n).1 := by omega
        have e2 : ¬ w < (pkN C w n).2 + kSz C n := fun g => by
          have : pkY C w n = (pkN C w n).1 + 1 := if_pos g
          omega
        rw [pkN_next]
        have x : pkX C w n = (pkN C w n).2 := if_neg e2
        refine ⟨by show _ = pkY C w n; omega, by show _ ≤ pkX C w n + _; omega⟩
  have i := key f (by omega) (Nat.le_refl _)
  have e2 : ¬ w < (pkN C w f).2 + kSz C f := fun g => by
    have : pkY C w f = (pkN C w f).1 + 1 := if_pos g
    omega
  have x : pkX C w f = (pkN C w f).2 := if_neg e2
  omega
end PACK
/-- a chip that was placed anew -/
def plC (C : Chp) (w : Nat) : Chp := fun f i => if f = 15 then (w : Int) else if f = 16 then ((pkN C w (kE C)).1 : Int) + 1 else if f = 17 then (pkX C w i : Int) else if f = 18 then (pkY C w i : Int) else if f = 19 then 0 else if f = 23 then -1 else C f i
theorem plC_low {C : Chp} {w : Nat} : ∀ f i, f ≤ 12 → plC C w f i = C f i := fun f i h => by
  unfold plC
  rw [if_neg (by omega), if_neg (by omega), if_neg (by omega), if_neg (by omega), if_neg (by omega), if_neg (by omega)]
theorem RepT.fc {S : Sto} {L : Nat} {C C' : Chp} (h : RepT S L C) (e : ∀ f i, f ≤ 12 → C' f i = C f i) (e' : ∀ f i, 28 ≤ f → f ≤ 30 → C' f i = C f i) : RepT S L C' := by
  obtain ⟨h1, h2, h3, h4⟩ := h
  have hs : kSn C' = kSn C := by unfold kSn; rw [e' _ _ (by omega) (by omega)]
  have hb := (kNums_cg e).2.2.2.2.1
  refine ⟨by rw [e' _ _ (by omega) (by omega)]; exact h1, fun i hi => ?_, h3, fun q f hf => ?_⟩
  · rw [hs] at hi
    rw [e' _ _ (by omega) (by omega), e' _ _ (by omega) (by omega)]; exact h2 i hi
  · rw [kFa_cg e] at hf
    rw [kLeast_cg e, hb]
    exact ⟨(h4 q f hf).1, fun p hp => by rw [kShow_cg e]; exact (h4 q f hf).2 p hp⟩
theorem RefT.fc {S : Sto} {k : Nat} {C C' : Chp} (h : RefT S k C) (e : ∀ f i, f ≤ 12 → C' f i = C f i) (e' : ∀ f i, 28 ≤ f → f ≤ 30 → C' f i = C f i) : RefT S k C' := by
  obtain ⟨h1, h2, h3, h4⟩ := h
  have hs : kSn C' = kSn C := by unfold kSn; rw [e' _ _ (by omega) (by omega)]
  refine ⟨by rw [e' _ _ (by omega) (by omega)]; exact h1, fun i hi => ?_, fun i f hi hf => ?_, fun f hf => ?_⟩
  · rw [hs] at hi
    rw [e' _ _ (by omega) (by omega), e' _ _ (by omega) (by omega)]; exact h2 i hi
  · rw [hs] at hi
    rw [kFa_cg e] at hf
    rw [kShow_cg e, e' _ _ (by omega) (by omega)]; exact h3 i f hi hf
  · rw [kFa_cg e] at hf
    rw [kLeast_cg e]; exact h4 f hf
theorem WFT.fc {C C' : Chp} (h : WFT C) (e : ∀ f i, f ≤ 12 → C' f i = C f i) (e' : ∀ f i, 28 ≤ f → f ≤ 30 → C' f i = C f i) : WFT C' := by
  have hs : kSn C' = kSn C := by unfold kSn; rw [e' _ _ (by omega) (by omega)]
  have hb := (kNums_cg e).2.2.2.2.1
  refine ⟨by rw [e' _ _ (by omega) (by omega)]; exact h.1, fun i hi => ?_⟩
  rw [hs] at hi
  rw [e' _ _ (by omega) (by omega), e' _ _ (by omega) (by omega), hb]; exact h.2 i hi
theorem WFP_plC {C : Chp} {w : Nat} (wf : WFC C) (hw : 4 ≤ w ∧ w ≤ 60) (hr : (pkN C w (kE C)).1 < 12) : WFP (plC C w) := by
  refine ⟨⟨by show (0 : Int) ≤ (w : Int); omega, by show (w : Int) ≤ 60; omega, by show (0 : Int) ≤ ((pkN C w (kE C)).1 : Int) + 1; omega, by show ((pkN C w (kE C)).1 : Int) + 1 ≤ 12; omega, fun g => ?_, fun _ => by show (4 : Int) ≤ (w : Int); omega⟩, fun _ e he => ?_, fun _ e f he hf hne hy => ?_⟩
  · have g : ((pkN C w (kE C)).1 : Int) + 1 = 0 := g
    omega
  · have he : e < kE C := he
    have a := pkX_rng wf hw.1 he
    have b := pkY_lt (C := C) (w := w) he
    show (0 : Int) ≤ (pkX C w e : Int) ∧ (pkX C w e : Int) + (kSz C e : Int) ≤ (w : Int) ∧ (0 : Int) ≤ (pkY C w e : Int) ∧ (pkY C w e : Int) < ((pkN C w (kE C)).1 : Int) + 1
    omega
  · have hy : (pkY C w e : Int) = (pkY C w f : Int) := hy
    show (pkX C w e : Int) + (kSz C e : Int) ≤ (pkX C w f : Int) ∨ (pkX C w f : Int) + (kSz C f : Int) ≤ (pkX C w e : Int)
    rcases Nat.lt_or_gt_of_ne hne with g | g
    · left; have := pk_apart g (by omega : pkY C w e = pkY C w f); omega
    · right; have := pk_apart g (by omega : pkY C w f = pkY C w e); omega
section KPL
variable {S : Sto} {L : Nat} {C : Chp} {w : Nat}
theorem kSz_eq {e : Nat} (he : e < kE C) : (if ((e : Nat) : Int) < kR C then (2 : Int) else (kAr C (((e : Nat) : Int).toNat - kR C) : Int) + 1) = (kSz C e : Int) := by
  unfold kSz
  by_cases q : e < kR C
  · rw [if_pos (by omega), if_pos q]; rfl
  · rw [if_neg (by omega), if_neg q, Int.toNat_natCast]; omega
theorem k_place1 (r : RepK S L C) (wf : WFC C) (hw : 4 ≤ w ∧ w ≤ 60) : lpF (mX14_place_L8 S L (w : Int)) (1, 0, 0) = some (((pkN C w (kE C)).1 : Int) + 1) := by
  have hn := wf.nums
  have el := k_elements r wf
  refine WP.of (WP_cnt (kE C) (fun i s => s.2.2 = (i : Int) ∧ s.1 = ((pkN C w i).1 : Int) + 1 ∧ s.2.1 = ((pkN C w i).2 : Int)) (by unfold cFU kE; omega) ⟨rfl, rfl, rfl⟩ (fun i s hi hI => ?_) (fun s hI => ?_))
  · obtain ⟨a1, a2, a3⟩ := hI
    have pr := pkN_rng wf hw.1 i (by omega)
    have hi' : i < kR C + kG C := hi
    have sz := kSz_rng wf hi
    have se := kSz_eq hi
    have ks := k_size r wf (p := (i : Int)) (by omega)
    rw [se] at ks
    have nx : pkN C w (i + 1) = (if w < (pkN C w i).2 + kSz C i then ((pkN C w i).1 + 1, kSz C i) else ((pkN C w i).1, (pkN C w i).2 + kSz C i)) := rfl
    rw [nx]
    by_cases q : w < (pkN C w i).2 + kSz C i
    · have q' : (w : Int) < ((pkN C w i).2 : Int) + (kSz C i : Int) := by omega
      rw [if_pos q]
      simp (disch := omega) only [mX14_place_L8, a1, a2, a3, el, ks, WP_ite, WP_some, WP_none, WE_inl, WE_inr, wf, wfL, wfR, rdI_e, rdZ_e, rdL_e, wrI_e, wrL_e, bX_some, bE_inl, bE_inr, bT_inl, bT_inr, bX_ite, ite_someI, ite_someL, ite_someB, tt_eq, iteb, gz_01, gz_b2i, w32_id, w32_gI, w32_bz, Int.toNat_natCast, Int.reduceToNat, Int.toNat_add, Int.toNat_mul, Int.ofNat_lt, Int.ofNat_le, Int.natCast_inj, q', if_true, reduceIte]
      exact ⟨fun _ => ⟨by omega, by omega, by omega⟩, fun g => by omega⟩
    · have q' : ¬ (w : Int) < ((pkN C w i).2 : Int) + (kSz C i : Int) := by omega
      rw [if_neg q]
      simp (disch := omega) only [mX14_place_L8, a1, a2, a3, el, ks, WP_ite, WP_some, WP_none, WE_inl, WE_inr, wf, wfL, wfR, rdI_e, rdZ_e, rdL_e, wrI_e, wrL_e, bX_some, bE_inl, bE_inr, bT_inl, bT_inr, bX_ite, ite_someI, ite_someL, ite_someB, tt_eq, iteb, gz_01, gz_b2i, w32_id, w32_gI, w32_bz, Int.toNat_natCast, Int.reduceToNat, Int.toNat_add, Int.toNat_mul, Int.ofNat_lt, Int.ofNat_le, Int.natCast_inj, q', if_false, reduceIte]
      refine ⟨fun _ => ⟨?_, ?_, ?_⟩, fun g => by omega⟩
      · omega
      · exact trivial
      · omega
  · obtain ⟨a1, a2, a3⟩ := hI
    unfold kE at a1 a2
    simp (disch := omega) only [mX14_place_L8, a1, a2, a3, el, WP_ite, WP_some, WP_none, WE_inl, WE_inr, wf, wfL, wfR, rdI_e, rdZ_e, rdL_e, wrI_e, wrL_e, bX_some, bE_inl, bE_inr, bT_inl, bT_inr, bX_ite, ite_someI, ite_someL, ite_someB, tt_eq, iteb, gz_01, gz_b2i, w32_id, w32_gI, w32_bz, Int.toNat_natCast, Int.reduceToNat, Int.toNat_add, Int.toNat_mul, Int.ofNat_lt, Int.ofNat_le, Int.natCast_inj]
    exact ⟨fun g => by omega, fun _ => by trivial⟩
end KPL
