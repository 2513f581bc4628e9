/-! place: both sides -/
section KPL2
variable {S : Sto} {L k : Nat} {C : Chp} {w : Nat}
theorem k_place2 (r : RepK S L C) (wf : WFC C) (hw : 4 ≤ w ∧ w ≤ 60) : WP (lpF (mX14_place_L103 L (w : Int)) (0, 0, 0, S)) (fun S' => (∀ e, e < kE C → gI S' (L + 10) e = (pkX C w e : Int) ∧ gI S' (L + 11) e = (pkY C w e : Int)) ∧ (∀ a i, a ≠ L + 10 → a ≠ L + 11 → gI S' a i = gI S a i)) := by
  have hn := wf.nums
  have hE : kE C ≤ 156 := by unfold kE; omega
  refine WP_cnt (kE C) (fun i s => s.2.2.1 = (i : Int) ∧ s.2.1 = ((pkN C w i).1 : Int) ∧ s.1 = ((pkN C w i).2 : Int) ∧ RepK s.2.2.2 L C ∧ (∀ e, e < i → gI s.2.2.2 (L + 10) e = (pkX C w e : Int) ∧ gI s.2.2.2 (L + 11) e = (pkY C w e : Int)) ∧ (∀ a i, a ≠ L + 10 → a ≠ L + 11 → gI s.2.2.2 a i = gI S a i)) (by unfold cFU; omega) ⟨rfl, rfl, rfl, r, fun e h => absurd h (Nat.not_lt_zero _), fun _ _ _ _ => rfl⟩ (fun i s hi hI => ?_) (fun s hI => ?_)
  · obtain ⟨a1, a2, a3, a4, a5, a6⟩ := hI
    have pr := pkN_rng wf hw.1 i (by omega)
    have hi' : i < kR C + kG C := hi
    have sz := kSz_rng wf hi
    have se := kSz_eq hi
    have el := k_elements a4 wf
    have ks := k_size a4 wf (p := (i : Int)) (by omega)
    rw [se] at ks
    have fin : ∀ x y : Nat, x = pkX C w i → y = pkY C w i → (RepK (sI (sI s.2.2.2 (L + 10) i (x : Int)) (L + 11) i (y : Int)) L C ∧ (∀ e, e < i + 1 → gI (sI (sI s.2.2.2 (L + 10) i (x : Int)) (L + 11) i (y : Int)) (L + 10) e = (pkX C w e : Int) ∧ gI (sI (sI s.2.2.2 (L + 10) i (x : Int)) (L + 11) i (y : Int)) (L + 11) e = (pkY C w e : Int)) ∧ (∀ a j, a ≠ L + 10 → a ≠ L + 11 → gI (sI (sI s.2.2.2 (L + 10) i (x : Int)) (L + 11) i (y : Int)) a j = gI S a j)) := by
      intro x y hx hy
      have xr := pkX_rng wf hw.1 hi
      have yr := pkY_lt (C := C) (w := w) (show i < i + 1 by omega)
      have yr2 := (pkN_rng wf hw.1 (i + 1) (by omega)).2
      refine ⟨?_, fun e he => ?_, fun a j q1 q2 => ?_⟩
      · obtain ⟨z1, z2, z3, z4, z5, z6⟩ := a4
        refine ⟨?_, fun g hg => ?_, fun g hg => ?_, fun g hg => ?_, fun g hg => ?_, fun g hg => ?_⟩
        · simp (disch := omega) only [hI_sI_a]; exact z1
        · rw [hI_sI_a (by omega), hI_sI_a (by omega)]; exact z2 g hg
        · rw [hI_sI_a (by omega), hI_sI_a (by omega)]; exact z3 g hg
        · rw [hI_sI_a (by omega), hI_sI_a (by omega)]; exact z4 g hg
        · rw [hI_sI_a (by omega), hI_sI_a (by omega)]; exact z5 g hg
        · simp (disch := omega) only [hI_sI_a]; exact z6 g hg
      · rw [hI_sI_a (by omega), hI_sI, hI_sI]
        by_cases q : e = i
        · rw [if_pos ⟨rfl, q⟩, if_pos ⟨rfl, q⟩, q, hx, hy, w32_id (by omega), w32_id (by omega)]; exact ⟨rfl, rfl⟩
        · rw [if_neg (fun g => q g.2), if_neg (fun g => q g.2), hI_sI_a (by omega)]; exact a5 e (by omega)
      · rw [hI_sI_a q2, hI_sI_a q1]; exact a6 a j q1 q2
    have ks2 : ∀ x y : Nat, x = pkX C w i → y = pkY C w i → mX22_size (sI (sI s.2.2.2 (L + 10) i (x : Int)) (L + 11) i (y : Int)) L (i : Int) = some (kSz C i : Int) := fun x y hx hy => by
      have := k_size (fin x y hx hy).1 wf (p := (i : Int)) (by omega)
      rw [se] at this
      exact this
    have nx : pkN C w (i + 1) = (pkY C w i, pkX C w i + kSz C i) := pkN_next
    rw [nx]
    by_cases q : w < (pkN C w i).2 + kSz C i
    · have q' : (w : Int) < ((pkN C w i).2 : Int) + (kSz C i : Int) := by omega
      have ex : 0 = pkX C w i := (if_pos q).symm
      have ey : (pkN C w i).1 + 1 = pkY C w i := (if_pos q).symm
      have f := fin 0 ((pkN C w i).1 + 1) ex ey
      have k2 := ks2 0 ((pkN C w i).1 + 1) ex ey
      have c0 : ((0 : Nat) : Int) = 0 := rfl
      have c1 : (((pkN C w i).1 + 1 : Nat) : Int) = ((pkN C w i).1 : Int) + 1 := by omega
      rw [c0, c1] at f k2
      simp (disch := omega) only [mX14_place_L103, a1, a2, a3, el, ks, WP_ite, WP_some, WP_none, WE_inl, WE_inr, wf, wfL, wfR, rdI_e, rdZ_e, rdL_e, wrI_e, wrL_e, bX_some, bE_inl, bE_inr, bT_inl, bT_inr, bX_ite, ite_someI, ite_someL, ite_someB, tt_eq, iteb, gz_01, gz_b2i, w32_id, w32_gI, w32_bz, Int.toNat_natCast, Int.reduceToNat, Int.toNat_add, Int.toNat_mul, Int.ofNat_lt, Int.ofNat_le, Int.natCast_inj, q', if_true, reduceIte, k2]
      exact ⟨fun _ => ⟨by omega, by omega, by omega, f⟩, fun g => by omega⟩
    · have q' : ¬ (w : Int) < ((pkN C w i).2 : Int) + (kSz C i : Int) := by omega
      have ex : (pkN C w i).2 = pkX C w i := (if_neg q).symm
      have ey : (pkN C w i).1 = pkY C w i := (if_neg q).symm
      have f := fin (pkN C w i).2 (pkN C w i).1 ex ey
      have k2 := ks2 (pkN C w i).2 (pkN C w i).1 ex ey
      simp (disch := omega) only [mX14_place_L103, a1, a2, a3, el, ks, WP_ite, WP_some, WP_none, WE_inl, WE_inr, wf, wfL, wfR, rdI_e, rdZ_e, rdL_e, wrI_e, wrL_e, bX_some, bE_inl, bE_inr, bT_inl, bT_inr, bX_ite, ite_someI, ite_someL, ite_someB, tt_eq, iteb, gz_01, gz_b2i, w32_id, w32_gI, w32_bz, Int.toNat_natCast, Int.reduceToNat, Int.toNat_add, Int.toNat_mul, Int.ofNat_lt, Int.ofNat_le, Int.natCast_inj, q', if_false, reduceIte, k2]
      exact ⟨fun _ => ⟨by omega, by omega, by omega, f⟩, fun g => by omega⟩
  · obtain ⟨a1, a2, a3, a4, a5, a6⟩ := hI
    have el := k_elements a4 wf
    unfold kE at a1
    simp (disch := omega) only [mX14_place_L103, a1, el, WP_ite, WP_some, WP_none, WE_inl, WE_inr, wf, wfL, wfR, rdI_e, rdZ_e, rdL_e, wrI_e, wrL_e, bX_some, bE_inl, bE_inr, bT_inl, bT_inr, bX_ite, ite_someI, ite_someL, ite_someB, tt_eq, iteb, gz_01, gz_b2i, w32_id, w32_gI, w32_bz, Int.toNat_natCast, Int.reduceToNat, Int.toNat_add, Int.toNat_mul, Int.ofNat_lt, Int.ofNat_le, Int.natCast_inj]
    exact ⟨fun g => by omega, fun _ => ⟨a5, a6⟩⟩
theorem m_sizeOf (r : RefK S k C) (wf : WFC C) (hk : k < 4) {e : Nat} (he : e < kE C) : mX23_sizeOf S (k : Int) (e : Int) = some (kSz C e : Int) := by
  have hn := wf.nums
  have e1 := r.1.2.1
  rw [wf.r] at e1
  have he' : e < kR C + kG C := he
  unfold mX23_sizeOf kSz
  rw [rdI_e (by omega), Int.toNat_natCast, e1, w32_id (by omega), w32_id (by omega)]
  by_cases q : e < kR C
  · rw [if_pos (by omega), if_pos q]; rfl
  · have hc := wf.c (g := e - kR C) (by omega)
    have e2 := (r.2.2.2.2.2 _ hc.2).1
    have hl := wf.li hc.2
    rw [if_neg (by omega), if_neg q, rdI_e (by omega), Int.toNat_natCast, e1]
    have z : ((e : Int) - (kR C : Int)).toNat = e - kR C := by omega
    rw [m_cellOf r wf hk (by omega), bX_some, z, rdI_e (by omega), Int.toNat_natCast, e2, hl.1]
    show some (1 + (kLi C (kC C (e - kR C)) : Int)) = some (((kLi C (kC C (e - kR C)) + 1 : Nat) : Int))
    congr 1
    omega
theorem m_place1 (r : RefK S k C) (wf : WFC C) (hk : k < 4) (hw : 4 ≤ w ∧ w ≤ 60) : lpF (mX23_place_L48 S (k : Int) (w : Int)) (0, 0, 0) = some ((pkN C w (kE C)).1 : Int) := by
  have hn := wf.nums
  have el := m_elements r wf hk
  refine WP.of (WP_cnt (kE C) (fun i s => s.2.2 = (i : Int) ∧ s.1 = ((pkN C w i).1 : Int) ∧ s.2.1 = ((pkN C w i).2 : Int)) (by unfold cFU kE; omega) ⟨rfl, rfl, rfl⟩ (fun i s hi hI => ?_) (fun s hI => ?_))
  · obtain ⟨a1, a2, a3⟩ := hI
    have pr := pkN_rng wf hw.1 i (by omega)
    have hi' : i < kR C + kG C := hi
    have sz := kSz_rng wf hi
    have ks := m_sizeOf r wf hk hi
    have nx : pkN C w (i + 1) = (if w < (pkN C w i).2 + kSz C i then ((pkN C w i).1 + 1, kSz C i) else ((pkN C w i).1, (pkN C w i).2 + kSz C i)) := rfl
    rw [nx]
    by_cases q : w < (pkN C w i).2 + kSz C i
    · have q' : (w : Int) < ((pkN C w i).2 : Int) + (kSz C i : Int) := by omega
      rw [if_pos q]
      simp (disch := omega) only [mX23_place_L48, a1, a2, a3, el, ks, WP_ite, WP_some, WP_none, WE_inl, WE_inr, wf, wfL, wfR, rdI_e, rdZ_e, rdL_e, wrI_e, wrL_e, bX_some, bE_inl, bE_inr, bT_inl, bT_inr, bX_ite, ite_someI, ite_someL, ite_someB, tt_eq, iteb, gz_01, gz_b2i, w32_id, w32_gI, w32_bz, Int.toNat_natCast, Int.reduceToNat, Int.toNat_add, Int.toNat_mul, Int.ofNat_lt, Int.ofNat_le, Int.natCast_inj, q', if_true, reduceIte]
      exact ⟨fun _ => ⟨by first | trivial | omega, by first | trivial | omega, by first | trivial | omega⟩, fun g => by omega⟩
    · have q' : ¬ (w : Int) < ((pkN C w i).2 : Int) + (kSz C i : Int) := by omega
      rw [if_neg q]
      simp (disch := omega) only [mX23_place_L48, a1, a2, a3, el, ks, WP_ite, WP_some, WP_none, WE_inl, WE_inr, wf, wfL, wfR, rdI_e, rdZ_e, rdL_e, wrI_e, wrL_e, bX_some, bE_inl, bE_inr, bT_inl, bT_inr, bX_ite, ite_someI, ite_someL, ite_someB, tt_eq, iteb, gz_01, gz_b2i, w32_id, w32_gI, w32_bz, Int.toNat_natCast, Int.reduceToNat, Int.toNat_add, Int.toNat_mul, Int.ofNat_lt, Int.ofNat_le, Int.natCast_inj, q', if_false, reduceIte]
      exact ⟨fun _ => ⟨by first | trivial | omega, by first | trivial | omega, by first | trivial | omega⟩, fun g => by omega⟩
  · obtain ⟨a1, a2, a3⟩ := hI
    unfold kE at a1 a2
    simp (disch := omega) only [mX23_place_L48, a1, a2, a3, el, WP_ite, WP_some, WP_none, WE_inl, WE_inr, wf, wfL, wfR, rdI_e, rdZ_e, rdL_e, wrI_e, wrL_e, bX_some, bE_inl, bE_inr, bT_inl, bT_inr, bX_ite, ite_someI, ite_someL, ite_someB, tt_eq, iteb, gz_01, gz_b2i, w32_id, w32_gI, w32_bz, Int.toNat_natCast, Int.reduceToNat, Int.toNat_add, Int.toNat_mul, Int.ofNat_lt, Int.ofNat_le, Int.natCast_inj]
    exact ⟨fun g => by omega, fun _ => by trivial⟩
theorem m_place2 (r : RefK S k C) (wf : WFC C) (hk : k < 4) (hw : 4 ≤ w ∧ w ≤ 60) : WP (lpF (mX23_place_L138 (k : Int) (w : Int)) (0, 0, 0, S)) (fun x => x.1 = ((pkN C w (kE C)).1 : Int) ∧ (∀ e, e < kE C → gI x.2 2124 (156 * k + e) = (pkX C w e : Int) ∧ gI x.2 2125 (156 * k + e) = (pkY C w e : Int)) ∧ (∀ a i, ¬ ((a = 2124 ∨ a = 2125) ∧ 156 * k ≤ i ∧ i < 156 * k + 156) → gI x.2 a i = gI S a i)) := by
  have hn := wf.nums
  have hE : kE C ≤ 156 := by unfold kE; omega
  refine WP_cnt (kE C) (fun i s => s.2.2.1 = (i : Int) ∧ s.1 = ((pkN C w i).1 : Int) ∧ s.2.1 = ((pkN C w i).2 : Int) ∧ RefK s.2.2.2 k C ∧ (∀ e, e < i → gI s.2.2.2 2124 (156 * k + e) = (pkX C w e : Int) ∧ gI s.2.2.2 2125 (156 * k + e) = (pkY C w e : Int)) ∧ (∀ a i, ¬ ((a = 2124 ∨ a = 2125) ∧ 156 * k ≤ i ∧ i < 156 * k + 156) → gI s.2.2.2 a i = gI S a i)) (by unfold cFU; omega) ⟨rfl, rfl, rfl, r, fun e h => absurd h (Nat.not_lt_zero _), fun _ _ _ => rfl⟩ (fun i s hi hI => ?_) (fun s hI => ?_)
  · obtain ⟨a1, a2, a3, a4, a5, a6⟩ := hI
    have pr := pkN_rng wf hw.1 i (by omega)
    have hi' : i < kR C + kG C := hi
    have sz := kSz_rng wf hi
    have el := m_elements a4 wf hk
    have ks := m_sizeOf a4 wf hk hi
    have z1 : (156 * (k : Int) + (i : Int)).toNat = 156 * k + i := by omega
    have fin : ∀ x y : Nat, x = pkX C w i → y = pkY C w i → (RefK (sI (sI s.2.2.2 2124 (156 * k + i) (x : Int)) 2125 (156 * k + i) (y : Int)) k C ∧ (∀ e, e < i + 1 → gI (sI (sI s.2.2.2 2124 (156 * k + i) (x : Int)) 2125 (156 * k + i) (y : Int)) 2124 (156 * k + e) = (pkX C w e : Int) ∧ gI (sI (sI s.2.2.2 2124 (156 * k + i) (x : Int)) 2125 (156 * k + i) (y : Int)) 2125 (156 * k + e) = (pkY C w e : Int)) ∧ (∀ a j, ¬ ((a = 2124 ∨ a = 2125) ∧ 156 * k ≤ j ∧ j < 156 * k + 156) → gI (sI (sI s.2.2.2 2124 (156 * k + i) (x : Int)) 2125 (156 * k + i) (y : Int)) a j = gI S a j)) := by
      intro x y hx hy
      have xr := pkX_rng wf hw.1 hi
      have yr := pkY_lt (C := C) (w := w) (show i < i + 1 by omega)
      have yr2 := (pkN_rng wf hw.1 (i + 1) (by omega)).2
      refine ⟨(a4.sI (by omega)).sI (by omega), fun e he => ?_, fun a j q => ?_⟩
      · rw [hI_sI_a (by omega), hI_sI, hI_sI]
        by_cases q : e = i
        · rw [if_pos ⟨rfl, by omega⟩, if_pos ⟨rfl, by omega⟩, q, hx, hy, w32_id (by omega), w32_id (by omega)]; exact ⟨rfl, rfl⟩
        · rw [if_neg (by omega), if_neg (by omega), hI_sI_a (by omega)]; exact a5 e (by omega)
      · rw [hI_sI, if_neg (by omega), hI_sI, if_neg (by omega)]; exact a6 a j q
    have ks2 : ∀ x y : Nat, x = pkX C w i → y = pkY C w i → mX23_sizeOf (sI (sI s.2.2.2 2124 (156 * k + i) (x : Int)) 2125 (156 * k + i) (y : Int)) (k : Int) (i : Int) = some (kSz C i : Int) := fun x y hx hy => m_sizeOf (fin x y hx hy).1 wf hk hi
    have nx : pkN C w (i + 1) = (pkY C w i, pkX C w i + kSz C i) := pkN_next
    rw [nx]
    by_cases q : w < (pkN C w i).2 + kSz C i
    · have q' : (w : Int) < ((pkN C w i).2 : Int) + (kSz C i : Int) := by omega
      have ex : 0 = pkX C w i := (if_pos q).symm
      have ey : (pkN C w i).1 + 1 = pkY C w i := (if_pos q).symm
      have f := fin 0 ((pkN C w i).1 + 1) ex ey
      have k2 := ks2 0 ((pkN C w i).1 + 1) ex ey
      have c0 : ((0 : Nat) : Int) = 0 := rfl
      have c1 : (((pkN C w i).1 + 1 : Nat) : Int) = ((pkN C w i).1 : Int) + 1 := by omega
      rw [c0, c1] at f k2
      simp (disch := omega) only [mX23_place_L138, a1, a2, a3, el, ks, WP_ite, WP_some, WP_none, WE_inl, WE_inr, wf, wfL, wfR, rdI_e, rdZ_e, rdL_e, wrI_e, wrL_e, bX_some, bE_inl, bE_inr, bT_inl, bT_inr, bX_ite, ite_someI, ite_someL, ite_someB, tt_eq, iteb, gz_01, gz_b2i, w32_id, w32_gI, w32_bz, Int.toNat_natCast, Int.reduceToNat, Int.toNat_add, Int.toNat_mul, Int.ofNat_lt, Int.ofNat_le, Int.natCast_inj, z1, q', if_true, reduceIte, w32_1, Int.reduceEq, not_false_eq_true, k2]
      exact ⟨fun _ => ⟨by omega, by omega, by omega, f⟩, fun g => by omega⟩
    · have q' : ¬ (w : Int) < ((pkN C w i).2 : Int) + (kSz C i : Int) := by omega
      have ex : (pkN C w i).2 = pkX C w i := (if_neg q).symm
      have ey : (pkN C w i).1 = pkY C w i := (if_neg q).symm
      have f := fin (pkN C w i).2 (pkN C w i).1 ex ey
      have k2 := ks2 (pkN C w i).2 (pkN C w i).1 ex ey
      simp (disch := omega) only [mX23_place_L138, a1, a2, a3, el, ks, WP_ite, WP_some, WP_none, WE_inl, WE_inr, wf, wfL, wfR, rdI_e, rdZ_e, rdL_e, wrI_e, wrL_e, bX_some, bE_inl, bE_inr, bT_inl, bT_inr, bX_ite, ite_someI, ite_someL, ite_someB, tt_eq, iteb, gz_01, gz_b2i, w32_id, w32_gI, w32_bz, Int.toNat_natCast, Int.reduceToNat, Int.toNat_add, Int.toNat_mul, Int.ofNat_lt, Int.ofNat_le, Int.natCast_inj, z1, q', if_false, reduceIte, w32_0, not_true_eq_false, Int.add_zero, k2]
      exact ⟨fun _ => ⟨by omega, by omega, by omega, f⟩, fun g => by omega⟩
  · obtain ⟨a1, a2, a3, a4, a5, a6⟩ := hI
    have el := m_elements a4 wf hk
    unfold kE at a1
    simp (disch := omega) only [mX23_place_L138, a1, a2, el, WP_ite, WP_some, WP_none, WE_inl, WE_inr, wf, wfL, wfR, rdI_e, rdZ_e, rdL_e, wrI_e, wrL_e, bX_some, bE_inl, bE_inr, bT_inl, bT_inr, bX_ite, ite_someI, ite_someL, ite_someB, tt_eq, iteb, gz_01, gz_b2i, w32_id, w32_gI, w32_bz, Int.toNat_natCast, Int.reduceToNat, Int.toNat_add, Int.toNat_mul, Int.ofNat_lt, Int.ofNat_le, Int.natCast_inj]
    exact ⟨fun g => by omega, fun _ => ⟨by trivial, a5, a6⟩⟩
end KPL2
