/-! the reference: the row of nets, rounds -/
def MRw (S : Sto) (C : Chp) : Prop := gI S 2000 184 = (rC C : Int) ∧ ∀ i, i < rC C → gI S 2145 i = (rO' C i : Int)
def MW (S : Sto) (k : Nat) (C R : Chp) : Prop := MRt S k C ∧ MPp S C ∧ MRw S C ∧ MOw S k C R
section MROUTE
variable {S z : Sto} {k n c : Nat} {C R : Chp} {dear : Bool} {a : Nat → Nat}
theorem MRw.cm (h : MRw S C) (g : CM k S z) : MRw z C := ⟨(g.1 _ _ (by omega) (by omega) (by omega)).trans h.1, fun i hi => (g.1 _ _ (by omega) (by omega) (by omega)).trans (h.2 i hi)⟩
theorem m_con (h : MW S k C R) (hk : k < 4) (w : WFC C) (wp : WFP C) (h0 : C 16 0 ≠ 0) (g : GSz C) (hn : n < kN C) (h2 : 2 ≤ kMany C n) (hV : RV C R) (hE : ∀ x, R 20 x ≠ (n : Int)) :
    WP (mX23_connect S (n : Int) (dI dear)) (fun z => z.1 = (conF C R n dear).2 ∧ MW z.2 k C (conF C R n dear).1 ∧ CnO C R n dear (conF C R n dear).1 (conF C R n dear).2 ∧ RV C (conF C R n dear).1 ∧ CM k S z.2) := by
  obtain ⟨h1, h3, h4, h5⟩ := h
  refine (m_connect (dear := dear) h1 h3 h5 hk w wp h0 g hn (kMany_pr h2) hV.1 (fun p _ => hE p)).mono (fun z hz => ?_)
  obtain ⟨a1, a2, a3, a4⟩ := hz
  exact ⟨a1, ⟨h1.cm a4, h3.cm a4, h4.cm a4, a2⟩, a3, hV.con h2 a3, a4⟩
theorem MBox.ch {lo hi m : Nat} (h : MBox S C m) (g : Ch lo hi S z) (q : hi < 2129 ∨ 2133 < lo) : MBox z C m := fun n hn => by
  have b := h n hn
  rw [g.1 _ _ (by omega), g.1 _ _ (by omega), g.1 _ _ (by omega), g.1 _ _ (by omega), g.1 _ _ (by omega)]; exact b
theorem m_lr36 (w : WFC C) (wp : WFP C) (h0 : C 16 0 ≠ 0) (hb : MBox S C (kPn C)) (hc : c < 162) (hn : n < kN C) (hN : kN C ≤ 162) (hm : ∀ i, i < c → gI S 2145 i = (a i : Int)) (hv : ∀ i, i < c → a i < kN C) {T : Sto} :
    WP (lpF (mX23_layRow_L36 ((n : Int), T)) ((c : Int), S)) (fun z => ∃ j : Nat, z.1 = (j : Int) ∧ j ≤ c ∧ Ch 2145 2145 S z.2 ∧ ∀ i, i ≤ c → (if i = j then (n : Int) else gI z.2 2145 i) = (insF (kWire C) n c a i : Int)) := by
  refine WP_lpM (fun s j => ∃ a', s.1 = (j : Int) ∧ j ≤ c ∧ Ch 2145 2145 S s.2 ∧ (∀ i, i ≤ c → i ≠ j → gI s.2 2145 i = (a' i : Int) ∧ a' i < kN C) ∧ insF (kWire C) n j a' = insF (kWire C) n c a) (fun s j hI => ?_) (m := c) ⟨a, rfl, Nat.le_refl _, Ch.refl, fun i h1 h2 => ⟨hm i (by omega), hv i (by omega)⟩, rfl⟩ (by unfold cFU; omega)
  obtain ⟨z1, z2⟩ := s
  obtain ⟨a', b1, b2, b3, b4, b5⟩ := hI
  dsimp only at b1 b3 b4
  subst b1
  have bz := hb.ch b3 (by omega)
  unfold mX23_layRow_L36
  dsimp only
  rw [w32_id (by omega)]
  cases j with
  | zero =>
    rw [if_neg (by omega), bX_some, if_neg (by decide)]
    refine WP_some.2 ⟨0, rfl, by omega, b3, fun i hi => ?_⟩
    rw [← b5]
    show _ = ((updN a' 0 n i : Nat) : Int)
    by_cases e : i = 0
    · rw [if_pos e, e, updN_eq]
    · rw [if_neg e, updN_ne e]; exact (b4 i hi e).1
  | succ j =>
    obtain ⟨p1, p2⟩ := b4 j (by omega) (by omega)
    have ej : ((j + 1 : Nat) : Int) - 1 = (j : Int) := by omega
    have es : insF (kWire C) n (j + 1) a' = if kWire C n < kWire C (a' j) then insF (kWire C) n j (updN a' (j + 1) (a' j)) else updN a' (j + 1) n := rfl
    have k1 := kWire_rng w wp h0 n (kMany_pos w hn)
    have k2 := kWire_rng w wp h0 (a' j) (kMany_pos w p2)
    rw [if_pos (by omega), ej, rdI_e (by omega), Int.toNat_natCast, p1, m_wireOf w h0 bz p2, bX_some, m_wireOf w h0 bz hn, bX_some, w32_id (by omega), w32_id (by omega)]
    by_cases q : kWire C n < kWire C (a' j)
    · rw [if_pos q] at es
      rw [if_pos q, bX_some, if_pos rfl, rdI_e (by omega), Int.toNat_natCast, p1, wrI_e (by omega), Int.toNat_natCast]
      refine WP_some.2 ⟨j, by omega, updN a' (j + 1) (a' j), by show ((j + 1 : Nat) : Int) + -1 = _; omega, by omega, b3.sI (by omega), fun i h1 h2 => ?_, by rw [← es]; exact b5⟩
      dsimp only
      by_cases e : i = j + 1
      · rw [e, gI_set, updN_eq, w32_id (by omega)]; exact ⟨rfl, p2⟩
      · rw [hI_sI_i e, updN_ne e]; exact b4 i h1 e
    · rw [if_neg q] at es
      rw [if_neg q, bX_some, if_neg (by decide)]
      refine WP_some.2 ⟨j + 1, rfl, b2, b3, fun i hi => ?_⟩
      rw [← b5, es]
      by_cases e : i = j + 1
      · rw [if_pos e, e, updN_eq]
      · rw [if_neg e, updN_ne e]; exact (b4 i hi e).1
theorem m_layRow (r : RefK S k C) (rP : RefP S k C) (hk : k < 4) (w : WFC C) (wp : WFP C) (h0 : C 16 0 ≠ 0) (g : GSz C) : WP (mX23_layRow S (k : Int)) (fun z => MPp z C ∧ MBox z C (kPn C) ∧ MRw z C ∧ KeM S z) := by
  have g7 := g.2.2.2.2.2.2.1
  unfold mX23_layRow
  refine WP_call (m_boxPins r rP w wp hk) (fun x hx => ?_)
  obtain ⟨x1, x2, x3⟩ := hx
  rw [wf_eq]
  have c0 : Ch 2145 2145 (sI x 2000 184 0) (sI x 2000 184 0) := Ch.refl
  obtain ⟨y, hy⟩ : ∃ y, y = sI x 2000 184 0 := ⟨_, rfl⟩
  have y1 : ∀ b i, ¬ (b = 2000 ∧ i = 184) → gI y b i = gI x b i := fun b i q => by rw [hy, hI_sI, if_neg q]
  have y2 : gI y 2000 184 = 0 := by rw [hy, gI_set]; rfl
  rw [← hy]
  have ky : KeM S y := fun b i q => (y1 b i (by omega)).trans (x3 b i q)
  have by' : MBox y C (kPn C) := fun n hn => by
    have b := x2 n hn
    rw [y1 _ _ (by omega), y1 _ _ (by omega), y1 _ _ (by omega), y1 _ _ (by omega), y1 _ _ (by omega)]; exact b
  have py : MPp y C := MPins.mv x1 (y1 _ _ (by omega)) (fun b i _ _ => y1 b i (by omega))
  refine WP_call (R := fun z => MPp z C ∧ MBox z C (kPn C) ∧ MRw z C ∧ KeM S z) ?_ (fun z hz => WP_some.2 hz)
  refine WP_cnt (kN C) (fun n s => s.1 = (n : Int) ∧ gI s.2 2000 184 = ((rowF C n).1 : Int) ∧ (∀ i, i < (rowF C n).1 → gI s.2 2145 i = ((rowF C n).2 i : Int)) ∧ (∀ b i, b ≠ 2145 → ¬ (b = 2000 ∧ i = 184) → gI s.2 b i = gI y b i)) (by unfold cFU; omega) ⟨rfl, y2, fun i hi => absurd hi (Nat.not_lt_zero _), fun _ _ _ _ => rfl⟩ (fun n s hn hI => ?_) (fun s hI => ?_)
  · obtain ⟨z1, z2⟩ := s
    obtain ⟨b1, b2, b3, b4⟩ := hI
    dsimp only at b1 b2 b3 b4
    subst b1
    have rl := rowF_le (C := C) n
    have kz : KeM S z2 := fun b i q => (b4 b i (by omega) (by omega)).trans (ky b i q)
    have bz : MBox z2 C (kPn C) := fun n hn => by
      have b := by' n hn
      rw [b4 _ _ (by omega) (by omega), b4 _ _ (by omega) (by omega), b4 _ _ (by omega) (by omega), b4 _ _ (by omega) (by omega), b4 _ _ (by omega) (by omega)]; exact b
    have mn : gI z2 2129 n = (kMany C n : Int) := (bz n hn).1
    have ml := pMany_le (f := kPf C) (n := n) (m := kPn C)
    have mr : kMany C n ≤ 640 := by have := g.2.2.2.2.2.2.2; unfold kMany; omega
    have es : rowF C (n + 1) = if kMany C n < 2 then rowF C n else ((rowF C n).1 + 1, insF (kWire C) n (rowF C n).1 (rowF C n).2) := rfl
    unfold mX23_layRow_L12
    dsimp only
    rw [m_netCount (kz.K r) w hk, bX_some, w32_id (by omega), w32_id (by omega), if_pos (by omega), rdI_e (by omega), Int.toNat_natCast, mn, w32_id (by omega)]
    by_cases q : kMany C n < 2
    · rw [if_pos q] at es
      rw [if_neg (by omega), bX_some, es]
      exact WP_some.2 ⟨by show (n : Int) + 1 = _; omega, b2, b3, b4⟩
    · rw [if_neg q] at es
      rw [if_pos (by omega), b2]
      refine WP_call (R := fun (x : Sto) => gI x 2000 184 = (((rowF C n).1 + 1 : Nat) : Int) ∧ (∀ i, i ≤ (rowF C n).1 → gI x 2145 i = (insF (kWire C) n (rowF C n).1 (rowF C n).2 i : Int)) ∧ (∀ b i, b ≠ 2145 → ¬ (b = 2000 ∧ i = 184) → gI x b i = gI z2 b i)) (WP_call (m_lr36 w wp h0 bz (by omega) hn g7 b3 (fun i hi => by have := (row_lt hi).1; omega)) (fun x hx => ?_)) (fun x hx => ?_)
      · obtain ⟨j, x1, x2, x3, x4⟩ := hx
        rw [x1, wrI_e (by omega), Int.toNat_natCast, wf_eq, hI_sI_a (by omega), x3.1 _ _ (by omega), b2]
        refine WP_some.2 ⟨by rw [gI_set, w32_id (by omega)]; omega, fun i hi => ?_, fun b i q1 q2 => by rw [hI_sI, if_neg q2, hI_sI_a q1]; exact x3.1 _ _ (by omega)⟩
        rw [← x4 i hi, hI_sI_a (by omega)]
        by_cases e : i = j
        · rw [if_pos e, e, gI_set, w32_id (by omega)]
        · rw [if_neg e, hI_sI_i e]
      · obtain ⟨x1, x2, x3⟩ := hx
        rw [es]
        exact WP_some.2 ⟨by show (n : Int) + 1 = _; omega, x1, fun i hi => x2 i (by have hi : i < (rowF C n).1 + 1 := hi; omega), fun b i q1 q2 => (x3 b i q1 q2).trans (b4 b i q1 q2)⟩
  · obtain ⟨z1, z2⟩ := s
    obtain ⟨b1, b2, b3, b4⟩ := hI
    dsimp only at b1 b2 b3 b4
    subst b1
    have kz : KeM S z2 := fun b i q => (b4 b i (by omega) (by omega)).trans (ky b i q)
    unfold mX23_layRow_L12
    dsimp only
    rw [m_netCount (kz.K r) w hk, bX_some, w32_id (by omega), if_neg (by omega)]
    refine WP_some.2 ⟨MPins.mv py (b4 _ _ (by omega) (by omega)) (fun b i _ _ => b4 b i (by omega) (by omega)), fun n hn => ?_, ⟨b2, b3⟩, kz⟩
    have b := by' n hn
    rw [b4 _ _ (by omega) (by omega), b4 _ _ (by omega) (by omega), b4 _ _ (by omega) (by omega), b4 _ _ (by omega) (by omega), b4 _ _ (by omega) (by omega)]; exact b
/-- what the connections of a pass keep -/
def CPall (C R : Chp) (m : Nat) : Prop := ∀ i, i < m → cpF C i R 22 (rO' C i) ≠ 0 → CnO C (cpF C i R) (rO' C i) false (conF C (cpF C i R) (rO' C i) false).1 (conF C (cpF C i R) (rO' C i) false).2
/-- open nets are connected, cheaply -/
theorem m_connectOpen (h : MW S k C R) (hk : k < 4) (w : WFC C) (wp : WFP C) (h0 : C 16 0 ≠ 0) (g : GSz C) (hV : RV C R) {b : Int} (hb : -1 ≤ b ∧ b < 256) (hB : ∀ n : Nat, b = (n : Int) → R 22 n = 0) : WP (mX23_connectOpen S b) (fun z => MW z k C (cpF C (rC C) R) ∧ RV C (cpF C (rC C) R) ∧ CM k S z ∧ CPall C R (rC C)) := by
  have rl : rC C ≤ kN C := rowF_le (C := C) (kN C)
  have g7 := g.2.2.2.2.2.2.1
  unfold mX23_connectOpen
  refine WP_call (R := fun z => MW z k C (cpF C (rC C) R) ∧ RV C (cpF C (rC C) R) ∧ CM k S z ∧ CPall C R (rC C)) ?_ (fun z hz => WP_some.2 hz)
  refine WP_cnt (rC C) (fun i s => s.1 = (i : Int) ∧ MW s.2 k C (cpF C i R) ∧ RV C (cpF C i R) ∧ CM k S s.2 ∧ (∀ n : Nat, b = (n : Int) → cpF C i R 22 n = 0) ∧ CPall C R i) (by unfold cFU; omega) ⟨rfl, h, hV, CM.refl, hB, fun j hj => absurd hj (Nat.not_lt_zero _)⟩ (fun i s hi hI => ?_) (fun s hI => ?_)
  · obtain ⟨z1, z2⟩ := s
    obtain ⟨b1, b2, b3, b4, b5, b6⟩ := hI
    dsimp only at b1 b2 b4
    subst b1
    have ol := rO_lt hi
    have r22 := b3.1.1.2 _ ol.1
    have es : cpF C (i + 1) R = if cpF C i R 22 (rO' C i) = 0 then cpF C i R else (conF C (cpF C i R) (rO' C i) false).1 := rfl
    have zt : (256 * (k : Int) + (rO' C i : Int)).toNat = 256 * k + rO' C i := by omega
    unfold mX23_connectOpen_L2
    dsimp only
    rw [b2.2.2.1.1, w32_id (by omega), w32_id (by omega), if_pos (by omega), rdI_e (by omega), Int.toNat_natCast, b2.2.2.1.2 i hi, w32_id (x := (rO' C i : Int)) (by omega), w32_id (x := b) (by omega)]
    have skip : cpF C i R 22 (rO' C i) = 0 → WP (some (Sum.inl ((i : Int) + 1, z2)) : Option ((Int × Sto) ⊕ Sto)) (WE (fun s => s.1 = ((i + 1 : Nat) : Int) ∧ MW s.2 k C (cpF C (i + 1) R) ∧ RV C (cpF C (i + 1) R) ∧ CM k S s.2 ∧ (∀ n : Nat, b = (n : Int) → cpF C (i + 1) R 22 n = 0) ∧ CPall C R (i + 1)) (fun z => MW z k C (cpF C (rC C) R) ∧ RV C (cpF C (rC C) R) ∧ CM k S z ∧ CPall C R (rC C))) := fun e => by
      rw [if_pos e] at es
      rw [es]; exact WP_some.2 ⟨by show (i : Int) + 1 = _; omega, b2, b3, b4, b5, fun j hj hq => by
        by_cases ej : j = i
        · rw [ej] at hq; exact absurd e hq
        · exact b6 j (by omega) hq⟩
    by_cases q0 : (rO' C i : Int) = b
    · rw [if_neg (fun g => g q0), bX_some, if_neg (by decide), bX_some]
      exact skip (b5 _ q0.symm)
    · rw [if_pos q0, rdI_e (by omega), Int.toNat_natCast, b2.2.2.1.2 i hi, b2.1.1.1, rdZ_e (by omega), zt, b2.2.2.2.2 _ ol.1]
      by_cases q : cpF C i R 22 (rO' C i) = 0
      · rw [q, if_neg (by decide), bX_some, if_neg (by decide), bX_some]
        exact skip q
      · have q1 := r22.resolve_left q
        rw [if_neg q] at es
        rw [q1, if_pos (by decide), bX_some, if_pos rfl, rdI_e (by omega), Int.toNat_natCast, b2.2.2.1.2 i hi, es]
        refine WP_call (R := fun y => MW y k C (conF C (cpF C i R) (rO' C i) false).1 ∧ CnO C (cpF C i R) (rO' C i) false (conF C (cpF C i R) (rO' C i) false).1 (conF C (cpF C i R) (rO' C i) false).2 ∧ RV C (conF C (cpF C i R) (rO' C i) false).1 ∧ CM k z2 y) (WP_call (m_con (dear := false) b2 hk w wp h0 g ol.1 ol.2 b3 (b3.2.1 _ q1)) (fun x hx => WP_some.2 ⟨hx.2.1, hx.2.2.1, hx.2.2.2.1, hx.2.2.2.2⟩)) (fun y hy => WP_some.2 ?_)
        exact ⟨by show (i : Int) + 1 = _; omega, hy.1, hy.2.2.1, b4.tr hy.2.2.2, fun n hn => (hy.2.1.1.2.2.2 n (fun e => q0 (by rw [hn, e])) (.inl rfl)).trans (b5 n hn), fun j hj hq => by
          by_cases ej : j = i
          · rw [ej]; exact hy.2.1
          · exact b6 j (by omega) hq⟩
  · obtain ⟨z1, z2⟩ := s
    obtain ⟨b1, b2, b3, b4, b5, b6⟩ := hI
    dsimp only at b1 b2 b4
    subst b1
    unfold mX23_connectOpen_L2
    dsimp only
    rw [b2.2.2.1.1, w32_id (by omega), if_neg (by omega)]
    exact WP_some.2 ⟨b2, b3, b4, b6⟩
theorem m_firstOpen (h : MW S k C R) (hk : k < 4) (g : GSz C) (rr : RRg C R) : mX23_firstOpen S = some (if 0 < opN C R (rC C) then (rO' C (fstO C R (rC C) 0) : Int) else -1) := by
  have rl : rC C ≤ kN C := rowF_le (C := C) (kN C)
  have g7 := g.2.2.2.2.2.2.1
  refine WP.of ?_
  unfold mX23_firstOpen
  refine WP_bE.2 ?_
  by_cases ho : 0 < opN C R (rC C)
  · rw [if_pos ho]
    obtain ⟨f1, f2, f3⟩ := fst_open ho
    refine WP_cnt (fstO C R (rC C) 0) (fun i s => s = (i : Int)) (by unfold cFU; omega) rfl (fun i s hi hI => ?_) (fun s hI => ?_)
    · subst hI
      have ol := rO_lt (show i < rC C by omega)
      have zt : (256 * (k : Int) + (rO' C i : Int)).toNat = 256 * k + rO' C i := by omega
      unfold mX23_firstOpen_L2
      rw [h.2.2.1.1, w32_id (by omega), w32_id (by omega), if_pos (by omega), rdI_e (by omega), Int.toNat_natCast, h.2.2.1.2 i (by omega), h.1.1.1, rdZ_e (by omega), zt, h.2.2.2.2 _ ol.1, f3 i hi, if_neg (by decide)]
      exact WP_some.2 (by show (i : Int) + 1 = _; omega)
    · subst hI
      have ol := rO_lt f1
      have e1 := (rr.2 _ ol.1).resolve_left f2
      have zt : (256 * (k : Int) + (rO' C (fstO C R (rC C) 0) : Int)).toNat = 256 * k + rO' C (fstO C R (rC C) 0) := by omega
      unfold mX23_firstOpen_L2
      rw [h.2.2.1.1, w32_id (by omega), w32_id (by omega), if_pos (by omega), rdI_e (by omega), Int.toNat_natCast, h.2.2.1.2 _ f1, h.1.1.1, rdZ_e (by omega), zt, h.2.2.2.2 _ ol.1, e1, if_pos (by decide), rdI_e (by omega), Int.toNat_natCast, h.2.2.1.2 _ f1]
      exact WP_some.2 rfl
  · rw [if_neg ho]
    have f3 : ∀ i, i < rC C → R 22 (rO' C i) = 0 := fun i hi => Classical.byContradiction (fun e => by
      have := smN_ge (f := fun i => if R 22 (rO' C i) = 0 then 0 else 1) hi
      rw [if_neg e] at this
      exact ho this)
    refine WP_cnt (rC C) (fun i s => s = (i : Int)) (by unfold cFU; omega) rfl (fun i s hi hI => ?_) (fun s hI => ?_)
    · subst hI
      have ol := rO_lt hi
      have zt : (256 * (k : Int) + (rO' C i : Int)).toNat = 256 * k + rO' C i := by omega
      unfold mX23_firstOpen_L2
      rw [h.2.2.1.1, w32_id (by omega), w32_id (by omega), if_pos (by omega), rdI_e (by omega), Int.toNat_natCast, h.2.2.1.2 i (by omega), h.1.1.1, rdZ_e (by omega), zt, h.2.2.2.2 _ ol.1, f3 i hi, if_neg (by decide)]
      exact WP_some.2 (by show (i : Int) + 1 = _; omega)
    · subst hI
      unfold mX23_firstOpen_L2
      rw [h.2.2.1.1, w32_id (by omega), if_neg (by omega)]
      refine WP_some.2 ?_
      show WP (some (-1)) _
      exact WP_some.2 rfl
theorem m_rt235 (h : MW S k C R) (hk : k < 4) (w : WFC C) (wp : WFP C) (h0 : C 16 0 ≠ 0) (g : GSz C) (hV : RV C R) {u : Nat} (hu : u ≤ 100) : WP (lpF (mX23_route_L235 (u : Int)) (1, 0, S)) (fun z => MW z k C (rdF C u (1, R)).2 ∧ RV C (rdF C u (1, R)).2 ∧ CM k S z) := by
  have rl : rC C ≤ kN C := rowF_le (C := C) (kN C)
  have g7 := g.2.2.2.2.2.2.1
  refine WP_lpM (fun s m => ∃ (fl : Int) (i : Nat) (R' : Chp), s = (fl, (i : Int), s.2.2) ∧ i + m = u ∧ (fl = 0 ∨ fl = 1) ∧ MW s.2.2 k C R' ∧ RV C R' ∧ CM k S s.2.2 ∧ rdF C m (fl, R') = rdF C u (1, R)) (fun s m hI => ?_) (m := u) ⟨1, 0, R, rfl, by omega, .inr rfl, h, hV, CM.refl, rfl⟩ (by unfold cFU; omega)
  obtain ⟨fl, i, R', e0, e1, e2, e3, e4, e5, e6⟩ := hI
  obtain ⟨s1, s2, s3⟩ := s
  obtain ⟨rfl, rfl⟩ : s1 = fl ∧ s2 = (i : Int) := by injection e0 with e0 e0'; injection e0' with e0' _; exact ⟨e0, e0'⟩
  dsimp only at e3 e5
  unfold mX23_route_L235
  dsimp only
  have stop : rdF C m (s1, R') = (s1, R') → WP (some (Sum.inr s3) : Option ((Int × Int × Sto) ⊕ Sto)) (WE (fun s' => ∃ m', m' < m ∧ ∃ (fl : Int) (i : Nat) (R' : Chp), s' = (fl, (i : Int), s'.2.2) ∧ i + m' = u ∧ (fl = 0 ∨ fl = 1) ∧ MW s'.2.2 k C R' ∧ RV C R' ∧ CM k S s'.2.2 ∧ rdF C m' (fl, R') = rdF C u (1, R)) (fun z => MW z k C (rdF C u (1, R)).2 ∧ RV C (rdF C u (1, R)).2 ∧ CM k S z)) := fun e => by
    rw [e] at e6
    refine WP_some.2 ⟨?_, ?_, e5⟩
    · rw [← e6]; exact e3
    · rw [← e6]; exact e4
  cases m with
  | zero =>
    rw [w32_id (by omega), w32_id (by omega), if_neg (by omega), bX_some, if_neg (by decide)]
    exact stop rfl
  | succ m =>
    have es : rdF C (m + 1) (s1, R') = if s1 ≠ 0 ∧ 0 < opN C R' (rC C) then rdF C m (rndF C R') else (s1, R') := rfl
    rw [w32_id (by omega), w32_id (by omega), if_pos (by omega), w32_id (by omega)]
    by_cases q : s1 = 0
    · rw [if_neg (fun g => g q), bX_some, if_neg (by decide)]
      exact stop (by rw [es, if_neg (fun g => g.1 q)])
    · rw [if_pos q, m_firstOpen e3 hk g e4.1.1, bX_some]
      by_cases q2 : 0 < opN C R' (rC C)
      · obtain ⟨f1, f2, f3⟩ := fst_open q2
        have ol := rO_lt f1
        have o1 := (e4.1.1.2 _ ol.1).resolve_left f2
        rw [if_pos q2, w32_id (by omega), if_pos (by omega), bX_some, if_pos rfl, bX_some]
        refine WP_call (m_con (dear := true) e3 hk w wp h0 g ol.1 ol.2 e4 (e4.2.1 _ o1)) (fun x hx => ?_)
        obtain ⟨a1, a2, a3, a4, a5⟩ := hx
        have rg : (conF C R' (rO' C (fstO C R' (rC C) 0)) true).2 = 0 ∨ (conF C R' (rO' C (fstO C R' (rC C) 0)) true).2 = 1 := by
          rcases a3.2 with e | e
          · exact .inr e.1
          · exact .inl e.1
        rw [if_pos ⟨q, q2⟩] at es
        have er : rndF C R' = if (conF C R' (rO' C (fstO C R' (rC C) 0)) true).2 = 0 then (0, (conF C R' (rO' C (fstO C R' (rC C) 0)) true).1) else (1, cpF C (rC C) (conF C R' (rO' C (fstO C R' (rC C) 0)) true).1) := rfl
        rw [a1]
        by_cases q3 : (conF C R' (rO' C (fstO C R' (rC C) 0)) true).2 = 0
        · rw [if_pos q3] at er
          rw [q3, if_neg (by decide), bX_some]
          refine WP_some.2 ⟨m, by omega, 0, i + 1, _, ?_, by omega, .inl rfl, a2, a4, e5.tr a5, ?_⟩
          · show (0, (i : Int) + 1, x.2) = (0, ((i + 1 : Nat) : Int), x.2); rfl
          · rw [← er, ← es]; exact e6
        · have q4 := rg.resolve_left q3
          rw [if_neg q3] at er
          rw [q4, if_pos (by decide)]
          have nopen : (conF C R' (rO' C (fstO C R' (rC C) 0)) true).1 22 (rO' C (fstO C R' (rC C) 0)) = 0 := by
            rcases a3.2 with e | e
            · exact e.2
            · exact absurd e.1 q3
          have nb : ∀ n : Nat, (rO' C (fstO C R' (rC C) 0) : Int) = (n : Int) → (conF C R' (rO' C (fstO C R' (rC C) 0)) true).1 22 n = 0 := fun n hn => by
            have : n = rO' C (fstO C R' (rC C) 0) := by omega
            rw [this]; exact nopen
          refine WP_call (R := fun z => MW z k C (cpF C (rC C) (conF C R' (rO' C (fstO C R' (rC C) 0)) true).1) ∧ RV C (cpF C (rC C) (conF C R' (rO' C (fstO C R' (rC C) 0)) true).1) ∧ CM k x.2 z) (WP_call (m_connectOpen a2 hk w wp h0 g a4 (b := (rO' C (fstO C R' (rC C) 0) : Int)) (by omega) nb) (fun y hy => WP_some.2 ⟨hy.1, hy.2.1, hy.2.2.1⟩)) (fun y hy => ?_)
          refine WP_some.2 ⟨m, by omega, 1, i + 1, _, ?_, by omega, .inr rfl, hy.1, hy.2.1, e5.tr (a5.tr hy.2.2), ?_⟩
          · show (1, (i : Int) + 1, y) = (1, ((i + 1 : Nat) : Int), y); rfl
          · rw [← er, ← es]; exact e6
      · rw [if_neg q2, if_neg (by decide), bX_some, if_neg (by decide)]
        exact stop (by rw [es, if_neg (fun g => q2 g.2)])
end MROUTE
