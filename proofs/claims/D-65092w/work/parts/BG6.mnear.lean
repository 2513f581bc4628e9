/-! the reference: the nearest pin, the way back -/
theorem pgn : ∀ (P m : Nat) (f : Nat → Nat), (∀ i, i < m → f i < P) → (∀ i j, i < j → j < m → f i ≠ f j) → m ≤ P := by
  intro P
  induction P with
  | zero =>
    intro m f h _
    rcases Nat.eq_zero_or_pos m with e | e
    · omega
    · have := h 0 e; omega
  | succ P ih =>
    intro m f h hi
    by_cases q : ∃ i, i < m ∧ f i = P
    · obtain ⟨i0, h1, h2⟩ := q
      have := ih (m - 1) (fun i => if i < i0 then f i else f (i + 1)) (fun i hi' => by
        show (if i < i0 then f i else f (i + 1)) < P
        split
        · have a := h i (by omega)
          have b := hi i i0 (by omega) h1
          omega
        · have a := h (i + 1) (by omega)
          have b := hi i0 (i + 1) (by omega) (by omega)
          omega) (fun i j hij hj => by
        show (if i < i0 then f i else f (i + 1)) ≠ (if j < i0 then f j else f (j + 1))
        split <;> split
        · exact hi i j hij (by omega)
        · exact hi i (j + 1) (by omega) (by omega)
        · omega
        · exact hi (i + 1) (j + 1) (by omega) (by omega))
      omega
    · have := ih m f (fun i hi' => by
        have a := h i hi'
        have b : f i ≠ P := fun e => q ⟨i, hi', e⟩
        omega) hi
      omega
section MNEAR
variable {S z : Sto} {k n : Nat} {C R : Chp} {dear : Bool} {d : Nat → Int}
abbrev MPp (S : Sto) (C : Chp) : Prop := MPins S C (kPins C)
theorem MPins.mv {s : Pst} (h : MPins S C s) (e1 : gI z 2000 159 = gI S 2000 159) (e2 : ∀ a i, 2126 ≤ a → a ≤ 2128 → gI z a i = gI S a i) : MPins z C s :=
  ⟨e1.trans h.1, fun p hp => ⟨(e2 _ _ (by omega) (by omega)).trans (h.2 p hp).1, fun h0 => ⟨(e2 _ _ (by omega) (by omega)).trans ((h.2 p hp).2 h0).1, (e2 _ _ (by omega) (by omega)).trans ((h.2 p hp).2 h0).2⟩⟩⟩
theorem MPins.cm {s : Pst} (h : MPins S C s) (c : CM k S z) : MPins z C s := h.mv (c.1 _ _ (by omega) (by omega) (by omega)) (fun a i _ _ => c.1 _ _ (by omega) (by omega) (by omega))
theorem mp_at (h : MPp S C) (h0 : C 16 0 ≠ 0) {i : Nat} (hi : i < kPn C) : gI S 2126 i = ((kPf C i).1 : Int) ∧ gI S 2127 i = pvX C i ∧ gI S 2128 i = pvY C i := ⟨(h.2 i hi).1, ((h.2 i hi).2 h0).1, ((h.2 i hi).2 h0).2⟩
theorem m_point (h : MRt S k C) (w : WFC C) (wp : WFP C) (h0 : C 16 0 ≠ 0) {i : Nat} (hi : i < kPn C) : mX23_pointOf S (pvX C i) (pvY C i) = some (pp C i : Int) := by
  unfold mX23_pointOf
  rw [h.1.2.1, (pp_lt w wp h0 hi).2.1]
theorem m_np5 (h : MRt S k C) (o : MOw S k C R) (hp : MPp S C) (hk : k < 4) (w : WFC C) (wp : WFP C) (h0 : C 16 0 ≠ 0) (g : GSz C) (rr : RRg C R) (hn : n < kN C) : WP (lpF (mX23_nearestPin_L5 S (n : Int)) (0, 0)) (fun z => (z = 0 ∧ whl C R n) ∨ (z = 1 ∧ ¬ whl C R n)) := by
  have g5 := g.2.2.2.2.1
  have g7 := g.2.2.2.2.2.2.1
  have g8 := g.2.2.2.2.2.2.2
  have pn : gI S 2000 159 = (kPn C : Int) := hp.1
  refine WP_cnt (kPn C) (fun i s => s.2 = (i : Int) ∧ ((s.1 = 0 ∧ ∀ j, j < i → (kPf C j).1 = n → R 20 (pp C j) = (n : Int)) ∨ (s.1 = 1 ∧ ¬ whl C R n))) (by unfold cFU; omega) ⟨rfl, .inl ⟨rfl, fun j hj => absurd hj (Nat.not_lt_zero _)⟩⟩ (fun i s hi hI => ?_) (fun s hI => ?_)
  · obtain ⟨z1, z2⟩ := s
    obtain ⟨b1, b2⟩ := hI
    dsimp only at b1 b2
    subst b1
    obtain ⟨m1, m2, m3⟩ := mp_at hp h0 hi
    have pl := (pp_lt w wp h0 hi).1
    have ow := ((kPins_ok w).1 i (show i < kPn C from hi)).1
    have ow : (kPf C i).1 < kN C := ow
    have r0 := rr.1 (pp C i) (by omega)
    unfold mX23_nearestPin_L5
    dsimp only
    rw [pn, w32_id (by omega), w32_id (by omega), if_pos (by omega)]
    rcases b2 with ⟨rfl, b2⟩ | ⟨rfl, b2⟩
    · rw [if_pos (by decide), rdI_e (by omega), Int.toNat_natCast, m1, w32_id (by omega), w32_id (x := (n : Int)) (by omega)]
      by_cases q : (kPf C i).1 = n
      · rw [if_pos (by omega), rdI_e (by omega), rdI_e (by omega), Int.toNat_natCast, m2, m3, m_point h w wp h0 hi, bX_some, m_own h o hk g (by omega), bX_some, w32_id (x := R 20 (pp C i)) (by omega)]
        by_cases q2 : R 20 (pp C i) = (n : Int)
        · rw [if_neg (fun g => g q2), bX_some, if_neg (by decide), bX_some]
          refine WP_some.2 ⟨by show (i : Int) + 1 = _; omega, .inl ⟨rfl, fun j hj e => ?_⟩⟩
          by_cases ej : j = i
          · rw [ej]; exact q2
          · exact b2 j (by omega) e
        · rw [if_pos q2, bX_some, if_pos rfl, bX_some]
          exact WP_some.2 ⟨by show (i : Int) + 1 = _; omega, .inr ⟨rfl, fun g => q2 (g i hi q)⟩⟩
      · rw [if_neg (by omega), bX_some, if_neg (by decide), bX_some]
        refine WP_some.2 ⟨by show (i : Int) + 1 = _; omega, .inl ⟨rfl, fun j hj e => ?_⟩⟩
        by_cases ej : j = i
        · rw [ej] at e; exact absurd e q
        · exact b2 j (by omega) e
    · rw [if_neg (by decide), bX_some, if_pos rfl, bX_some]
      exact WP_some.2 ⟨by show (i : Int) + 1 = _; omega, .inr ⟨rfl, b2⟩⟩
  · obtain ⟨z1, z2⟩ := s
    obtain ⟨b1, b2⟩ := hI
    dsimp only at b1 b2
    subst b1
    unfold mX23_nearestPin_L5
    dsimp only
    rw [pn, if_neg (by omega)]
    exact WP_some.2 (b2.elim (fun g => .inl ⟨g.1, g.2⟩) .inr)
theorem m_np86 (h : MRt S k C) (o : MOw S k C R) (hp : MPp S C) (hk : k < 4) (w : WFC C) (wp : WFP C) (h0 : C 16 0 ≠ 0) (g : GSz C) (rr : RRg C R) (hn : n < kN C) (hw : ¬ whl C R n) (hd : ∀ p, p < 2 * kLy C → gI S 2141 p = 1000000000 ∨ (0 ≤ gI S 2141 p ∧ gI S 2141 p ≤ 60000)) : WP (lpF (mX23_nearestPin_L86 S (n : Int)) ((-2), 0)) (fun z => NrR C R n (dM S) z) := by
  have g5 := g.2.2.2.2.1
  have g7 := g.2.2.2.2.2.2.1
  have g8 := g.2.2.2.2.2.2.2
  have pn : gI S 2000 159 = (kPn C : Int) := hp.1
  refine WP_cnt (kPn C) (fun i s => s.2 = (i : Int) ∧ ((s.1 = -2 ∧ ∀ j, j < i → ¬ cand C R n (dM S) j) ∨ ∃ b : Nat, s.1 = (b : Int) ∧ (∃ j, j < i ∧ cand C R n (dM S) j ∧ pp C j = b) ∧ ∀ j, j < i → cand C R n (dM S) j → dM S b < dM S (pp C j) ∨ (dM S b = dM S (pp C j) ∧ b ≤ pp C j))) (by unfold cFU; omega) ⟨rfl, .inl ⟨rfl, fun j hj => absurd hj (Nat.not_lt_zero _)⟩⟩ (fun i s hi hI => ?_) (fun s hI => ?_)
  · obtain ⟨z1, z2⟩ := s
    obtain ⟨b1, b2⟩ := hI
    dsimp only at b1 b2
    subst b1
    obtain ⟨m1, m2, m3⟩ := mp_at hp h0 hi
    have pl := (pp_lt w wp h0 hi).1
    have ow := ((kPins_ok w).1 i (show i < kPn C from hi)).1
    have ow : (kPf C i).1 < kN C := ow
    have r0 := rr.1 (pp C i) (by omega)
    have dp := hd (pp C i) (by omega)
    -- no new candidate
    have skip : ¬ cand C R n (dM S) i → WP (some (Sum.inl (z1, (i : Int) + 1)) : Option ((Int × Int) ⊕ Int)) (WE (fun s => s.2 = ((i + 1 : Nat) : Int) ∧ ((s.1 = -2 ∧ ∀ j, j < i + 1 → ¬ cand C R n (dM S) j) ∨ ∃ b : Nat, s.1 = (b : Int) ∧ (∃ j, j < i + 1 ∧ cand C R n (dM S) j ∧ pp C j = b) ∧ ∀ j, j < i + 1 → cand C R n (dM S) j → dM S b < dM S (pp C j) ∨ (dM S b = dM S (pp C j) ∧ b ≤ pp C j))) (fun z => NrR C R n (dM S) z)) := fun nc => by
      refine WP_some.2 ⟨by show (i : Int) + 1 = _; omega, ?_⟩
      rcases b2 with ⟨e, f⟩ | ⟨b, e, ⟨j, j1, j2, j3⟩, f⟩
      · refine .inl ⟨e, fun j hj c => ?_⟩
        by_cases ej : j = i
        · rw [ej] at c; exact nc c
        · exact f j (by omega) c
      · refine .inr ⟨b, e, ⟨j, by omega, j2, j3⟩, fun j hj c => ?_⟩
        by_cases ej : j = i
        · rw [ej] at c; exact absurd c nc
        · exact f j (by omega) c
    unfold mX23_nearestPin_L86
    dsimp only
    rw [pn, w32_id (x := (i : Int)) (by omega), w32_id (x := (kPn C : Int)) (by omega), if_pos (by omega), rdI_e (by omega), rdI_e (by omega), Int.toNat_natCast, m2, m3, m_point h w wp h0 hi, bX_some, rdI_e (by omega), Int.toNat_natCast, m1, w32_id (x := ((kPf C i).1 : Int)) (by omega), w32_id (x := (n : Int)) (by omega)]
    by_cases q : (kPf C i).1 = n
    · rw [if_pos (by omega), m_own h o hk g (by omega), bX_some, w32_id (x := R 20 (pp C i)) (by omega)]
      by_cases q2 : R 20 (pp C i) = (n : Int)
      · rw [if_neg (fun g => g q2), bX_some, if_neg (by decide), bX_some]
        exact skip (fun c => c.2.2.1 q2)
      · rw [if_pos q2, rdI_e (by omega), Int.toNat_natCast, w32_gI]
        by_cases q3 : gI S 2141 (pp C i) = 1000000000
        · rw [if_neg (by omega), bX_some, if_neg (by decide), bX_some]
          exact skip (fun c => c.2.2.2 (if_pos q3))
        · have dp := dp.resolve_left q3
          have ed : dM S (pp C i) = gI S 2141 (pp C i) := if_neg q3
          have ci : cand C R n (dM S) i := ⟨hi, q, q2, by rw [ed]; omega⟩
          rw [if_pos (by omega), bX_some, if_pos rfl]
          rcases b2 with ⟨rfl, f⟩ | ⟨b, rfl, ⟨j, j1, j2, j3⟩, f⟩
          · rw [if_neg (by decide), bX_some, if_pos rfl, bX_some, bX_some]
            refine WP_some.2 ⟨by show (i : Int) + 1 = _; omega, .inr ⟨pp C i, rfl, ⟨i, by omega, ci, rfl⟩, fun j hj c => ?_⟩⟩
            by_cases ej : j = i
            · rw [ej]; exact .inr ⟨rfl, Nat.le_refl _⟩
            · exact absurd c (f j (by omega))
          · have bl : b < 2 * kLy C := by have := (pp_lt w wp h0 j2.1).1; omega
            have eb : dM S b = gI S 2141 b := if_neg (fun e => j2.2.2.2 (by rw [j3]; exact if_pos e))
            have nb := j2.2.2.2
            rw [j3, eb] at nb
            have hb := hd b bl
            rw [w32_id (x := (b : Int)) (by omega), if_pos (by omega), rdI_e (by omega), rdI_e (by omega), Int.toNat_natCast, Int.toNat_natCast, w32_gI, w32_gI]
            have take : (dM S (pp C i) < dM S b ∨ (dM S (pp C i) = dM S b ∧ pp C i < b)) → WP (some (Sum.inl (((pp C i : Nat) : Int), (i : Int) + 1)) : Option ((Int × Int) ⊕ Int)) (WE (fun s => s.2 = ((i + 1 : Nat) : Int) ∧ ((s.1 = -2 ∧ ∀ j, j < i + 1 → ¬ cand C R n (dM S) j) ∨ ∃ b : Nat, s.1 = (b : Int) ∧ (∃ j, j < i + 1 ∧ cand C R n (dM S) j ∧ pp C j = b) ∧ ∀ j, j < i + 1 → cand C R n (dM S) j → dM S b < dM S (pp C j) ∨ (dM S b = dM S (pp C j) ∧ b ≤ pp C j))) (fun z => NrR C R n (dM S) z)) := fun lt => by
              refine WP_some.2 ⟨by show (i : Int) + 1 = _; omega, .inr ⟨pp C i, rfl, ⟨i, by omega, ci, rfl⟩, fun j hj c => ?_⟩⟩
              by_cases ej : j = i
              · rw [ej]; exact .inr ⟨rfl, Nat.le_refl _⟩
              · have := f j (by omega) c
                omega
            have keep : ¬ (dM S (pp C i) < dM S b ∨ (dM S (pp C i) = dM S b ∧ pp C i < b)) → WP (some (Sum.inl (((b : Nat) : Int), (i : Int) + 1)) : Option ((Int × Int) ⊕ Int)) (WE (fun s => s.2 = ((i + 1 : Nat) : Int) ∧ ((s.1 = -2 ∧ ∀ j, j < i + 1 → ¬ cand C R n (dM S) j) ∨ ∃ b : Nat, s.1 = (b : Int) ∧ (∃ j, j < i + 1 ∧ cand C R n (dM S) j ∧ pp C j = b) ∧ ∀ j, j < i + 1 → cand C R n (dM S) j → dM S b < dM S (pp C j) ∨ (dM S b = dM S (pp C j) ∧ b ≤ pp C j))) (fun z => NrR C R n (dM S) z)) := fun nl => by
              refine WP_some.2 ⟨by show (i : Int) + 1 = _; omega, .inr ⟨b, rfl, ⟨j, by omega, j2, j3⟩, fun j hj c => ?_⟩⟩
              by_cases ej : j = i
              · rw [ej]; omega
              · exact f j (by omega) c
            rw [ed, eb] at take keep
            by_cases q4 : gI S 2141 b ≤ gI S 2141 (pp C i)
            · rw [if_pos q4, rdI_e (by omega), rdI_e (by omega), Int.toNat_natCast, Int.toNat_natCast, w32_gI, w32_gI]
              by_cases q5 : gI S 2141 (pp C i) = gI S 2141 b
              · rw [if_pos q5, w32_id (x := ((pp C i : Nat) : Int)) (by omega)]
                by_cases q6 : pp C i < b
                · rw [if_pos (by omega), bX_some, if_pos rfl, bX_some, bX_some]
                  exact take (.inr ⟨q5, q6⟩)
                · rw [if_neg (by omega), bX_some, if_neg (by decide), bX_some, bX_some]
                  exact keep (by omega)
              · rw [if_neg q5, bX_some, if_neg (by decide), bX_some, bX_some]
                exact keep (by omega)
            · rw [if_neg q4, bX_some, if_pos rfl, bX_some, bX_some]
              exact take (.inl (by omega))
    · rw [if_neg (by omega), bX_some, if_neg (by decide), bX_some]
      exact skip (fun c => q c.2.1)
  · obtain ⟨z1, z2⟩ := s
    obtain ⟨b1, b2⟩ := hI
    dsimp only at b1 b2
    subst b1
    unfold mX23_nearestPin_L86
    dsimp only
    rw [pn, if_neg (by omega)]
    refine WP_some.2 ?_
    rcases b2 with ⟨e, f⟩ | ⟨b, e, ⟨j, j1, j2, j3⟩, f⟩
    · exact .inr (.inl ⟨e, hw, fun i c => f i c.1 c⟩)
    · exact .inr (.inr ⟨b, e, ⟨j, j2, j3⟩, fun j c => f j c.1 c⟩)
theorem m_nearest (h : MRt S k C) (o : MOw S k C R) (hp : MPp S C) (hk : k < 4) (w : WFC C) (wp : WFP C) (h0 : C 16 0 ≠ 0) (g : GSz C) (hV : RInv C R) (hn : n < kN C) :
    WP (mX23_nearestPin S (n : Int) (dI dear)) (fun z => Ch 2141 2143 S z.2 ∧ ((z.1 = -1 ∧ whl C R n) ∨ (¬ whl C R n ∧ DOk C R n dear (dM z.2) ∧ (∀ p, p < 2 * kLy C → gI z.2 2141 p = 1000000000 ∨ (0 ≤ gI z.2 2141 p ∧ gI z.2 2141 p ≤ 60000)) ∧ NrR C R n (dM z.2) z.1))) := by
  unfold mX23_nearestPin
  refine WP_call (m_np5 h o hp hk w wp h0 g hV.1 hn) (fun y hy => ?_)
  rcases hy with ⟨rfl, q⟩ | ⟨rfl, q⟩
  · rw [if_pos (by decide)]
    exact WP_some.2 ⟨Ch.refl, .inl ⟨rfl, q⟩⟩
  · rw [if_neg (by decide)]
    refine WP_call (m_measure (dear := dear) h o hV hk g w hn) (fun x hx => ?_)
    obtain ⟨x1, x2, x3⟩ := hx
    have cx : CM k S x := CM.of x1 (by omega)
    refine WP_call (m_np86 (h.cm cx) (o.ch x1 (by omega)) (hp.cm cx) hk w wp h0 g hV.1 hn q x3) (fun v hv => WP_some.2 ⟨x1, .inr ⟨q, x2, x3, hv⟩⟩)
/-! the way back -/
theorem bkF_at {s : Int} {p j : Nat} (h : mtc C d s p j) (hj : j < 5) (hf : ∀ i, i < j → ¬ mtc C d s p i) : bkF C d s p 5 = nxF C p j := by
  have e0 : ∀ m, m ≤ j → bkF C d s p m = -1 := by
    intro m
    induction m with
    | zero => exact fun _ => rfl
    | succ m ih =>
      intro hm
      show (if bkF C d s p m = -1 ∧ mtc C d s p m then nxF C p m else bkF C d s p m) = -1
      rw [if_neg (fun g => hf m (by omega) g.2)]; exact ih (by omega)
  have e1 : bkF C d s p (j + 1) = nxF C p j := by
    show (if bkF C d s p j = -1 ∧ mtc C d s p j then nxF C p j else bkF C d s p j) = _
    rw [if_pos ⟨e0 j (Nat.le_refl _), h⟩]
  have := bkF_stay (C := C) (d := d) (s := s) (p := p) (m := j + 1) (by rw [e1]; exact h.1) (4 - j)
  rw [show j + 1 + (4 - j) = 5 by omega] at this
  rw [this, e1]
theorem m_wb52 (h : MRt S k C) (g : GSz C) {p : Nat} (hp : p < 2 * kLy C) (hd : ∀ p, p < 2 * kLy C → gI S 2141 p = 1000000000 ∨ (0 ≤ gI S 2141 p ∧ gI S 2141 p ≤ 60000)) {s v4 : Int} (hs : 0 ≤ s ∧ s ≤ 11) (hv : v4 = gI S 2141 p) (hv2 : gI S 2141 p ≠ 1000000000) {T : Sto} {x : Int} (hm : ∃ j, j < 5 ∧ mtc C (dM S) s p j) : WP (lpF (mX23_wayBack_L52 S (x, (p : Int), T) v4 s) ((-1), 4)) (fun z => z = bkF C (dM S) s p 5) := by
  have g5 := g.2.2.2.2.1
  have dp := (hd p hp).resolve_left hv2
  have mt : ∀ j, j < 5 → ∀ x : Nat, nxF C p j = (x : Int) → x < 2 * kLy C → (mtc C (dM S) s p j ↔ gI S 2141 x = gI S 2141 p - s) := fun j hj x e hx => by
    have dx := hd x hx
    have ep : dM S p = gI S 2141 p := if_neg hv2
    unfold mtc
    rw [e, Int.toNat_natCast, ep]
    by_cases q : gI S 2141 x = 1000000000
    · have : dM S x = -1 := if_pos q
      rw [this]; omega
    · have : dM S x = gI S 2141 x := if_neg q
      rw [this]; omega
  refine WP_cnt 5 (fun i s' => s'.2 = 4 - (i : Int) ∧ ((s'.1 = -1 ∧ ∀ j, j < 5 → 5 ≤ j + i → ¬ mtc C (dM S) s p j) ∨ ∃ j, j < 5 ∧ 5 ≤ j + i ∧ mtc C (dM S) s p j ∧ s'.1 = nxF C p j ∧ ∀ u, 5 ≤ u + i → u < j → ¬ mtc C (dM S) s p u)) (by unfold cFU; omega) ⟨rfl, .inl ⟨rfl, fun j h1 h2 => absurd h1 (by omega)⟩⟩ (fun i s' hi hI => ?_) (fun s' hI => ?_)
  · obtain ⟨z1, z2⟩ := s'
    obtain ⟨b1, b2⟩ := hI
    dsimp only at b1 b2
    obtain ⟨j0, hj0⟩ : ∃ j0 : Nat, j0 = 4 - i := ⟨_, rfl⟩
    have ez : z2 = (j0 : Int) := by omega
    subst ez
    have skip : ¬ mtc C (dM S) s p j0 → WP (some (Sum.inl (z1, (j0 : Int) + -1)) : Option ((Int × Int) ⊕ Int)) (WE (fun s' => s'.2 = 4 - ((i + 1 : Nat) : Int) ∧ ((s'.1 = -1 ∧ ∀ j, j < 5 → 5 ≤ j + (i + 1) → ¬ mtc C (dM S) s p j) ∨ ∃ j, j < 5 ∧ 5 ≤ j + (i + 1) ∧ mtc C (dM S) s p j ∧ s'.1 = nxF C p j ∧ ∀ u, 5 ≤ u + (i + 1) → u < j → ¬ mtc C (dM S) s p u)) (fun z => z = bkF C (dM S) s p 5)) := fun nm => by
      refine WP_some.2 ⟨by show (j0 : Int) + -1 = _; omega, ?_⟩
      rcases b2 with ⟨e, f⟩ | ⟨j, j1, j2, j3, j4, j5⟩
      · refine .inl ⟨e, fun j h1 h2 => ?_⟩
        by_cases ej : j = j0
        · rw [ej]; exact nm
        · exact f j h1 (by omega)
      · refine .inr ⟨j, j1, by omega, j3, j4, fun u h1 h2 => ?_⟩
        by_cases ej : u = j0
        · rw [ej]; exact nm
        · exact j5 u (by omega) h2
    unfold mX23_wayBack_L52
    dsimp only
    rw [w32_id (x := (j0 : Int)) (by omega), if_pos (by omega), m_next h g hp (by omega), bX_some]
    rcases nxF_rng hp (show j0 < 5 by omega) with e | ⟨q, e, hq, _⟩
    · rw [e, if_neg (by decide), bX_some, if_neg (by decide), bX_some]
      exact skip (fun c => c.1 e)
    · rw [e, w32_id (x := (q : Int)) (by omega), if_pos (by omega), rdI_e (by omega), Int.toNat_natCast, w32_gI, hv, w32_id (x := gI S 2141 p - s) (by omega)]
      have mm := mt j0 (by omega) q e hq
      by_cases c : gI S 2141 q = gI S 2141 p - s
      · rw [if_pos c, bX_some, if_pos rfl, bX_some]
        refine WP_some.2 ⟨by show (j0 : Int) + -1 = _; omega, .inr ⟨j0, by omega, by omega, mm.2 c, e.symm, fun u h1 h2 => by omega⟩⟩
      · rw [if_neg c, bX_some, if_neg (by decide), bX_some]
        exact skip (fun c' => c (mm.1 c'))
  · obtain ⟨z1, z2⟩ := s'
    obtain ⟨b1, b2⟩ := hI
    dsimp only at b1 b2
    have ez : z2 = -1 := by omega
    subst ez
    unfold mX23_wayBack_L52
    dsimp only
    rw [if_neg (by decide)]
    refine WP_some.2 ?_
    rcases b2 with ⟨e, f⟩ | ⟨j, j1, j2, j3, j4, j5⟩
    · obtain ⟨j, j1, j2⟩ := hm
      exact absurd j2 (f j j1 (by omega))
    · show z1 = _
      rw [j4, bkF_at j3 j1 (fun i hi => j5 i (by omega) hi)]
theorem m_wayBack (h : MRt S k C) (o : MOw S k C R) (hV : RInv C R) (hk : k < 4) (g : GSz C) (w : WFC C) (hn : n < kN C) (hD : DOk C R n dear (dM S)) (hd : ∀ p, p < 2 * kLy C → gI S 2141 p = 1000000000 ∨ (0 ≤ gI S 2141 p ∧ gI S 2141 p ≤ 60000)) {b : Nat} (hb : b < 2 * kLy C) (hb2 : dM S b ≠ -1) :
    WP (mX23_wayBack S (b : Int) (n : Int) (dI dear)) (fun z => Ch 2144 2144 S z.2 ∧ ∃ m : Nat, z.1 = (m : Int) ∧ m < 4712 ∧ R 20 (fPr C R n dear b m) = (n : Int) ∧ (∀ i, i < m → R 20 (fPr C R n dear b i) ≠ (n : Int)) ∧ ∀ i, i ≤ m → gI z.2 2144 i = (fPr C R n dear b i : Int)) := by
  have g5 := g.2.2.2.2.1
  have hF := dF_ok hD
  have eqd : ∀ x, x < 2 * kLy C → dM S x = dF C R n dear x := fun x hx => hD.eq hF hx
  unfold mX23_wayBack
  refine WP_call (R := fun s => Ch 2144 2144 S s.2.2 ∧ ∃ m : Nat, s.1 = (m : Int) ∧ m < 4712 ∧ s.2.1 = (fPr C R n dear b m : Int) ∧ fPr C R n dear b m < 2 * kLy C ∧ R 20 (fPr C R n dear b m) = (n : Int) ∧ (∀ i, i < m → R 20 (fPr C R n dear b i) ≠ (n : Int)) ∧ ∀ i, i < m → gI s.2.2 2144 i = (fPr C R n dear b i : Int)) ?_ (fun s hs => ?_)
  · refine WP_lpM (fun s m => ∃ i : Nat, s.1 = (i : Int) ∧ i < 4712 ∧ s.2.1 = (fPr C R n dear b i : Int) ∧ fPr C R n dear b i < 2 * kLy C ∧ dM S (fPr C R n dear b i) ≠ -1 ∧ (dM S (fPr C R n dear b i)).toNat ≤ m ∧ (∀ t, t < i → R 20 (fPr C R n dear b t) ≠ (n : Int) ∧ fPr C R n dear b t < 2 * kLy C ∧ dM S (fPr C R n dear b (t + 1)) < dM S (fPr C R n dear b t)) ∧ (∀ t, t < i → gI s.2.2 2144 t = (fPr C R n dear b t : Int)) ∧ Ch 2144 2144 S s.2.2) (fun s m hI => ?_) (m := 60000) ⟨0, rfl, by omega, rfl, hb, hb2, by
      show (dM S b).toNat ≤ 60000
      have := hd b hb
      show (if gI S 2141 b = 1000000000 then (-1 : Int) else gI S 2141 b).toNat ≤ 60000
      split <;> omega, fun t ht => absurd ht (Nat.not_lt_zero _), fun t ht => absurd ht (Nat.not_lt_zero _), Ch.refl⟩ (by unfold cFU; omega)
    obtain ⟨z1, z2, z3⟩ := s
    obtain ⟨i, b1, bi, b2, b3, b4, b5, b6, b7, b8⟩ := hI
    dsimp only at b1 b2 b7 b8
    have efi : ∀ t, fPr C R n dear b (t + 1) = (bkF C (dF C R n dear) (prF C R n dear (fPr C R n dear b t) : Int) (fPr C R n dear b t) 5).toNat := fun t => rfl
    have einj : ∀ t u, t < u → u ≤ i → dM S (fPr C R n dear b u) < dM S (fPr C R n dear b t) := by
      intro t u
      induction u with
      | zero => intro h; omega
      | succ u ih =>
        intro h1 h2
        have s1 := (b6 u (by omega)).2.2
        by_cases e : t = u
        · rw [e]; exact s1
        · have := ih (by omega) (by omega); omega
    generalize hp' : fPr C R n dear b i = p at b2 b3 b4 b5
    subst b1 b2
    have hz := h.cm (CM.of b8 (by omega))
    have oz := o.ch b8 (by omega)
    have e41 : ∀ x, gI z3 2141 x = gI S 2141 x := fun x => b8.1 _ _ (by omega)
    have np : gI S 2141 p ≠ 1000000000 := fun e => b4 (if_pos e)
    have ep : dM S p = gI S 2141 p := if_neg np
    have dp := (hd p b3).resolve_left np
    unfold mX23_wayBack_L6
    dsimp only
    rw [rdI_e (by omega), Int.toNat_natCast, e41, w32_gI]
    by_cases q : 0 < gI S 2141 p
    · have no : R 20 p ≠ (n : Int) := fun e => by have := (hD p b3).2.1 e; omega
      have ws := way_st hD b3 no b4
      obtain ⟨x, j, j1, x1, x2, x3, x4, x5, x6⟩ := ws
      have hx : fPr C R n dear b (i + 1) = x := by
        rw [efi i, hp', ← bkF_cg (C := C) (s := (prF C R n dear p : Int)) b3 eqd 5 (Nat.le_refl _), x3, Int.toNat_natCast]
      have pr := prF_le (C := C) (p := p) (R := R) (n := n) (dear := dear)
      have c2 : Ch 2144 2144 S (sI z3 2144 i (p : Int)) := b8.sI (by omega)
      have h2 := h.cm (CM.of c2 (by omega))
      have o2 := o.ch c2 (by omega)
      have e41' : ∀ x, gI (sI z3 2144 i (p : Int)) 2141 x = gI S 2141 x := fun x => c2.1 _ _ (by omega)
      have edM : dM (sI z3 2144 i (p : Int)) = dM S := funext (fun t => by show (if gI (sI z3 2144 i (p : Int)) 2141 t = 1000000000 then (-1 : Int) else gI (sI z3 2144 i (p : Int)) 2141 t) = _; rw [e41'])
      rw [if_pos q, wrI_e (by omega), Int.toNat_natCast, rdI_e (by omega), Int.toNat_natCast, e41', m_price h2 o2 hV hk g w b3 hn no, bX_some]
      refine WP_call (m_wb52 h2 g b3 (fun t ht => by rw [e41']; exact hd t ht) (by omega) (by rw [e41']) (by rw [e41']; exact np) (by
        rw [edM]
        rcases bkF_some (C := C) (d := dM S) (s := (prF C R n dear p : Int)) (p := p) 5 with g | ⟨j', j1', j2', _⟩
        · rw [g] at x3; omega
        · exact ⟨j', j1', j2'⟩)) (fun v hv => ?_)
      rw [edM, x3] at hv
      have lt5 : i + 1 + 1 ≤ 2 * kLy C := by
        refine pgn (2 * kLy C) (i + 1 + 1) (fPr C R n dear b) (fun t ht => ?_) (fun t u h1 h2 e => ?_)
        · by_cases e : t = i + 1
          · rw [e, hx]; exact x1
          · by_cases e2 : t = i
            · rw [e2, hp']; exact b3
            · exact (b6 t (by omega)).2.1
        · by_cases e2 : u = i + 1
          · rw [e2, hx] at e
            have l1 : dM S p ≤ dM S (fPr C R n dear b t) := by
              by_cases e3 : t = i
              · rw [e3, hp']; exact Int.le_refl _
              · have := einj t i (by omega) (Nat.le_refl _)
                rw [hp'] at this; omega
            rw [e] at l1; omega
          · have := einj t u h1 (by omega)
            rw [e] at this; omega
      refine WP_some.2 ⟨m - 1, by omega, i + 1, by show (i : Int) + 1 = _; omega, by omega, ?_, ?_, ?_, ?_, fun t ht => ?_, fun t ht => ?_, c2⟩
      · dsimp only; rw [hx]; exact hv
      · rw [hx]; exact x1
      · rw [hx]; exact x4
      · rw [hx]; omega
      · by_cases e : t = i
        · rw [e, hp', hx]; exact ⟨no, b3, by omega⟩
        · exact b6 t (by omega)
      · dsimp only
        by_cases e : t = i
        · rw [e, gI_set, w32_id (by omega), hp']
        · rw [hI_sI_i e]; exact b7 t (by omega)
    · rw [if_neg q]
      have ow : R 20 p = (n : Int) := Classical.byContradiction (fun no => by
        obtain ⟨a, j, y, y1, y2, y3, y4, y5⟩ := (hD p b3).2.2.1 no b4
        have := (hD y y2).1
        omega)
      exact WP_some.2 ⟨b8, i, rfl, bi, by rw [hp'], by rw [hp']; exact b3, by rw [hp']; exact ow, fun t ht => (b6 t ht).1, b7⟩
  · obtain ⟨s1, s2, s3⟩ := s
    obtain ⟨c1, m, c2, c3, c4, c5, c6, c7, c8⟩ := hs
    dsimp only at c1 c2 c4 c8
    subst c2
    dsimp only
    rw [wrI_e (by omega), Int.toNat_natCast, c4]
    refine WP_some.2 ⟨c1.sI (by omega), m, rfl, c3, c6, c7, fun i hi => ?_⟩
    dsimp only
    by_cases e : i = m
    · rw [e, gI_set, w32_id (by omega)]
    · rw [hI_sI_i e]; exact c8 i (by omega)
end MNEAR
