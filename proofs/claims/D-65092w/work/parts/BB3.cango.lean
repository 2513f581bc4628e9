/-! whether a pattern can go: both sides -/
section CANGO
variable {S : Sto} {k : Nat} {C : Chp}
def okGo (C : Chp) (set : Nat → Int) (d n : Nat) : Nat → Bool
  | 0 => true
  | f + 1 => okGo C set d n f && !(kShow C f (set d).toNat && !anyX C set f (d : Int) n)
theorem okGo_down {set : Nat → Int} {d n i m : Nat} (l : i ≤ m) (e : okGo C set d n i = false) : okGo C set d n m = false := by
  induction m with
  | zero => have : i = 0 := by omega
            subst this; exact e
  | succ m ih =>
    by_cases q : i = m + 1
    · subst q; exact e
    · show (okGo C set d n m && _) = false
      rw [ih (by omega), Bool.false_and]
theorem cntS_ge {set : Nat → Int} {f n d : Nat} (hd : d < n) (e : kShow C f (set d).toNat = true) : 1 ≤ cntS C set f n := by
  induction n with
  | zero => omega
  | succ n ih =>
    show 1 ≤ cntS C set f n + (if kShow C f (set n).toNat = true then 1 else 0)
    by_cases q : d = n
    · subst q; rw [if_pos e]; omega
    · have := ih (by omega); omega
theorem k_canGo (hk : k < 4) (w : WFC C) {set : Nat → Int} {n d : Nat} (h : KRow S k C) (g : KSet S k C set n) (hd : d < n) : mX19_canGo S (d : Int) (kFa C : Int) = some (b2i (okGo C set d n (kFa C))) := by
  have n12 := g.2.1
  have fa := kFa_le w
  obtain ⟨s1, s2, s3⟩ := g.2.2 d hd
  obtain ⟨p, hp⟩ : ∃ p : Nat, set d = (p : Int) := ⟨(set d).toNat, by omega⟩
  have hp2 : p < 2 ^ kB C := by rw [hp] at s3; exact Int.ofNat_lt.1 s3
  have tp : (set d).toNat = p := by rw [hp, Int.toNat_natCast]
  unfold mX19_canGo
  refine WP.of (WP_bE.2 ?_)
  refine WP_cnt (kFa C) (fun f z => z = (f : Int) ∧ okGo C set d n f = true) (by unfold cFU; omega) ⟨rfl, rfl⟩ (fun f z hf hI => ?_) (fun z hI => ?_)
  · obtain ⟨b1, b2⟩ := hI
    subst b1
    have st : okGo C set d n (f + 1) = !(kShow C f p && !anyX C set f (d : Int) n) := by
      show (okGo C set d n f && !(kShow C f (set d).toNat && !anyX C set f (d : Int) n)) = _
      rw [b2, tp, Bool.true_and]
    unfold mX19_canGo_L2
    rw [w32_id (by omega), w32_id (by omega), if_pos (by omega), h.1, gk_chip hk, rdI_e (by omega), Int.toNat_natCast, s1, hp, k_rowShows hk w h hf hp2, bX_some, w32_b2i]
    cases e : kShow C f p with
    | false =>
      rw [e] at st
      rw [if_neg (by decide), bX_some, if_neg (by decide)]
      exact WP_some.2 ⟨by show (f : Int) + 1 = _; omega, st⟩
    | true =>
      rw [e] at st
      rw [if_pos (by decide), k_isShown hk w (by omega) h g hf, bX_some, w32_b2i]
      cases e2 : anyX C set f (d : Int) n with
      | true =>
        rw [e2] at st
        rw [if_neg (by decide), bX_some, if_neg (by decide)]
        exact WP_some.2 ⟨by show (f : Int) + 1 = _; omega, st⟩
      | false =>
        rw [e2] at st
        rw [if_pos (by decide), bX_some, if_pos rfl]
        refine WP_some.2 ?_
        show (0 : Int) = _
        rw [okGo_down (show f + 1 ≤ kFa C by omega) st]; rfl
  · obtain ⟨b1, b2⟩ := hI
    subst b1
    unfold mX19_canGo_L2
    rw [w32_id (by omega), if_neg (by omega)]
    refine WP_some.2 (WP_some.2 ?_)
    rw [b2]; rfl
theorem m_canGo (r : RefK S k C) (w : WFC C) (hk : k < 4) {set : Nat → Int} {n d : Nat} (h : MSet S k C set n) (hd : d < n) : lpF (mX23_tests_L99 ((d : Int), S) (k : Int)) (1, 0) = some (b2i (okGo C set d n (kFa C))) := by
  have n12 := h.2.1
  have fa := kFa_le w
  refine WP.of ?_
  refine WP_cnt (kFa C) (fun f z => z.2 = (f : Int) ∧ z.1 = b2i (okGo C set d n f)) (by unfold cFU; omega) ⟨rfl, rfl⟩ (fun f z hf hI => ?_) (fun z hI => ?_)
  · obtain ⟨b1, b2⟩ := hI
    unfold mX23_tests_L99
    dsimp only
    rw [m_faultCount r w hk, bX_some, b1, b2, w32_id (by omega), w32_id (by omega), if_pos (by omega), w32_b2i]
    cases e0 : okGo C set d n f with
    | false =>
      rw [if_neg (by decide), bX_some, if_neg (by decide)]
      refine WP_some.2 ?_
      show b2i false = _
      rw [okGo_down (show f ≤ kFa C by omega) e0]
    | true =>
      have st : okGo C set d n (f + 1) = !(kShow C f (set d).toNat && !anyX C set f (d : Int) n) := by
        show (okGo C set d n f && !(kShow C f (set d).toNat && !anyX C set f (d : Int) n)) = _
        rw [e0, Bool.true_and]
      have c1 := cntS_1 (C := C) (set := set) (f := f) (n := n) (d := d)
      have cl := cntS_le (C := C) (set := set) (f := f) (n := n)
      rw [if_pos (by decide), bX_some, if_pos rfl, m_isShown w hk h hd hf, bX_some, w32_b2i]
      cases e : kShow C f (set d).toNat with
      | false =>
        rw [e] at st
        rw [if_neg (by decide), bX_some, if_pos rfl, bX_some]
        exact WP_some.2 ⟨by show (f : Int) + 1 = _; omega, by rw [st]; rfl⟩
      | true =>
        rw [e] at st
        rw [if_pos ⟨hd, e⟩] at c1
        rw [if_pos (by decide), m_manyShow w hk h hf, bX_some, w32_id (by omega)]
        cases e2 : anyX C set f (d : Int) n with
        | false =>
          have c2 := c1.2 e2
          rw [e2] at st
          rw [if_neg (by omega), bX_some, if_neg (by decide), bX_some]
          exact WP_some.2 ⟨by show (f : Int) + 1 = _; omega, by rw [st]; rfl⟩
        | true =>
          have c2 : cntS C set f n ≠ 1 := fun g => by rw [c1.1 g] at e2; exact absurd e2 (by decide)
          have c3 : cntS C set f n ≠ 0 := fun g => by
            have ge := cntS_ge (C := C) (set := set) (f := f) hd e
            omega
          rw [e2] at st
          rw [if_pos (by omega), bX_some, if_pos rfl, bX_some]
          exact WP_some.2 ⟨by show (f : Int) + 1 = _; omega, by rw [st]; rfl⟩
  · obtain ⟨b1, b2⟩ := hI
    unfold mX23_tests_L99
    dsimp only
    rw [m_faultCount r w hk, bX_some, b1, w32_id (by omega), if_neg (by omega), bX_some, if_neg (by decide)]
    exact WP_some.2 b2
end CANGO
