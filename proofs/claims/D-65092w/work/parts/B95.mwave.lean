/-! waves: the reference -/
def MWs (S : Sto) (C : Chp) (a b n : Nat) (l : List Int) : Prop :=
  (∀ m, m < n → (gI S 2169 m) = (kWo C a b m : Int) ∧ (gI S 2169 (m + 1)) = (kWo C a b (m + 1) : Int)) ∧
  (gI S 2000 214) = (l.length : Int) ∧ TmF S 2168 l
def MWc (S : Sto) (k : Nat) (C : Chp) (a : Nat) : Prop := RefK S k C ∧ (∀ m, m < kN C → (gI S 2167 m) = b2i (kVal C a m)) ∧ (∀ m, m < kN C → (gI S 2153 m) = kTime C m)
/-- pointers, and how inputs stand -/
def MAt (S : Sto) (C : Chp) (a b g : Nat) (x : Nat → Nat) : Prop := ∀ j, j < kAr C g → (gI S 2170 j) = ((kWo C a b (kP C g j) + x j : Nat) : Int) ∧ (gI S 2171 j) = b2i (kVal C a (kP C g j) ^^ decide (x j % 2 = 1)) ∧ x j ≤ (kWv C a b (kP C g j)).length
section MWAVE
variable {S : Sto} {k : Nat} {C : Chp} {a b : Nat}
theorem MWc.ch {S' : Sto} (h : MWc S k C a) (e : ∀ a i, (2105 ≤ a ∧ a ≤ 2120) ∨ a = 2167 ∨ a = 2153 → gI S' a i = gI S a i) : MWc S' k C a :=
  ⟨h.1.cg (fun a i l1 l2 => e a i (by omega)), fun m hm => (e _ _ (by omega)).trans (h.2.1 m hm), fun m hm => (e _ _ (by omega)).trans (h.2.2 m hm)⟩
theorem MWs.ch {S' : Sto} {n : Nat} {l : List Int} (h : MWs S C a b n l) (e : ∀ a i, (a = 2000 ∧ i = 214) ∨ a = 2168 ∨ a = 2169 → gI S' a i = gI S a i) : MWs S' C a b n l :=
  ⟨fun m hm => by rw [e _ _ (by omega), e _ _ (by omega)]; exact h.1 m hm, (e _ _ (by omega)).trans h.2.1, fun i t ht => (e _ _ (by omega)).trans (h.2.2 i t ht)⟩
theorem m_nop (r : RefK S k C) (w : WFC C) (hk : k < 4) {g j : Nat} (hg : g < kG C) (hj : j < kAr C g) : mX23_netOfPin S (k : Int) (g : Int) (j : Int) = some (kP C g j : Int) := by
  have hn := w.nums
  have ar := w.ar hg
  have e5 := r.2.2.1 (3 * g + j) (by omega)
  rw [(w.p hg hj).1] at e5
  have zt : (3 * (150 * (k : Int) + (g : Int)) + (j : Int)).toNat = 450 * k + (3 * g + j) := by omega
  unfold mX23_netOfPin
  rw [rdI_e (by omega), zt, e5]
theorem m_fc16 (hc : MWc S k C a) (w : WFC C) (hk : k < 4) {g : Nat} (hg : g < kG C) :
    WP (lpF (mX23_findChanges_L16 (kAr C g : Int) (k : Int) (g : Int)) (0, S)) (fun z => Ch 2170 2171 S z ∧ ∀ j, j < kAr C g → (gI z 2170 j) = (gI S 2169 (kP C g j)) ∧ (gI z 2171 j) = b2i (kVal C a (kP C g j))) := by
  have hn := w.nums
  have ar := w.ar hg
  refine WP_cnt (kAr C g) (fun i z => z.1 = (i : Int) ∧ Ch 2170 2171 S z.2 ∧ ∀ j, j < i → (gI z.2 2170 j) = (gI S 2169 (kP C g j)) ∧ (gI z.2 2171 j) = b2i (kVal C a (kP C g j))) (by unfold cFU; omega) ⟨rfl, Ch.refl, fun j h => absurd h (Nat.not_lt_zero _)⟩ (fun i z hi hI => ?_) (fun z hI => ?_)
  · obtain ⟨b1, b2, b3⟩ := hI
    have c' : MWc z.2 k C a := hc.ch (fun a i q => b2.1 a i (by omega))
    have pp := w.p hg hi
    have c'' : MWc (sI z.2 2170 i (gI z.2 2169 (kP C g i))) k C a := c'.ch (fun a j q => hI_sI_a (by omega))
    have er := c''.2.1 (kP C g i) (by omega)
    have e69 := b2.1 2169 (kP C g i) (by omega)
    have w1b : ∀ v : Bool, w1 (b2i v) = b2i v := fun v => by cases v <;> rfl
    unfold mX23_findChanges_L16
    rw [b1, w32_id (by omega), w32_id (by omega), if_pos (by omega), m_nop c'.1 w hk hg hi, bX_some, rdI_e (by omega), Int.toNat_natCast, wrI_e (by omega), Int.toNat_natCast, m_nop c''.1 w hk hg hi, bX_some, rdZ_e (by omega), Int.toNat_natCast, er, bz_b2i, w1b, wrI_e (by omega), Int.toNat_natCast]
    refine WP_some.2 ⟨by show (i : Int) + 1 = _; omega, (b2.sI (by omega)).sI (by omega), fun j hj => ?_⟩
    dsimp only
    by_cases q : j = i
    · subst q
      rw [hI_sI_a (by omega), gI_set, gI_set, w32_gI, e69, w32_b2i]; exact ⟨rfl, rfl⟩
    · rw [hI_sI_a (by omega), hI_sI_i q, hI_sI_i q, hI_sI_a (by omega)]; exact b3 j (by omega)
  · obtain ⟨b1, b2, b3⟩ := hI
    unfold mX23_findChanges_L16
    rw [b1, if_neg (by omega)]
    exact WP_some.2 ⟨b2, b3⟩
theorem m_fc103 (hc : MWc S k C a) (w : WFC C) (wp : WFP C) (hk : k < 4) {g : Nat} (hg : g < kG C) (ho : kWo C a b (kB C + g) ≤ 20000) {l e : List Int} {x : Nat → Nat} (hl : l = kFl C a b (kB C + g) ++ e) (h : MWs S C a b (kB C + g) l) (hA : MAt S C a b g x) {u1 u2 : Int} :
    WP (lpF (mX23_findChanges_L103 (kAr C g : Int) (u1, u2, S) (k : Int) (g : Int)) (1000000000, 0)) (fun z => z = if gMin (fun j => kWv C a b (kP C g j)) x (kAr C g) = 1000000 then 1000000000 else gMin (fun j => kWv C a b (kP C g j)) x (kAr C g)) := by
  have hn := w.nums
  have ar := w.ar hg
  refine WP_cnt (kAr C g) (fun i z => z.2 = (i : Int) ∧ z.1 = if gMin (fun j => kWv C a b (kP C g j)) x i = 1000000 then 1000000000 else gMin (fun j => kWv C a b (kP C g j)) x i) (by unfold cFU; omega) ⟨rfl, rfl⟩ (fun i z hi hI => ?_) (fun z hI => ?_)
  · obtain ⟨z0, z1⟩ := z
    obtain ⟨b1, b2⟩ := hI
    dsimp only at b1 b2
    subst b1
    have pp := w.p hg hi
    have fr := (h.1 _ pp.2).2
    have A := hA i hi
    have mo := kWo_mono (C := C) (a := a) (b := b) (n := kP C g i + 1) (m := kB C + g) (by omega)
    have e2 : kWo C a b (kP C g i + 1) = kWo C a b (kP C g i) + (kWv C a b (kP C g i)).length := rfl
    have zt2 : ((kP C g i : Int) + 1).toNat = kP C g i + 1 := by omega
    have em : gMin (fun j => kWv C a b (kP C g j)) x (i + 1) = (match (kWv C a b (kP C g i))[x i]? with | some t => min (gMin (fun j => kWv C a b (kP C g j)) x i) t | none => gMin (fun j => kWv C a b (kP C g j)) x i) := rfl
    have gl := gMin_le (ls := fun j => kWv C a b (kP C g j)) (at' := x) (m := i)
    have cd : (if w32 ((kWo C a b (kP C g i) + x i : Nat) : Int) < w32 (kWo C a b (kP C g i + 1) : Int) then (1 : Int) else 0) = if x i < (kWv C a b (kP C g i)).length then 1 else 0 := by
      rw [w32_id (by omega), w32_id (by omega)]
      by_cases q : x i < (kWv C a b (kP C g i)).length
      · rw [if_pos q, if_pos (by omega)]
      · rw [if_neg q, if_neg (by omega)]
    unfold mX23_findChanges_L103
    dsimp only
    rw [w32_id (show -2147483648 ≤ (i : Int) ∧ _ by omega), w32_id (show -2147483648 ≤ (kAr C g : Int) ∧ _ by omega), if_pos (by omega), rdI_e (by omega), Int.toNat_natCast, A.1, m_nop hc.1 w hk hg hi, bX_some, rdI_e (by omega), zt2, fr, cd]
    by_cases q : x i < (kWv C a b (kP C g i)).length
    · have ra := row_at w hg hi h.2.2 hl q
      have rr := (kWv_rise' (a := a) (b := b) w wp (n := kP C g i) (by omega)).1 _ _ ra
      rw [ra] at em
      have em : gMin (fun j => kWv C a b (kP C g j)) x (i + 1) = min (gMin (fun j => kWv C a b (kP C g j)) x i) (gI S 2168 (kWo C a b (kP C g i) + x i)) := em
      have mf := min_facts (gMin (fun j => kWv C a b (kP C g j)) x i) (gI S 2168 (kWo C a b (kP C g i) + x i))
      have z0r : -2147483648 ≤ z0 ∧ z0 < 2147483648 ∧ (z0 = gMin (fun j => kWv C a b (kP C g j)) x i ∨ (gMin (fun j => kWv C a b (kP C g j)) x i = 1000000 ∧ z0 = 1000000000)) := by
        rw [b2]
        by_cases z : gMin (fun j => kWv C a b (kP C g j)) x i = 1000000
        · rw [if_pos z]; exact ⟨by omega, by omega, .inr ⟨z, rfl⟩⟩
        · rw [if_neg z]
          obtain ⟨j, hj, e⟩ := gMin_some z
          have := (kWv_rise' (a := a) (b := b) w wp (n := kP C g j) (by have := (w.p hg (k := j) (by omega)).2; omega)).1 _ _ e
          exact ⟨by omega, by omega, .inl rfl⟩
      rw [if_pos q, if_pos (by decide), rdI_e (by omega), Int.toNat_natCast, A.1, rdI_e (by omega), Int.toNat_natCast, w32_id (by omega), w32_id (by omega)]
      by_cases y : gI S 2168 (kWo C a b (kP C g i) + x i) < z0
      · rw [if_pos y, bX_some, if_pos rfl, rdI_e (by omega), Int.toNat_natCast, A.1, rdI_e (by omega), Int.toNat_natCast, bX_some]
        refine WP_some.2 ⟨by show (i : Int) + 1 = _; omega, ?_⟩
        dsimp only
        rw [em, if_neg (by omega)]; omega
      · rw [if_neg y, bX_some, if_neg (by decide), bX_some]
        refine WP_some.2 ⟨by show (i : Int) + 1 = _; omega, ?_⟩
        dsimp only
        rw [em, if_neg (by omega)]; omega
    · have rn : (kWv C a b (kP C g i))[x i]? = none := List.getElem?_eq_none (by omega)
      rw [rn] at em
      have em : gMin (fun j => kWv C a b (kP C g j)) x (i + 1) = gMin (fun j => kWv C a b (kP C g j)) x i := em
      rw [if_neg q, if_neg (by decide), bX_some, if_neg (by decide), bX_some]
      exact WP_some.2 ⟨by show (i : Int) + 1 = _; omega, by rw [em]; exact b2⟩
  · obtain ⟨b1, b2⟩ := hI
    unfold mX23_findChanges_L103
    rw [b1, if_neg (by omega)]
    exact WP_some.2 b2
theorem m_fc207 (hc : MWc S k C a) (w : WFC C) (wp : WFP C) (hk : k < 4) {g : Nat} (hg : g < kG C) (ho : kWo C a b (kB C + g) ≤ 20000) {l e : List Int} {x : Nat → Nat} (hl : l = kFl C a b (kB C + g) ++ e) (h : MWs S C a b (kB C + g) l) (hA : MAt S C a b g x) {t : Int} (ht : 0 ≤ t ∧ t < 1000000) :
    WP (lpF (mX23_findChanges_L207 (kAr C g : Int) t (k : Int) (g : Int)) (0, S)) (fun z => Ch 2170 2171 S z ∧ MAt z C a b g (gAdv (fun j => kWv C a b (kP C g j)) x t)) := by
  have hn := w.nums
  have ar := w.ar hg
  refine WP_cnt (kAr C g) (fun i z => z.1 = (i : Int) ∧ MAt z.2 C a b g (fun j => if j < i then gAdv (fun j => kWv C a b (kP C g j)) x t j else x j) ∧ Ch 2170 2171 S z.2) (by unfold cFU; omega) ⟨rfl, hA, Ch.refl⟩ (fun i z hi hI => ?_) (fun z hI => ?_)
  · obtain ⟨z1, z2⟩ := z
    obtain ⟨b1, b3, b4⟩ := hI
    dsimp only at b1 b3 b4
    subst b1
    have c' : MWc z2 k C a := hc.ch (fun a i q => b4.1 a i (by omega))
    have pp := w.p hg hi
    have fr := (b4.1 2169 (kP C g i + 1) (by omega)).trans (h.1 _ pp.2).2
    have A := b3 i hi
    simp only [Nat.lt_irrefl, if_false] at A
    have mo := kWo_mono (C := C) (a := a) (b := b) (n := kP C g i + 1) (m := kB C + g) (by omega)
    have e2 : kWo C a b (kP C g i + 1) = kWo C a b (kP C g i) + (kWv C a b (kP C g i)).length := rfl
    have zt2 : ((kP C g i : Int) + 1).toNat = kP C g i + 1 := by omega
    have same : (kWv C a b (kP C g i))[x i]? ≠ some t → ∀ j, (if j < i + 1 then gAdv (fun j => kWv C a b (kP C g j)) x t j else x j) = (if j < i then gAdv (fun j => kWv C a b (kP C g j)) x t j else x j) := fun g' j => by
      by_cases z : j = i
      · subst z
        have : gAdv (fun j => kWv C a b (kP C g j)) x t j = x j := if_neg g'
        rw [if_pos (by omega), if_neg (by omega), this]
      · by_cases y : j < i
        · rw [if_pos (by omega), if_pos y]
        · rw [if_neg (by omega), if_neg y]
    have keep : (kWv C a b (kP C g i))[x i]? ≠ some t → WP (some (Sum.inl ((i : Int) + 1, z2)) : Option ((Int × Sto) ⊕ (Sto))) (WE (fun z => z.1 = ((i + 1 : Nat) : Int) ∧ MAt z.2 C a b g (fun j => if j < i + 1 then gAdv (fun j => kWv C a b (kP C g j)) x t j else x j) ∧ Ch 2170 2171 S z.2) (fun z => Ch 2170 2171 S z ∧ MAt z C a b g (gAdv (fun j => kWv C a b (kP C g j)) x t))) := fun g' => by
      rw [funext (same g')]
      exact WP_some.2 ⟨by show (i : Int) + 1 = _; omega, b3, b4⟩
    unfold mX23_findChanges_L207
    dsimp only
    rw [w32_id (show -2147483648 ≤ (i : Int) ∧ _ by omega), w32_id (show -2147483648 ≤ (kAr C g : Int) ∧ _ by omega), if_pos (by omega), w32_id (show -2147483648 ≤ t ∧ _ by omega), if_pos (show t < 1000000000 by omega), if_pos (by decide), bX_some, if_pos rfl, rdI_e (by omega), Int.toNat_natCast, A.1, m_nop c'.1 w hk hg hi, bX_some, rdI_e (by omega), zt2, fr, w32_id (by omega), w32_id (by omega)]
    by_cases z : x i < (kWv C a b (kP C g i)).length
    · have ra := row_at w hg hi h.2.2 hl z
      have e62 := b4.1 2168 (kWo C a b (kP C g i) + x i) (by omega)
      rw [if_pos (by omega), rdI_e (by omega), Int.toNat_natCast, A.1, rdI_e (by omega), Int.toNat_natCast, e62, w32_gI]
      by_cases y : gI S 2168 (kWo C a b (kP C g i) + x i) = t
      · have yy : (kWv C a b (kP C g i))[x i]? = some t := by rw [ra, y]
        have adv : gAdv (fun j => kWv C a b (kP C g j)) x t i = x i + 1 := if_pos yy
        rw [if_pos y, bX_some, if_pos rfl, rdI_e (by omega), Int.toNat_natCast, A.1, wrI_e (by omega), Int.toNat_natCast, rdZ_e (by omega), Int.toNat_natCast, hI_sI_a (by omega), A.2.1, bz_b2i, w32_b2i, wrI_e (by omega), Int.toNat_natCast, bX_some]
        refine WP_some.2 ⟨by show (i : Int) + 1 = _; omega, fun j hj => ?_, (b4.sI (by omega)).sI (by omega)⟩
        have old := b3 j hj
        dsimp only at old ⊢
        by_cases v : j = i
        · subst v
          rw [hI_sI_a (by omega), gI_set, gI_set, w32_id (by omega)]
          simp only [if_pos (show j < j + 1 by omega), adv]
          have par : decide ((x j + 1) % 2 = 1) = !decide (x j % 2 = 1) := by
            by_cases o : x j % 2 = 1
            · rw [decide_eq_true o, decide_eq_false (by omega)]; rfl
            · rw [decide_eq_false o, decide_eq_true (by omega)]; rfl
          refine ⟨by omega, ?_, by omega⟩
          rw [par]
          cases kVal C a (kP C g j) <;> cases decide (x j % 2 = 1) <;> rfl
        · rw [hI_sI_a (by omega), hI_sI_i v, hI_sI_i v, hI_sI_a (by omega)]
          by_cases o : j < i
          · simp only [if_pos o] at old; simp only [if_pos (show j < i + 1 by omega)]; exact old
          · simp only [if_neg o] at old; simp only [if_neg (show ¬ j < i + 1 by omega)]; exact old
      · rw [if_neg y, bX_some, if_neg (by decide), bX_some]
        exact keep (fun g' => by rw [ra] at g'; exact y (Option.some.inj g'))
    · have rn : (kWv C a b (kP C g i))[x i]? = none := List.getElem?_eq_none (by omega)
      rw [if_neg (by omega), bX_some, if_neg (by decide), bX_some]
      exact keep (by rw [rn]; exact fun g => (nomatch g))
  · obtain ⟨b1, b3, b4⟩ := hI
    unfold mX23_findChanges_L207
    rw [b1, if_neg (by omega), bX_some, if_neg (by decide)]
    refine WP_some.2 ⟨b4, fun j hj => ?_⟩
    have := b3 j hj
    simp only [if_pos hj] at this
    exact this
theorem m_told (hc : MWc S k C a) (w : WFC C) (hk : k < 4) {g : Nat} (hg : g < kG C) {x : Nat → Nat} (hA : MAt S C a b g x) : mX23_toldNow S (k : Int) (g : Int) = some (b2i (wgVal (kFn C g) (fun j => kVal C a (kP C g j)) x (kAr C g))) := by
  have hn := w.nums
  have ar := w.ar hg
  have ci := w.c hg
  have li := w.li ci.2
  have lf := w.lf ci.2
  have co := m_cellOf hc.1 w hk (p := (g : Int)) (by omega)
  rw [Int.toNat_natCast] at co
  have i9 := (hc.1.2.2.2.2.2 (kC C g) ci.2).1
  rw [li.1] at i9
  have i10 := (hc.1.2.2.2.2.2 (kC C g) ci.2).2.1
  rw [lf.1] at i10
  have p8 : 2 ^ kAr C g ≤ 8 := Nat.pow_le_pow_right (n := 2) (by omega) ar.2
  have key : WP (lpF (mX23_toldNow_L5 S (k : Int) (g : Int)) (0, 0)) (fun z => z = ((wvS (fun j => kVal C a (kP C g j)) x (kAr C g) : Nat) : Int)) := by
    refine WP_cnt (kAr C g) (fun i z => z = (((wvS (fun j => kVal C a (kP C g j)) x i : Nat) : Int), (i : Int))) (by unfold cFU; omega) rfl (fun i z hi hI => ?_) (fun z hI => ?_)
    · subst hI
      have hi' : i < kLi C (kC C g) := hi
      unfold mX23_toldNow_L5
      dsimp only
      rw [co, bX_some, rdI_e (by omega), Int.toNat_natCast, i9, w32_id (by omega), w32_id (by omega), if_pos (by omega), rdZ_e (by omega), Int.toNat_natCast, (hA i hi).2.1, bz_b2i, w32_b2i]
      refine WP_some.2 ?_
      have e : (if ¬ b2i (kVal C a (kP C g i) ^^ decide (x i % 2 = 1)) = 0 then aShl 1 (i : Int) else 0) = if (kVal C a (kP C g i) ^^ decide (x i % 2 = 1)) = true then aShl 1 (i : Int) else 0 := by
        cases kVal C a (kP C g i) <;> cases decide (x i % 2 = 1) <;> rfl
      show (aOr _ _, _) = _
      rw [e]
      have := aOr_bits' (n := i) (f := fun j => (kVal C a (kP C g j) ^^ decide (x j % 2 = 1))) rfl (by omega)
      unfold wvS
      rw [this]; rfl
    · subst hI
      unfold mX23_toldNow_L5
      dsimp only
      have hi' : ¬ (kAr C g : Int) < (kLi C (kC C g) : Int) := by have : kAr C g = kLi C (kC C g) := rfl; omega
      rw [co, bX_some, rdI_e (by omega), Int.toNat_natCast, i9, w32_id (by omega), w32_id (by omega), if_neg hi']
      exact WP_some.2 rfl
  have lt := wvS_lt (ini := fun j => kVal C a (kP C g j)) (x := x) (m := kAr C g)
  unfold mX23_toldNow
  rw [key.of, bX_some, co, bX_some, rdI_e (by omega), Int.toNat_natCast, i10, aBit (by omega) (by omega), w32_b2i]
  unfold wgVal kFn
  cases (kLf C (kC C g)).testBit (wvS (fun j => kVal C a (kP C g j)) x (kAr C g)) <;> rfl
end MWAVE
