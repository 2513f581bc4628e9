/-! what the class finds: counts -/
noncomputable def bo (p : Prop) : Nat := @ite Nat p (Classical.propDecidable p) 1 0
theorem bo_t {p : Prop} (h : p) : bo p = 1 := if_pos h
theorem bo_f {p : Prop} (h : ¬ p) : bo p = 0 := if_neg h
theorem bo_cg {p q : Prop} (h : p ↔ q) : bo p = bo q := by rw [propext h]
theorem bo_le {p : Prop} : bo p ≤ 1 := by
  by_cases h : p
  · rw [bo_t h]; omega
  · rw [bo_f h]; omega
def smN (f : Nat → Nat) : Nat → Nat
  | 0 => 0
  | n + 1 => smN f n + f n
theorem smN_cg {f g : Nat → Nat} {n : Nat} (h : ∀ x, x < n → f x = g x) : smN f n = smN g n := by
  induction n with
  | zero => rfl
  | succ n ih => show smN f n + f n = smN g n + g n; rw [ih (fun x hx => h x (by omega)), h n (by omega)]
theorem smN_le {f : Nat → Nat} {n b : Nat} (h : ∀ x, x < n → f x ≤ b) : smN f n ≤ n * b := by
  induction n with
  | zero => show 0 ≤ _; omega
  | succ n ih =>
    have := ih (fun x hx => h x (by omega))
    have := h n (by omega)
    show smN f n + f n ≤ _
    rw [Nat.succ_mul]; omega
theorem smN_0 {f : Nat → Nat} {n : Nat} (h : ∀ x, x < n → f x = 0) : smN f n = 0 := by
  have := smN_le (f := f) (n := n) (b := 0) (fun x hx => by rw [h x hx]; omega)
  omega
/-- the sum grows where one of its terms does -/
theorem smN_up {f g : Nat → Nat} {n a d : Nat} (ha : a < n) (h1 : g a = f a + d) (h2 : ∀ x, x < n → x ≠ a → g x = f x) : smN g n = smN f n + d := by
  induction n with
  | zero => omega
  | succ n ih =>
    show smN g n + g n = smN f n + f n + d
    by_cases q : a = n
    · subst q
      rw [h1, smN_cg (fun x hx => h2 x (by omega) (by omega))]; omega
    · rw [ih (by omega) (fun x hx => h2 x (by omega)), h2 n (by omega) (by omega)]; omega
theorem smN_tail {f : Nat → Nat} {m n : Nat} (h : m ≤ n) (h0 : ∀ x, m ≤ x → x < n → f x = 0) : smN f n = smN f m := by
  induction n with
  | zero => rw [show m = 0 by omega]
  | succ n ih =>
    by_cases q : m = n + 1
    · rw [q]
    · show smN f n + f n = _
      rw [ih (by omega) (fun x h1 h2 => h0 x h1 (by omega)), h0 n (by omega) (by omega)]; rfl
/-- nets that hang together though they must not; nets that do not though they must -/
def tJ (C : Chp) (pt : Nat → Nat) (a b : Nat) : Prop := ∃ i j, i < kPn C ∧ j < kPn C ∧ (kPf C i).1 = a ∧ (kPf C j).1 = b ∧ pt i = pt j
def tS (C : Chp) (pt : Nat → Nat) (a b : Nat) : Prop := a < b ∧ tJ C pt a b
def tO (C : Chp) (pt : Nat → Nat) (a : Nat) : Prop := ∃ i j, i < kPn C ∧ j < kPn C ∧ (kPf C i).1 = a ∧ (kPf C j).1 = a ∧ pt i ≠ pt j
noncomputable def nS2 (C : Chp) (pt : Nat → Nat) : Nat := smN (fun a => smN (fun b => bo (tS C pt a b)) (kN C)) (kN C)
noncomputable def nO2 (C : Chp) (pt : Nat → Nat) : Nat := smN (fun a => bo (tO C pt a)) (kN C)
section KFOUND
variable {S : Sto} {k : Nat} {C : Chp} {pt : Nat → Nat}
def KPt (S : Sto) (C : Chp) (pt : Nat → Nat) : Prop := ∀ p, p < kPn C → gI S 243 p = (pt p : Int) ∧ pt p < 2640
theorem k_share26 (hP : kPn C ≤ 640) (h : KPins S C (kPins C)) (ht : KPt S C pt) {i b : Nat} (hi : i < kPn C) :
    WP (lpF (mX16_share_L26 S (i : Int)) (pPrev (kPf C) b (kPn C))) (WE (fun _ => ¬ ∃ j, j < kPn C ∧ (kPf C j).1 = b ∧ pt i = pt j) (fun r => r = .inr (.inr 1) ∧ ∃ j, j < kPn C ∧ (kPf C j).1 = b ∧ pt i = pt j)) := by
  have pr0 := pPrev_rng (f := kPf C) (n := b) (m := kPn C)
  refine WP_lpF (fun z => ∃ m, m ≤ kPn C ∧ z = pPrev (kPf C) b m ∧ ∀ j, m ≤ j → j < kPn C → (kPf C j).1 = b → pt i ≠ pt j) (fun z => (z + 1).toNat) ⟨kPn C, Nat.le_refl _, rfl, fun j h1 h2 => by omega⟩ (by unfold cFU; show (pPrev (kPf C) b (kPn C) + 1).toNat < _; omega) (fun z hI => ?_)
  obtain ⟨m, b1, b2, b3⟩ := hI
  have pr := pPrev_rng (f := kPf C) (n := b) (m := m)
  rw [← b2] at pr
  unfold mX16_share_L26
  rw [w32_id (by omega)]
  by_cases q : z = -1
  · rw [if_neg (fun g => g q)]
    refine WP_some.2 ?_
    rintro ⟨j, j1, j2, j3⟩
    by_cases l : j < m
    · exact pPrev_no (p := j) (by rw [← b2]; omega) l j2
    · exact b3 j (by omega) j1 j2 j3
  · obtain ⟨y, rfl⟩ : ∃ y : Nat, z = (y : Int) := ⟨z.toNat, by omega⟩
    have nt : (kPf C y).1 = b := by have := pPrev_net (f := kPf C) (n := b) (m := m) (by rw [← b2]; exact q); rw [← b2, Int.toNat_natCast] at this; exact this
    have hy : y < kPn C := by omega
    have t1 := ht i hi
    have t2 := ht y hy
    have nx : gI S 225 y = pPrev (kPf C) b y := by have := (h.2.1 y hy).2.2.2; rw [← nt]; exact this
    rw [if_pos q, rdI_e (by omega), Int.toNat_natCast, t1.1, rdI_e (by omega), Int.toNat_natCast, t2.1, w32_id (by omega), w32_id (by omega)]
    by_cases e : pt i = pt y
    · rw [if_pos (by omega)]
      exact WP_some.2 ⟨rfl, y, hy, nt, e⟩
    · rw [if_neg (by omega), rdI_e (by omega), Int.toNat_natCast, nx]
      have pr2 := pPrev_rng (f := kPf C) (n := b) (m := y)
      refine WP_some.2 ⟨⟨y, by omega, rfl, fun j h1 h2 h3 => ?_⟩, ?_⟩
      · by_cases l : j = y
        · rw [l]; exact e
        · by_cases l2 : j < m
          · exact absurd h3 (pPrev_no (p := j) (by rw [← b2]; omega) l2)
          · exact b3 j (by omega) h2 h3
      · show (pPrev (kPf C) b y + 1).toNat < ((y : Int) + 1).toNat
        omega
theorem k_share10 (hP : kPn C ≤ 640) (h : KPins S C (kPins C)) (ht : KPt S C pt) {a b : Nat} (hN : kN C ≤ 162) (hb : b < kN C) :
    WP (lpF (mX16_share_L10 S (b : Int)) (pPrev (kPf C) a (kPn C))) (WE (fun _ => ¬ tJ C pt a b) (fun r => r = 1 ∧ tJ C pt a b)) := by
  have pr0 := pPrev_rng (f := kPf C) (n := a) (m := kPn C)
  refine WP_lpF (fun z => ∃ m, m ≤ kPn C ∧ z = pPrev (kPf C) a m ∧ ∀ i j, m ≤ i → i < kPn C → (kPf C i).1 = a → j < kPn C → (kPf C j).1 = b → pt i ≠ pt j) (fun z => (z + 1).toNat) ⟨kPn C, Nat.le_refl _, rfl, fun i j h1 h2 => by omega⟩ (by unfold cFU; show (pPrev (kPf C) a (kPn C) + 1).toNat < _; omega) (fun z hI => ?_)
  obtain ⟨m, b1, b2, b3⟩ := hI
  have pr := pPrev_rng (f := kPf C) (n := a) (m := m)
  rw [← b2] at pr
  unfold mX16_share_L10
  rw [w32_id (by omega)]
  by_cases q : z = -1
  · rw [if_neg (fun g => g q)]
    refine WP_some.2 ?_
    rintro ⟨i, j, i1, j1, i2, j2, e⟩
    by_cases l : i < m
    · exact pPrev_no (p := i) (by rw [← b2]; omega) l i2
    · exact b3 i j (by omega) i1 i2 j1 j2 e
  · obtain ⟨y, rfl⟩ : ∃ y : Nat, z = (y : Int) := ⟨z.toNat, by omega⟩
    have nt : (kPf C y).1 = a := by have := pPrev_net (f := kPf C) (n := a) (m := m) (by rw [← b2]; exact q); rw [← b2, Int.toNat_natCast] at this; exact this
    have hy : y < kPn C := by omega
    have nx : gI S 225 y = pPrev (kPf C) a y := by have := (h.2.1 y hy).2.2.2; rw [← nt]; exact this
    have fs : gI S 224 b = pPrev (kPf C) b (kPn C) := (h.2.2 b hb).1
    rw [if_pos q, rdI_e (by omega), Int.toNat_natCast, fs]
    refine WP_bE.2 ((k_share26 hP h ht hy).mono (fun r hr => ?_))
    cases r with
    | inl u =>
      have hr : ¬ ∃ j, j < kPn C ∧ (kPf C j).1 = b ∧ pt y = pt j := hr
      show WP (rdI 640 S 225 (y : Int) fun v9 => some (Sum.inl v9)) _
      rw [rdI_e (by omega), Int.toNat_natCast, nx]
      have pr2 := pPrev_rng (f := kPf C) (n := a) (m := y)
      refine WP_some.2 ⟨⟨y, by omega, rfl, fun i j h1 h2 h3 h4 h5 h6 => ?_⟩, ?_⟩
      · by_cases l : i = y
        · subst l; exact hr ⟨j, h4, h5, h6⟩
        · by_cases l2 : i < m
          · exact absurd h3 (pPrev_no (p := i) (by rw [← b2]; omega) l2)
          · exact b3 i j (by omega) h2 h3 h4 h5 h6
      · show (pPrev (kPf C) a y + 1).toNat < ((y : Int) + 1).toNat
        omega
    | inr u =>
      obtain ⟨e, j, j1, j2, j3⟩ := hr
      subst e
      exact ⟨rfl, y, j, hy, j1, nt, j2, j3⟩
theorem k_share (hP : kPn C ≤ 640) (h : KPins S C (kPins C)) (ht : KPt S C pt) {a b : Nat} (hN : kN C ≤ 162) (ha : a < kN C) (hb : b < kN C) : WP (mX16_share S (a : Int) (b : Int)) (fun x => x = (bo (tJ C pt a b) : Int)) := by
  have fs : gI S 224 a = pPrev (kPf C) a (kPn C) := (h.2.2 a ha).1
  unfold mX16_share
  rw [rdI_e (by omega), Int.toNat_natCast, fs]
  refine WP_bE.2 ((k_share10 hP h ht hN hb).mono (fun r hr => ?_))
  cases r with
  | inl u =>
    have hr : ¬ tJ C pt a b := hr
    refine WP_some.2 ?_
    rw [bo_f hr]; rfl
  | inr u =>
    obtain ⟨e, j⟩ := hr
    show u = _
    rw [bo_t j, e]; rfl
theorem k_shorts19 (r : RepK S (344 + 22 * k) C) (w : WFC C) (hg : gR S 240 1 = 344 + 22 * k) (hk : k < 4) (hP : kPn C ≤ 640) (h : KPins S C (kPins C)) (ht : KPt S C pt) (hN : kN C ≤ 162) {a c : Nat} (ha : a < kN C) (hc : c ≤ 100000) :
    WP (lpF (mX16_shorts_L19 S ((c : Int), (a : Int))) ((c : Int), (a : Int) + 1)) (fun z => z = ((c + smN (fun b => bo (tS C pt a b)) (kN C) : Nat) : Int)) := by
  have b0 : smN (fun b => bo (tS C pt a b)) (a + 1) = 0 := smN_0 (fun x hx => bo_f (fun g => by have := g.1; omega))
  refine WP_cnt (kN C - (a + 1)) (fun i z => z.2 = ((a + 1 + i : Nat) : Int) ∧ z.1 = ((c + smN (fun b => bo (tS C pt a b)) (a + 1 + i) : Nat) : Int)) (by unfold cFU; omega) ⟨by show (a : Int) + 1 = _; omega, by show (c : Int) = _; rw [Nat.add_zero, b0]; rfl⟩ (fun i z hi hI => ?_) (fun z hI => ?_)
  · obtain ⟨z1, z2⟩ := z
    obtain ⟨b1, b2⟩ := hI
    dsimp only at b1 b2
    subst b1 b2
    unfold mX16_shorts_L19
    dsimp only
    rw [hg, gk_chip hk, k_nets r w, bX_some, w32_id (by omega), w32_id (by omega), if_pos (by omega)]
    refine WP_call (k_share hP h ht hN ha (show a + 1 + i < kN C by omega)) (fun x hx => WP_some.2 ?_)
    subst hx
    refine ⟨by show ((a + 1 + i : Nat) : Int) + 1 = _; omega, ?_⟩
    have e : bo (tS C pt a (a + 1 + i)) = bo (tJ C pt a (a + 1 + i)) := bo_cg ⟨fun g => g.2, fun g => ⟨by omega, g⟩⟩
    have l := bo_le (p := tJ C pt a (a + 1 + i))
    show _ = ((c + (smN (fun b => bo (tS C pt a b)) (a + 1 + i) + bo (tS C pt a (a + 1 + i))) : Nat) : Int)
    rw [e]
    dsimp only
    rw [w32_id (by omega)]
    split <;> omega
  · obtain ⟨z1, z2⟩ := z
    obtain ⟨b1, b2⟩ := hI
    dsimp only at b1 b2
    subst b1 b2
    unfold mX16_shorts_L19
    dsimp only
    rw [hg, gk_chip hk, k_nets r w, bX_some, w32_id (by omega), w32_id (by omega), if_neg (by omega), show a + 1 + (kN C - (a + 1)) = kN C by omega]
    exact WP_some.2 rfl
theorem k_shorts (r : RepK S (344 + 22 * k) C) (w : WFC C) (hg : gR S 240 1 = 344 + 22 * k) (hk : k < 4) (hP : kPn C ≤ 640) (h : KPins S C (kPins C)) (ht : KPt S C pt) (hN : kN C ≤ 162) :
    WP (mX16_shorts S) (fun z => z = (nS2 C pt : Int)) := by
  unfold mX16_shorts
  refine WP_call (R := fun z => z = (nS2 C pt : Int)) ?_ (fun z hz => WP_some.2 hz)
  have bd : ∀ a, smN (fun b => bo (tS C pt a b)) (kN C) ≤ 162 := fun a => by
    have := smN_le (f := fun b => bo (tS C pt a b)) (n := kN C) (b := 1) (fun x _ => bo_le)
    omega
  have bd2 : ∀ i, i ≤ 162 → smN (fun a => smN (fun b => bo (tS C pt a b)) (kN C)) i ≤ 30000 := fun i hi => by
    have := smN_le (f := fun a => smN (fun b => bo (tS C pt a b)) (kN C)) (n := i) (b := 162) (fun x _ => bd x)
    omega
  refine WP_cnt (kN C) (fun i z => z.2 = (i : Int) ∧ z.1 = (smN (fun a => smN (fun b => bo (tS C pt a b)) (kN C)) i : Int)) (by unfold cFU; omega) ⟨rfl, rfl⟩ (fun i z hi hI => ?_) (fun z hI => ?_)
  · obtain ⟨z1, z2⟩ := z
    obtain ⟨b1, b2⟩ := hI
    dsimp only at b1 b2
    subst b1 b2
    have := bd2 i (by omega)
    unfold mX16_shorts_L4
    dsimp only
    rw [hg, gk_chip hk, k_nets r w, bX_some, w32_id (by omega), w32_id (by omega), if_pos (by omega)]
    refine WP_call (k_shorts19 r w hg hk hP h ht hN hi (by omega)) (fun x hx => WP_some.2 ?_)
    subst hx
    exact ⟨by show (i : Int) + 1 = _; omega, rfl⟩
  · obtain ⟨z1, z2⟩ := z
    obtain ⟨b1, b2⟩ := hI
    dsimp only at b1 b2
    subst b1 b2
    unfold mX16_shorts_L4
    dsimp only
    rw [hg, gk_chip hk, k_nets r w, bX_some, w32_id (by omega), if_neg (by omega)]
    exact WP_some.2 rfl
theorem k_opens28 (hP : kPn C ≤ 640) (h : KPins S C (kPins C)) (ht : KPt S C pt) {a c : Nat} (hN : kN C ≤ 162) (ha : a < kN C) :
    WP (lpF (mX16_opens_L28 S ((c : Int), (a : Int))) (0, pPrev (kPf C) a (kPn C))) (fun z => z = (bo (tO C pt a) : Int)) := by
  have pr0 := pPrev_rng (f := kPf C) (n := a) (m := kPn C)
  have fs : gI S 224 a = pPrev (kPf C) a (kPn C) := (h.2.2 a ha).1
  refine WP_lpF (fun z => ∃ m, m ≤ kPn C ∧ z.2 = pPrev (kPf C) a m ∧ (z.1 = 0 ∨ z.1 = 1) ∧ (z.1 = 1 ↔ ∃ j, m ≤ j ∧ j < kPn C ∧ (kPf C j).1 = a ∧ pt j ≠ pt (pPrev (kPf C) a (kPn C)).toNat)) (fun z => (z.2 + 1).toNat) ⟨kPn C, Nat.le_refl _, rfl, .inl rfl, ⟨fun g => absurd (show (0 : Int) = 1 from g) (by decide), fun ⟨j, h1, h2, _⟩ => by omega⟩⟩ (by unfold cFU; show (pPrev (kPf C) a (kPn C) + 1).toNat < _; omega) (fun z hI => ?_)
  obtain ⟨z1, z⟩ := z
  obtain ⟨m, b1, b2, b3, b4⟩ := hI
  dsimp only at b2 b3 b4
  have pr := pPrev_rng (f := kPf C) (n := a) (m := m)
  rw [← b2] at pr
  unfold mX16_opens_L28
  dsimp only
  rw [w32_id (by omega)]
  by_cases q : z = -1
  · rw [if_neg (fun g => g q)]
    refine WP_some.2 ?_
    show z1 = _
    by_cases l : tO C pt a
    · rw [bo_t l]
      obtain ⟨i, j, i1, j1, i2, j2, ne⟩ := l
      have im : m ≤ i := Nat.le_of_not_lt (fun g => pPrev_no (p := i) (by rw [← b2]; omega) g i2)
      have jm : m ≤ j := Nat.le_of_not_lt (fun g => pPrev_no (p := j) (by rw [← b2]; omega) g j2)
      by_cases e : pt i = pt (pPrev (kPf C) a (kPn C)).toNat
      · exact b4.2 ⟨j, jm, j1, j2, fun g => ne (by rw [e, g])⟩
      · exact b4.2 ⟨i, im, i1, i2, e⟩
    · rw [bo_f l]
      rcases b3 with g | g
      · exact g
      · obtain ⟨j, j1, j2, j3, j4⟩ := b4.1 g
        have nn : pPrev (kPf C) a (kPn C) ≠ -1 := fun g => pPrev_no (f := kPf C) (n := a) (m := kPn C) (p := j) (by omega) j2 j3
        exact absurd ⟨j, _, j2, by omega, j3, pPrev_net nn, j4⟩ l
  · obtain ⟨y, rfl⟩ : ∃ y : Nat, z = (y : Int) := ⟨z.toNat, by omega⟩
    have nt : (kPf C y).1 = a := by have := pPrev_net (f := kPf C) (n := a) (m := m) (by rw [← b2]; exact q); rw [← b2, Int.toNat_natCast] at this; exact this
    have hy : y < kPn C := by omega
    have nx : gI S 225 y = pPrev (kPf C) a y := by have := (h.2.1 y hy).2.2.2; rw [← nt]; exact this
    have nn : pPrev (kPf C) a (kPn C) ≠ -1 := fun g => pPrev_no (f := kPf C) (n := a) (m := kPn C) (p := y) (by omega) hy nt
    obtain ⟨u, hu⟩ : ∃ u : Nat, pPrev (kPf C) a (kPn C) = (u : Int) := ⟨(pPrev (kPf C) a (kPn C)).toNat, by omega⟩
    rw [hu, Int.toNat_natCast] at b4
    rw [hu] at fs pr0
    have t1 := ht y hy
    have t2 := ht u (by omega)
    rw [if_pos q, rdI_e (by omega), Int.toNat_natCast, t1.1, rdI_e (by omega), Int.toNat_natCast, fs, rdI_e (by omega), Int.toNat_natCast, t2.1, rdI_e (by omega), Int.toNat_natCast, nx, w32_id (by omega), w32_id (by omega)]
    have pr2 := pPrev_rng (f := kPf C) (n := a) (m := y)
    have or1 : aOr z1 (if ¬ (pt y : Int) = (pt u : Int) then 1 else 0) = if z1 = 1 ∨ pt y ≠ pt u then 1 else 0 := by
      rcases b3 with g | g <;> rw [g] <;> by_cases e : pt y = pt u
      · rw [if_neg (by omega), if_neg (by omega)]; decide
      · rw [if_pos (by omega), if_pos (by omega)]; decide
      · rw [if_neg (by omega), if_pos (by omega)]; decide
      · rw [if_pos (by omega), if_pos (by omega)]; decide
    rw [or1]
    refine WP_some.2 ⟨⟨y, by omega, rfl, ?_, ?_⟩, ?_⟩
    · show (if _ then (1 : Int) else 0) = 0 ∨ (if _ then (1 : Int) else 0) = 1
      split
      · exact .inr rfl
      · exact .inl rfl
    · show (if _ then (1 : Int) else 0) = 1 ↔ _
      rw [hu, Int.toNat_natCast]
      have st : (∃ j, y ≤ j ∧ j < kPn C ∧ (kPf C j).1 = a ∧ pt j ≠ pt u) ↔ (z1 = 1 ∨ pt y ≠ pt u) := by
        constructor
        · rintro ⟨j, h1, h2, h3, h4⟩
          by_cases l : j = y
          · rw [l] at h4; exact .inr h4
          · by_cases l2 : j < m
            · exact absurd h3 (pPrev_no (p := j) (by rw [← b2]; omega) l2)
            · exact .inl (b4.2 ⟨j, by omega, h2, h3, h4⟩)
        · rintro (g | g)
          · obtain ⟨j, h1, h2, h3, h4⟩ := b4.1 g
            exact ⟨j, by omega, h2, h3, h4⟩
          · exact ⟨y, Nat.le_refl _, hy, nt, g⟩
      rw [st]
      split
      · exact ⟨fun _ => by assumption, fun _ => rfl⟩
      · exact ⟨fun g => absurd g (by decide), fun g => absurd g (by assumption)⟩
    · show (pPrev (kPf C) a y + 1).toNat < ((y : Int) + 1).toNat
      omega
theorem k_opens (r : RepK S (344 + 22 * k) C) (w : WFC C) (hg : gR S 240 1 = 344 + 22 * k) (hk : k < 4) (hP : kPn C ≤ 640) (h : KPins S C (kPins C)) (ht : KPt S C pt) (hN : kN C ≤ 162) :
    WP (mX16_opens S) (fun z => z = (nO2 C pt : Int)) := by
  unfold mX16_opens
  refine WP_call (R := fun z => z = (nO2 C pt : Int)) ?_ (fun z hz => WP_some.2 hz)
  have bd : ∀ i, i ≤ 162 → smN (fun a => bo (tO C pt a)) i ≤ 162 := fun i hi => by
    have := smN_le (f := fun a => bo (tO C pt a)) (n := i) (b := 1) (fun x _ => bo_le)
    omega
  refine WP_cnt (kN C) (fun i z => z.2 = (i : Int) ∧ z.1 = (smN (fun a => bo (tO C pt a)) i : Int)) (by unfold cFU; omega) ⟨rfl, rfl⟩ (fun i z hi hI => ?_) (fun z hI => ?_)
  · obtain ⟨z1, z2⟩ := z
    obtain ⟨b1, b2⟩ := hI
    dsimp only at b1 b2
    subst b1 b2
    have := bd i (by omega)
    have fs : gI S 224 i = pPrev (kPf C) i (kPn C) := (h.2.2 i hi).1
    unfold mX16_opens_L4
    dsimp only
    rw [hg, gk_chip hk, k_nets r w, bX_some, w32_id (by omega), w32_id (by omega), if_pos (by omega), rdI_e (by omega), Int.toNat_natCast, fs]
    refine WP_call (k_opens28 hP h ht hN hi) (fun x hx => WP_some.2 ?_)
    subst hx
    refine ⟨by show (i : Int) + 1 = _; omega, ?_⟩
    have l := bo_le (p := tO C pt i)
    show _ = ((smN (fun a => bo (tO C pt a)) i + bo (tO C pt i) : Nat) : Int)
    dsimp only
    rw [w32_id (by omega)]
    split <;> omega
  · obtain ⟨z1, z2⟩ := z
    obtain ⟨b1, b2⟩ := hI
    dsimp only at b1 b2
    subst b1 b2
    unfold mX16_opens_L4
    dsimp only
    rw [hg, gk_chip hk, k_nets r w, bX_some, w32_id (by omega), if_neg (by omega)]
    exact WP_some.2 rfl
/-- parts with a pin, parts without -/
def tP (C : Chp) (pt : Nat → Nat) (x : Nat) : Prop := ∃ p, p < kPn C ∧ pt p = x
noncomputable def nP2 (C : Chp) (N : Nat) (f : Nat → Nat) (pt : Nat → Nat) (v : Bool) : Nat := smN (fun x => bo (f x = x ∧ (v = true ↔ tP C pt x))) N
theorem k_parts (hK : KGa k C S) (hk : k < 4) (wB : WFB C) (hB : C 23 0 ≠ -1) (hP : kPn C ≤ 640) (ht : KPt S C pt) {f : Nat → Nat} (hf : URt S 241 (kBx C + kPn C) f) (hpt : ∀ p, p < kPn C → pt p < kBx C + kPn C) {v : Bool} :
    WP (mX16_parts S (if v = true then 1 else 0)) (fun z => z.1 = (nP2 C (kBx C + kPn C) f pt v : Int)) := by
  obtain ⟨nb, nb2⟩ := kBx_e wB hB
  have h0 : gI S (344 + 22 * k) 20 = (kBx C : Int) := by rw [hK.1.2.1]; exact nb
  have hc0 : gI S 219 1 = (kPn C : Int) := hK.2.1.1
  unfold mX16_parts
  rw [hK.1.1, gk_chip hk]
  refine WP_call (R := fun z => Ch 242 242 S z ∧ ∀ x, x < kBx C + kPn C → gI z 242 x = 0) ?_ (fun y4 h4 => ?_)
  · refine WP_cnt (kBx C + kPn C) (fun i z => z.1 = (i : Int) ∧ Ch 242 242 S z.2 ∧ ∀ x, x < i → gI z.2 242 x = 0) (by unfold cFU; omega) ⟨rfl, Ch.refl, fun x hx => absurd hx (by omega)⟩ (fun i z hi hI => ?_) (fun z hI => ?_)
    · obtain ⟨z1, z2⟩ := z
      obtain ⟨b1, b2, b3⟩ := hI
      dsimp only at b1 b2 b3
      subst b1
      unfold mX16_parts_L18
      dsimp only
      rw [h0, hc0, w32_id (by omega), w32_id (by omega), if_pos (by omega), wrI_e (by omega), Int.toNat_natCast]
      refine WP_some.2 ⟨by show (i : Int) + 1 = _; omega, b2.sI (by omega), fun x hx => ?_⟩
      by_cases q : x = i
      · subst q
        show gI (sI z2 242 x 0) 242 x = _
        rw [gI_set, w32_id (by omega)]
      · show gI (sI z2 242 i 0) 242 x = _
        rw [hI_sI_i q]; exact b3 x (by omega)
    · obtain ⟨z1, z2⟩ := z
      obtain ⟨b1, b2, b3⟩ := hI
      dsimp only at b1 b2 b3
      subst b1
      unfold mX16_parts_L18
      dsimp only
      rw [h0, hc0, w32_id (by omega), w32_id (by omega), if_neg (by omega)]
      exact WP_some.2 ⟨b2, b3⟩
  obtain ⟨c4, v4⟩ := h4
  refine WP_call (R := fun z => Ch 242 242 S z ∧ ∀ x, x < kBx C + kPn C → gI z 242 x = (bo (tP C pt x) : Int)) ?_ (fun y8 h8 => ?_)
  · refine WP_cnt (kPn C) (fun i z => z.1 = (i : Int) ∧ Ch 242 242 S z.2 ∧ ∀ x, x < kBx C + kPn C → gI z.2 242 x = (bo (∃ p, p < i ∧ pt p = x) : Int)) (by unfold cFU; omega) ⟨rfl, c4, fun x hx => by show gI y4 242 x = _; rw [v4 x hx, bo_f (fun ⟨p, h1, _⟩ => by omega)]; rfl⟩ (fun i z hi hI => ?_) (fun z hI => ?_)
    · obtain ⟨z1, z2⟩ := z
      obtain ⟨b1, b2, b3⟩ := hI
      dsimp only at b1 b2 b3
      subst b1
      have hc : gI z2 219 1 = (kPn C : Int) := (b2.1 _ _ (by omega)).trans hc0
      have t1 := ht i hi
      have e1 : gI z2 243 i = (pt i : Int) := (b2.1 _ _ (by omega)).trans t1.1
      have t2 := hpt i hi
      unfold mX16_parts_L38
      dsimp only
      rw [hc, w32_id (by omega), w32_id (by omega), if_pos (by omega), rdI_e (by omega), Int.toNat_natCast, e1, wrI_e (by omega), Int.toNat_natCast]
      refine WP_some.2 ⟨by show (i : Int) + 1 = _; omega, b2.sI (by omega), fun x hx => ?_⟩
      by_cases q : x = pt i
      · subst q
        show gI (sI z2 242 (pt i) 1) 242 (pt i) = _
        rw [gI_set, w32_id (by omega), bo_t ⟨i, by omega, rfl⟩]; rfl
      · show gI (sI z2 242 (pt i) 1) 242 x = _
        rw [hI_sI_i q, b3 x hx]
        refine congrArg _ (bo_cg ⟨fun ⟨p, h1, h2⟩ => ⟨p, by omega, h2⟩, fun ⟨p, h1, h2⟩ => ⟨p, ?_, h2⟩⟩)
        by_cases l : p = i
        · rw [l] at h2; exact absurd h2.symm q
        · omega
    · obtain ⟨z1, z2⟩ := z
      obtain ⟨b1, b2, b3⟩ := hI
      dsimp only at b1 b2 b3
      subst b1
      have hc : gI z2 219 1 = (kPn C : Int) := (b2.1 _ _ (by omega)).trans hc0
      unfold mX16_parts_L38
      dsimp only
      rw [hc, w32_id (by omega), if_neg (by omega)]
      exact WP_some.2 ⟨b2, b3⟩
  obtain ⟨c8, v8⟩ := h8
  refine WP_call (R := fun z => z = (nP2 C (kBx C + kPn C) f pt v : Int)) ?_ (fun y hy => WP_some.2 hy)
  have bd : ∀ i, i ≤ 2640 → smN (fun x => bo (f x = x ∧ (v = true ↔ tP C pt x))) i ≤ 2640 := fun i hi => by
    have := smN_le (f := fun x => bo (f x = x ∧ (v = true ↔ tP C pt x))) (n := i) (b := 1) (fun x _ => bo_le)
    omega
  refine WP_cnt (kBx C + kPn C) (fun i z => z.2 = (i : Int) ∧ z.1 = (smN (fun x => bo (f x = x ∧ (v = true ↔ tP C pt x))) i : Int)) (by unfold cFU; omega) ⟨rfl, rfl⟩ (fun i z hi hI => ?_) (fun z hI => ?_)
  · obtain ⟨z1, z2⟩ := z
    obtain ⟨b1, b2⟩ := hI
    dsimp only at b1 b2
    subst b1 b2
    have := bd i (by omega)
    obtain ⟨y, y1, y2, y3, y4', y5⟩ := hf i hi
    have e1 : gI y8 241 i = (y : Int) := (c8.1 _ _ (by omega)).trans y1
    have e2 := v8 i hi
    have l := bo_le (p := tP C pt i)
    have lv : w32 (if v = true then 1 else 0) = if v = true then 1 else 0 := by cases v <;> decide
    have st : ∀ n : Nat, bo (f i = i ∧ (v = true ↔ tP C pt i)) = n → WP (some (Sum.inl ((smN (fun x => bo (f x = x ∧ (v = true ↔ tP C pt x))) i : Int) + (n : Int), (i : Int) + 1) : (Int × Int) ⊕ Int)) (WE (fun z => z.2 = ((i + 1 : Nat) : Int) ∧ z.1 = (smN (fun x => bo (f x = x ∧ (v = true ↔ tP C pt x))) (i + 1) : Int)) (fun z => z = (nP2 C (kBx C + kPn C) f pt v : Int))) := fun n hn => by
      refine WP_some.2 ⟨by show (i : Int) + 1 = _; omega, ?_⟩
      show (smN (fun x => bo (f x = x ∧ (v = true ↔ tP C pt x))) i : Int) + (n : Int) = ((smN (fun x => bo (f x = x ∧ (v = true ↔ tP C pt x))) i + bo (f i = i ∧ (v = true ↔ tP C pt i)) : Nat) : Int)
      rw [hn]; omega
    unfold mX16_parts_L72
    dsimp only
    rw [h0, hc0, w32_id (by omega), w32_id (by omega), if_pos (by omega), rdI_e (by omega), Int.toNat_natCast, e1, w32_id (by omega)]
    by_cases q : y = i
    · rw [if_pos (by omega), rdZ_e (by omega), Int.toNat_natCast, e2, lv]
      by_cases t : tP C pt i
      · rw [bo_t t]
        cases v with
        | true =>
          rw [if_pos rfl, if_pos (by decide), bX_some, if_pos rfl, bX_some]
          exact st 1 (bo_t ⟨y4'.1 q, ⟨fun _ => t, fun _ => rfl⟩⟩)
        | false =>
          rw [if_neg (by decide), bX_some, if_neg (by decide), bX_some]
          exact st 0 (bo_f (fun g => absurd (g.2.2 t) (by decide)))
      · rw [bo_f t]
        cases v with
        | true =>
          rw [if_pos rfl, if_neg (by decide), bX_some, if_neg (by decide), bX_some]
          exact st 0 (bo_f (fun g => t (g.2.1 rfl)))
        | false =>
          rw [if_pos (by decide), bX_some, if_pos rfl, bX_some]
          exact st 1 (bo_t ⟨y4'.1 q, ⟨fun g => absurd g (by decide), fun g => absurd g t⟩⟩)
    · rw [if_neg (by omega), bX_some, if_neg (by decide), bX_some]
      exact st 0 (bo_f (fun g => q (y4'.2 g.1)))
  · obtain ⟨z1, z2⟩ := z
    obtain ⟨b1, b2⟩ := hI
    dsimp only at b1 b2
    subst b1 b2
    unfold mX16_parts_L72
    dsimp only
    rw [h0, hc0, w32_id (by omega), w32_id (by omega), if_neg (by omega)]
    exact WP_some.2 rfl
end KFOUND
