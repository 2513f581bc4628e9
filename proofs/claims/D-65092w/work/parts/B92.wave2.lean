/-! waves: the class -/
def kFl (C : Chp) (a b : Nat) : Nat → List Int
  | 0 => []
  | n + 1 => kFl C a b n ++ kWv C a b n
theorem kFl_len {C : Chp} {a b n : Nat} : (kFl C a b n).length = kWo C a b n := by
  induction n with
  | zero => rfl
  | succ n ih => show (kFl C a b n ++ kWv C a b n).length = kWo C a b n + _; rw [List.length_append, ih]
theorem kFl_at {C : Chp} {a b m n i : Nat} (h : m < n) (hi : i < (kWv C a b m).length) : (kFl C a b n)[kWo C a b m + i]? = (kWv C a b m)[i]? := by
  induction n with
  | zero => omega
  | succ n ih =>
    show (kFl C a b n ++ kWv C a b n)[_]? = _
    by_cases e : m = n
    · subst e
      rw [List.getElem?_append_right (by rw [kFl_len]; omega), kFl_len, Nat.add_sub_cancel_left]
    · have mo := kWo_mono (C := C) (a := a) (b := b) (n := m + 1) (m := n) (by omega)
      have e2 : kWo C a b (m + 1) = kWo C a b m + (kWv C a b m).length := rfl
      rw [List.getElem?_append_left (by rw [kFl_len]; omega)]
      exact ih (by omega)
def TmF (S : Sto) (arr : Nat) (l : List Int) : Prop := ∀ (i : Nat) (t : Int), l[i]? = some t → gI S arr i = t
theorem TmF.snoc {S S' : Sto} {arr : Nat} {l : List Int} {x : Int} (h : TmF S arr l) (e : ∀ i, i < l.length → gI S' arr i = gI S arr i) (n : gI S' arr l.length = x) : TmF S' arr (l ++ [x]) := by
  intro i t ht
  by_cases q : i < l.length
  · rw [List.getElem?_append_left q] at ht; rw [e i q]; exact h i t ht
  · rw [List.getElem?_append_right (by omega)] at ht
    by_cases z : i = l.length
    · subst z
      rw [Nat.sub_self] at ht
      have : x = t := Option.some.inj ht
      rw [n]; exact this
    · have : ([x] : List Int)[i - l.length]? = none := List.getElem?_eq_none (by show 1 ≤ _; omega)
      rw [this] at ht; exact (nomatch ht)
def lmx (l : List Int) : Int := l.foldl max 0
theorem lmx_snoc {l : List Int} {x : Int} : lmx (l ++ [x]) = max (lmx l) x := by unfold lmx; rw [List.foldl_append]; rfl
/-- bits of a state, one turned -/
theorem wvS_lt {ini : Nat → Bool} {x : Nat → Nat} {m : Nat} : wvS ini x m < 2 ^ m := bitsN_lt _ _
theorem bits_flip {F F' : Nat → Bool} {m k : Nat} (hk : k < m) (hm : m ≤ 3) (e : ∀ j, F' j = if j = k then !F j else F j) : aXor (bitsN m F : Int) (aShl 1 (k : Int)) = (bitsN m F' : Int) := by
  have l := bitsN_lt m F
  have p : 2 ^ m ≤ 8 := Nat.pow_le_pow_right (n := 2) (by omega) hm
  have pk : 2 ^ k ≤ 8 := Nat.pow_le_pow_right (n := 2) (by omega) (show k ≤ 3 by omega)
  rw [aShl1 (by omega), aXor_nat (by omega) (by omega)]
  congr 1
  apply Nat.eq_of_testBit_eq
  intro i
  rw [Nat.testBit_xor, testBit_bitsN, testBit_bitsN, Nat.testBit_two_pow, e]
  by_cases q : i = k
  · subst q; rw [if_pos rfl, decide_eq_true hk, decide_eq_true rfl]; cases F i <;> rfl
  · rw [if_neg q, show decide (k = i) = false from decide_eq_false (fun g => q g.symm), Bool.xor_false]
def wFr (S z : Sto) (lo hi : Nat) : Prop := Ch lo hi S z
/-- the class's rows so far: nets below n done, and more of net n -/
def KWs (S : Sto) (L : Nat) (C : Chp) (a b n : Nat) (l : List Int) : Prop :=
  gR S 258 1 = L ∧ (∀ m, m < n → (gI S 261 m) = (kWo C a b m : Int) ∧ (gI S 261 (m + 1)) = (kWo C a b (m + 1) : Int)) ∧
  (gI S 258 6) = (l.length : Int) ∧ (gI S 258 7) = lmx l ∧ l.length ≤ 20000 ∧ TmF S 262 l ∧ (∀ m, m < kN C → (gI S 259 m) = b2i (kVal C a m))
section KWAVE
variable {S : Sto} {L k : Nat} {C : Chp} {a b : Nat}
theorem lmx_rng {l : List Int} (h : ∀ t, t ∈ l → 0 ≤ t ∧ t ≤ 1000000) : 0 ≤ lmx l ∧ lmx l ≤ 1000000 := by
  have key : ∀ (l : List Int) (x : Int), (∀ t, t ∈ l → 0 ≤ t ∧ t ≤ 1000000) → 0 ≤ x ∧ x ≤ 1000000 → 0 ≤ l.foldl max x ∧ l.foldl max x ≤ 1000000 := by
    intro l
    induction l with
    | nil => exact fun x _ h => h
    | cons y l ih =>
      intro x h hx
      have hy := h y (.head _)
      exact ih (max x y) (fun t ht => h t (.tail _ ht)) (by have := max_facts x y; omega)
  exact key l 0 h (by omega)
theorem k_wadd {n : Nat} {l : List Int} {x : Int} (h : KWs S L C a b n l) (hx : 0 ≤ x ∧ x ≤ 1000000) (ha : ∀ t, t ∈ l → 0 ≤ t ∧ t ≤ 1000000) :
    WP (mX18_add S x) (fun z => Ch 258 262 S z.2 ∧ (l.length < 20000 → z.1 = 1 ∧ KWs z.2 L C a b n (l ++ [x])) ∧ (l.length = 20000 → z.1 = 0)) := by
  obtain ⟨h1, h2, h3, h4, h5, h6, h7⟩ := h
  have lr := lmx_rng ha
  unfold mX18_add
  rw [h3, w32_id (by omega)]
  by_cases q : l.length = 20000
  · rw [if_pos (by omega)]
    exact WP_some.2 ⟨Ch.refl, fun g => absurd q (by omega), fun _ => rfl⟩
  · have e7 : gI (sI (sI S 258 6 ((l.length : Int) + 1)) 262 l.length x) 258 7 = lmx l := by rw [hI_sI_a (by omega), hI_sI_i (by omega)]; exact h4
    have mf := max_facts (lmx l) x
    rw [if_neg (by omega), wf_eq, wrI_e (by omega), Int.toNat_natCast, e7, max_e (by omega) (by omega), bX_some, wf_eq]
    refine WP_some.2 ⟨((Ch.refl.sI (by omega)).sI (by omega)).sI (by omega), fun _ => ⟨rfl, h1, fun m hm => ?_, ?_, ?_, by rw [List.length_append]; show _ + 1 ≤ _; omega, ?_, fun m hm => ?_⟩, fun g => absurd g q⟩
    · simp (disch := omega) only [gI_sIn]; exact h2 m hm
    · dsimp only; rw [hI_sI_i (by omega), hI_sI_a (by omega), gI_set, w32_id (by omega), List.length_append]; rfl
    · dsimp only; rw [gI_set, w32_id (by omega), lmx_snoc]
    · refine h6.snoc (fun i hi => ?_) ?_
      · dsimp only; rw [hI_sI_a (by omega), hI_sI_i (by omega), hI_sI_a (by omega)]
      · dsimp only; rw [hI_sI_a (by omega), gI_set, w32_id (by omega)]
    · simp (disch := omega) only [gI_sIn]; exact h7 m hm
/-- pointers into the rows of a gate's inputs -/
def KAt (S : Sto) (C : Chp) (a b g : Nat) (x : Nat → Nat) : Prop := ∀ j, j < kAr C g → (gI S 263 j) = ((kWo C a b (kP C g j) + x j : Nat) : Int) ∧ x j ≤ (kWv C a b (kP C g j)).length
theorem k_wg15 (r : RepK S L C) (w : WFC C) (hk : k < 4) (hL : L = 344 + 22 * k) {g : Nat} (hg : g < kG C) (ho : kWo C a b (kB C + g) ≤ 20000) (h : KWs S L C a b (kB C + g) (kFl C a b (kB C + g))) :
    WP (lpF (mX18_gate_L15 (kAr C g : Int) (g : Int)) (0, 0, S)) (fun z => z.1 = ((wvS (fun j => kVal C a (kP C g j)) (fun _ => 0) (kAr C g) : Nat) : Int) ∧ KAt z.2 C a b g (fun _ => 0) ∧ Ch 263 263 S z.2) := by
  have hn := w.nums
  have ar := w.ar hg
  refine WP_cnt (kAr C g) (fun i z => z.2.1 = (i : Int) ∧ z.1 = ((wvS (fun j => kVal C a (kP C g j)) (fun _ => 0) i : Nat) : Int) ∧ (∀ j, j < i → (gI z.2.2 263 j) = ((kWo C a b (kP C g j) : Nat) : Int)) ∧ Ch 263 263 S z.2.2) (by unfold cFU; omega) ⟨rfl, rfl, fun j h => absurd h (Nat.not_lt_zero _), Ch.refl⟩ (fun i z hi hI => ?_) (fun z hI => ?_)
  · obtain ⟨z0, z1, z2⟩ := z
    obtain ⟨b1, b2, b3, b4⟩ := hI
    dsimp only at b1 b2 b3 b4
    subst b1
    have pp := w.p hg hi
    have rz := r.ch b4 (by omega)
    have e5 := rz.2.2.1 (3 * g + i) (by omega)
    rw [pp.1] at e5
    have fr := (b4.1 261 (kP C g i) (by omega)).trans (h.2.1 _ pp.2).1
    have mo := kWo_mono (C := C) (a := a) (b := b) (n := kP C g i) (m := kB C + g) (by omega)
    have zt : (3 * (g : Int) + (i : Int)).toNat = 3 * g + i := by omega
    have gz := (b4.2.2.1 258 1).trans h.1
    have e9 := (b4.1 259 (kP C g i) (by omega)).trans (h.2.2.2.2.2.2 (kP C g i) (by omega))
    unfold mX18_gate_L15
    dsimp only
    rw [w32_id (by omega), w32_id (by omega), if_pos (by omega), gz, hL, gk_chip hk, ← hL, rdI_e (by omega), zt, e5, rdI_e (by omega), Int.toNat_natCast, fr, wrI_e (by omega), Int.toNat_natCast, gR_sI, gz, hL, gk_chip hk, ← hL, rdI_e (by omega), zt, hI_sI_a (by omega), e5, rdZ_e (by omega), Int.toNat_natCast, hI_sI_a (by omega), e9, bz_b2i, w32_b2i]
    refine WP_some.2 ⟨by show (i : Int) + 1 = _; omega, ?_, fun j hj => ?_, b4.sI (by omega)⟩
    · show aOr z0 _ = _
      have b2' : z0 = (bitsN i (fun j => (kVal C a (kP C g j) ^^ decide ((0 : Nat) % 2 = 1))) : Int) := b2
      have e : (if ¬ b2i (kVal C a (kP C g i)) = 0 then aShl 1 (i : Int) else 0) = if (kVal C a (kP C g i) ^^ decide ((0 : Nat) % 2 = 1)) = true then aShl 1 (i : Int) else 0 := by
        cases kVal C a (kP C g i) <;> rfl
      rw [b2', e, aOr_bits' (f := fun j => (kVal C a (kP C g j) ^^ decide ((0 : Nat) % 2 = 1))) rfl (by omega)]
      rfl
    · show gI (sI z2 263 i _) 263 j = _
      by_cases q : j = i
      · rw [q, gI_set, w32_id (by omega)]
      · rw [hI_sI_i q]; exact b3 j (by omega)
  · obtain ⟨b1, b2, b3, b4⟩ := hI
    unfold mX18_gate_L15
    rw [b1, if_neg (by omega)]
    exact WP_some.2 ⟨b2, fun j hj => ⟨by rw [b3 j hj]; rfl, Nat.zero_le _⟩, b4⟩
/-- what the pointers show -/
theorem row_at (w : WFC C) {g j : Nat} (hg : g < kG C) (hj : j < kAr C g) {l : List Int} {x : Nat → Nat} {arr : Nat} {e : List Int} (hT : TmF S arr l) (hl : l = kFl C a b (kB C + g) ++ e) (hx : x j < (kWv C a b (kP C g j)).length) : (kWv C a b (kP C g j))[x j]? = some (gI S arr (kWo C a b (kP C g j) + x j)) := by
  have pp := w.p hg hj
  have at1 := kFl_at (C := C) (a := a) (b := b) (n := kB C + g) pp.2 hx
  have hlt : kWo C a b (kP C g j) + x j < (kFl C a b (kB C + g)).length := by
    rw [kFl_len]
    have := kWo_mono (C := C) (a := a) (b := b) (n := kP C g j + 1) (m := kB C + g) (by omega)
    have e2 : kWo C a b (kP C g j + 1) = kWo C a b (kP C g j) + (kWv C a b (kP C g j)).length := rfl
    omega
  obtain ⟨t, ht⟩ : ∃ t, (kWv C a b (kP C g j))[x j]? = some t := ⟨_, List.getElem?_eq_getElem hx⟩
  rw [ht]
  rw [ht] at at1
  have : l[kWo C a b (kP C g j) + x j]? = some t := by rw [hl, List.getElem?_append_left hlt]; exact at1
  rw [hT _ _ this]
theorem k_wg136 (r : RepK S L C) (w : WFC C) (wp : WFP C) (hk : k < 4) (hL : L = 344 + 22 * k) {g : Nat} (hg : g < kG C) (ho : kWo C a b (kB C + g) ≤ 20000) {l e : List Int} {x : Nat → Nat} (hl : l = kFl C a b (kB C + g) ++ e) (h : KWs S L C a b (kB C + g) l) (hA : KAt S C a b g x) {u1 u2 u3 u4 : Int} :
    WP (lpF (mX18_gate_L136 (kAr C g : Int) (u1, u2, u3, u4, S) (g : Int)) (1000000, 0)) (fun z => z = gMin (fun j => kWv C a b (kP C g j)) x (kAr C g)) := by
  have hn := w.nums
  have ar := w.ar hg
  refine WP_cnt (kAr C g) (fun i z => z.2 = (i : Int) ∧ z.1 = gMin (fun j => kWv C a b (kP C g j)) x i) (by unfold cFU; omega) ⟨rfl, rfl⟩ (fun i z hi hI => ?_) (fun z hI => ?_)
  · obtain ⟨z0, z1⟩ := z
    obtain ⟨b1, b2⟩ := hI
    dsimp only at b1 b2
    subst b1
    have pp := w.p hg hi
    have e5 := r.2.2.1 (3 * g + i) (by omega)
    rw [pp.1] at e5
    have fr := (h.2.1 _ pp.2).2
    have A := hA i hi
    have mo := kWo_mono (C := C) (a := a) (b := b) (n := kP C g i + 1) (m := kB C + g) (by omega)
    have e2 : kWo C a b (kP C g i + 1) = kWo C a b (kP C g i) + (kWv C a b (kP C g i)).length := rfl
    have zt : (3 * (g : Int) + (i : Int)).toNat = 3 * g + i := by omega
    have zt2 : ((kP C g i : Int) + 1).toNat = kP C g i + 1 := by omega
    have em : gMin (fun j => kWv C a b (kP C g j)) x (i + 1) = (match (kWv C a b (kP C g i))[x i]? with | some t => min (gMin (fun j => kWv C a b (kP C g j)) x i) t | none => gMin (fun j => kWv C a b (kP C g j)) x i) := rfl
    unfold mX18_gate_L136
    dsimp only
    rw [h.1, hL, w32_id (show -2147483648 ≤ (i : Int) ∧ _ by omega), w32_id (show -2147483648 ≤ (kAr C g : Int) ∧ _ by omega), if_pos (by omega), rdI_e (by omega), Int.toNat_natCast, A.1, gk_chip hk, ← hL, rdI_e (by omega), zt, e5, rdI_e (by omega), zt2, fr, w32_id (by omega), w32_id (by omega)]
    by_cases q : x i < (kWv C a b (kP C g i)).length
    · have ra := row_at w hg hi h.2.2.2.2.2.1 hl q
      have rr := (kWv_rise' (a := a) (b := b) w wp (n := kP C g i) (by omega)).1 _ _ ra
      have gl := gMin_le (ls := fun j => kWv C a b (kP C g j)) (at' := x) (m := i)
      rw [ra] at em
      have em : gMin (fun j => kWv C a b (kP C g j)) x (i + 1) = min (gMin (fun j => kWv C a b (kP C g j)) x i) (gI S 262 (kWo C a b (kP C g i) + x i)) := em
      have glo : -1 ≤ gMin (fun j => kWv C a b (kP C g j)) x i := by
        by_cases z : gMin (fun j => kWv C a b (kP C g j)) x i = 1000000
        · omega
        · obtain ⟨j, hj, e⟩ := gMin_some z
          have := (kWv_rise' (a := a) (b := b) w wp (n := kP C g j) (by have := (w.p hg (k := j) (by omega)).2; omega)).1 _ _ e
          omega
      rw [if_pos (by omega), rdI_e (by omega), Int.toNat_natCast, A.1, rdI_e (by omega), Int.toNat_natCast, b2, min_e (by omega) (by omega), bX_some, bX_some]
      exact WP_some.2 ⟨by show (i : Int) + 1 = _; omega, em.symm⟩
    · have rn : (kWv C a b (kP C g i))[x i]? = none := List.getElem?_eq_none (by omega)
      rw [rn] at em
      rw [if_neg (by omega), bX_some]
      exact WP_some.2 ⟨by show (i : Int) + 1 = _; omega, by rw [em]; exact b2⟩
  · obtain ⟨b1, b2⟩ := hI
    unfold mX18_gate_L136
    rw [b1, if_neg (by omega)]
    exact WP_some.2 b2
theorem k_wg201 (r : RepK S L C) (w : WFC C) (wp : WFP C) (hk : k < 4) (hL : L = 344 + 22 * k) {g : Nat} (hg : g < kG C) (ho : kWo C a b (kB C + g) ≤ 20000) {l e : List Int} {x : Nat → Nat} (hl : l = kFl C a b (kB C + g) ++ e) (h : KWs S L C a b (kB C + g) l) (hA : KAt S C a b g x) {t : Int} (ht : t = gMin (fun j => kWv C a b (kP C g j)) x (kAr C g)) (htl : -2147483648 ≤ t) :
    WP (lpF (mX18_gate_L201 (kAr C g : Int) t (g : Int)) (((wvS (fun j => kVal C a (kP C g j)) x (kAr C g) : Nat) : Int), 0, S)) (fun z => Ch 263 263 S z.2 ∧ (t = 1000000 → z.1 = ((wvS (fun j => kVal C a (kP C g j)) x (kAr C g) : Nat) : Int) ∧ KAt z.2 C a b g x) ∧ (t ≠ 1000000 → z.1 = ((wvS (fun j => kVal C a (kP C g j)) (gAdv (fun j => kWv C a b (kP C g j)) x t) (kAr C g) : Nat) : Int) ∧ KAt z.2 C a b g (gAdv (fun j => kWv C a b (kP C g j)) x t))) := by
  have hn := w.nums
  have ar := w.ar hg
  have gl := gMin_le (ls := fun j => kWv C a b (kP C g j)) (at' := x) (m := kAr C g)
  by_cases q : t = 1000000
  · refine WP_cnt 0 (fun _ z => z = (((wvS (fun j => kVal C a (kP C g j)) x (kAr C g) : Nat) : Int), 0, S)) (by unfold cFU; omega) rfl (fun i z hi => absurd hi (Nat.not_lt_zero _)) (fun z hI => ?_)
    subst hI
    unfold mX18_gate_L201
    dsimp only
    rw [if_pos (by rw [w32_id (by omega), w32_id (by omega)]; omega), q, if_neg (by decide), bX_some, if_neg (by decide)]
    exact WP_some.2 ⟨Ch.refl, fun _ => ⟨rfl, hA⟩, fun g => absurd rfl g⟩
  · have mid : Nat → Nat → Nat := fun i j => if j < i then gAdv (fun j => kWv C a b (kP C g j)) x t j else x j
    refine WP_cnt (kAr C g) (fun i z => z.2.1 = (i : Int) ∧ z.1 = ((wvS (fun j => kVal C a (kP C g j)) (fun j => if j < i then gAdv (fun j => kWv C a b (kP C g j)) x t j else x j) (kAr C g) : Nat) : Int) ∧ KAt z.2.2 C a b g (fun j => if j < i then gAdv (fun j => kWv C a b (kP C g j)) x t j else x j) ∧ Ch 263 263 S z.2.2) (by unfold cFU; omega) ⟨rfl, rfl, hA, Ch.refl⟩ (fun i z hi hI => ?_) (fun z hI => ?_)
    · obtain ⟨z0, z1, z2⟩ := z
      obtain ⟨b1, b2, b3, b4⟩ := hI
      dsimp only at b1 b2 b3 b4
      subst b1
      have rz := r.ch b4 (by omega)
      have pp := w.p hg hi
      have e5 := rz.2.2.1 (3 * g + i) (by omega)
      rw [pp.1] at e5
      have fr := (b4.1 261 (kP C g i + 1) (by omega)).trans (h.2.1 _ pp.2).2
      have A := b3 i hi
      simp only [Nat.lt_irrefl, if_false] at A
      have mo := kWo_mono (C := C) (a := a) (b := b) (n := kP C g i + 1) (m := kB C + g) (by omega)
      have e2 : kWo C a b (kP C g i + 1) = kWo C a b (kP C g i) + (kWv C a b (kP C g i)).length := rfl
      have zt : (3 * (g : Int) + (i : Int)).toNat = 3 * g + i := by omega
      have zt2 : ((kP C g i : Int) + 1).toNat = kP C g i + 1 := by omega
      have gz := (b4.2.2.1 258 1).trans h.1
      have lt8 := wvS_lt (ini := fun j => kVal C a (kP C g j)) (x := fun j => if j < i then gAdv (fun j => kWv C a b (kP C g j)) x t j else x j) (m := kAr C g)
      have p8 : 2 ^ kAr C g ≤ 8 := Nat.pow_le_pow_right (n := 2) (by omega) ar.2
      have same : (kWv C a b (kP C g i))[x i]? ≠ some t → ∀ j, (if j < i + 1 then gAdv (fun j => kWv C a b (kP C g j)) x t j else x j) = (if j < i then gAdv (fun j => kWv C a b (kP C g j)) x t j else x j) := fun g' j => by
        by_cases z : j = i
        · subst z
          have : gAdv (fun j => kWv C a b (kP C g j)) x t j = x j := if_neg g'
          rw [if_pos (by omega), if_neg (by omega), this]
        · by_cases y : j < i
          · rw [if_pos (by omega), if_pos y]
          · rw [if_neg (by omega), if_neg y]
      have keep : (kWv C a b (kP C g i))[x i]? ≠ some t → WP (some (Sum.inl (z0, (i : Int) + 1, z2)) : Option ((Int × Int × Sto) ⊕ (Int × Sto))) (WE (fun z => z.2.1 = ((i + 1 : Nat) : Int) ∧ z.1 = ((wvS (fun j => kVal C a (kP C g j)) (fun j => if j < i + 1 then gAdv (fun j => kWv C a b (kP C g j)) x t j else x j) (kAr C g) : Nat) : Int) ∧ KAt z.2.2 C a b g (fun j => if j < i + 1 then gAdv (fun j => kWv C a b (kP C g j)) x t j else x j) ∧ Ch 263 263 S z.2.2) (fun z => Ch 263 263 S z.2 ∧ (t = 1000000 → z.1 = ((wvS (fun j => kVal C a (kP C g j)) x (kAr C g) : Nat) : Int) ∧ KAt z.2 C a b g x) ∧ (t ≠ 1000000 → z.1 = ((wvS (fun j => kVal C a (kP C g j)) (gAdv (fun j => kWv C a b (kP C g j)) x t) (kAr C g) : Nat) : Int) ∧ KAt z.2 C a b g (gAdv (fun j => kWv C a b (kP C g j)) x t)))) := fun g' => by
        rw [funext (same g')]
        exact WP_some.2 ⟨by show (i : Int) + 1 = _; omega, b2, b3, b4⟩
      unfold mX18_gate_L201
      dsimp only
      rw [w32_id (show -2147483648 ≤ (i : Int) ∧ _ by omega), w32_id (show -2147483648 ≤ (kAr C g : Int) ∧ _ by omega), if_pos (by omega), w32_id (show -2147483648 ≤ t ∧ _ by omega), if_pos q, bX_some, if_pos rfl, rdI_e (by omega), Int.toNat_natCast, A.1, gz, hL, gk_chip hk, ← hL, rdI_e (by omega), zt, e5, rdI_e (by omega), zt2, fr, w32_id (by omega), w32_id (by omega)]
      by_cases z : x i < (kWv C a b (kP C g i)).length
      · have ra := row_at w hg hi h.2.2.2.2.2.1 hl z
        have rr := (kWv_rise' (a := a) (b := b) w wp (n := kP C g i) (by omega)).1 _ _ ra
        have e62 := b4.1 262 (kWo C a b (kP C g i) + x i) (by omega)
        rw [if_pos (by omega), rdI_e (by omega), Int.toNat_natCast, A.1, rdI_e (by omega), Int.toNat_natCast, e62, w32_gI]
        by_cases y : gI S 262 (kWo C a b (kP C g i) + x i) = t
        · rw [if_neg (fun g => g y), rdI_e (by omega), Int.toNat_natCast, A.1, wrI_e (by omega), Int.toNat_natCast, bX_some]
          have yy : (kWv C a b (kP C g i))[x i]? = some t := by rw [ra, y]
          have adv : gAdv (fun j => kWv C a b (kP C g j)) x t i = x i + 1 := if_pos yy
          refine WP_some.2 ⟨by show (i : Int) + 1 = _; omega, ?_, fun j hj => ?_, b4.sI (by omega)⟩
          · show aXor z0 (aShl 1 (i : Int)) = _
            rw [b2]
            refine bits_flip (F := fun j => (kVal C a (kP C g j) ^^ decide ((if j < i then gAdv (fun j => kWv C a b (kP C g j)) x t j else x j) % 2 = 1))) hi ar.2 (fun j => ?_)
            by_cases v : j = i
            · subst v
              rw [if_pos rfl]
              dsimp only
              simp only [if_pos (show j < j + 1 by omega), if_neg (Nat.lt_irrefl j), adv]
              have par : decide ((x j + 1) % 2 = 1) = !decide (x j % 2 = 1) := by
                by_cases o : x j % 2 = 1
                · rw [decide_eq_true o, decide_eq_false (by omega)]; rfl
                · rw [decide_eq_false o, decide_eq_true (by omega)]; rfl
              rw [par]
              cases kVal C a (kP C g j) <;> cases decide (x j % 2 = 1) <;> rfl
            · rw [if_neg v]
              dsimp only
              by_cases o : j < i
              · simp only [if_pos (show j < i + 1 by omega), if_pos o]
              · simp only [if_neg (show ¬ j < i + 1 by omega), if_neg o]
          · have old := b3 j hj
            dsimp only at old ⊢
            by_cases v : j = i
            · subst v
              rw [gI_set, if_pos (by omega), adv, w32_id (by omega)]
              exact ⟨by omega, by omega⟩
            · rw [hI_sI_i v]
              by_cases o : j < i
              · rw [if_pos o] at old; rw [if_pos (by omega)]; exact old
              · rw [if_neg o] at old; rw [if_neg (by omega)]; exact old
        · rw [if_pos y, bX_some]
          exact keep (fun g' => by rw [ra] at g'; exact y (Option.some.inj g'))
      · have rn : (kWv C a b (kP C g i))[x i]? = none := List.getElem?_eq_none (by omega)
        rw [if_neg (by omega), bX_some]
        exact keep (by rw [rn]; exact fun g => (nomatch g))
    · obtain ⟨b1, b2, b3, b4⟩ := hI
      unfold mX18_gate_L201
      rw [b1, if_neg (by omega), bX_some, if_neg (by decide)]
      have ee : ∀ j, j < kAr C g → (if j < kAr C g then gAdv (fun j => kWv C a b (kP C g j)) x t j else x j) = gAdv (fun j => kWv C a b (kP C g j)) x t j := fun j hj => if_pos hj
      refine WP_some.2 ⟨b4, fun g' => absurd g' q, fun _ => ⟨?_, fun j hj => ?_⟩⟩
      · show z.1 = _
        rw [b2]
        unfold wvS
        rw [bitsN_congr (g := fun j => (kVal C a (kP C g j) ^^ decide (gAdv (fun j => kWv C a b (kP C g j)) x t j % 2 = 1))) (fun j hj => by simp only [ee j hj])]
      · have := b3 j hj
        dsimp only at this
        rw [ee j hj] at this; exact this
end KWAVE
