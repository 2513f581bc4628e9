/-! move: an element on another place -/
def mvFree (C : Chp) (e : Nat) (x y : Int) : Prop := ∀ f, f < kE C → ¬ (f ≠ e ∧ C 18 f = y ∧ C 17 f < x + kSz C e ∧ x < C 17 f + kSz C f)
def tkn (C : Chp) (e : Nat) (y : Int) : Nat → Nat → Bool
  | 0, _ => false
  | n + 1, s => tkn C e y n s || decide (n ≠ e ∧ C 18 n = y ∧ C 17 n ≤ (s : Int) ∧ (s : Int) < C 17 n + kSz C n)
theorem tkn_iff {C : Chp} {e : Nat} {y : Int} {n s : Nat} : tkn C e y n s = true ↔ ∃ f, f < n ∧ f ≠ e ∧ C 18 f = y ∧ C 17 f ≤ (s : Int) ∧ (s : Int) < C 17 f + kSz C f := by
  induction n with
  | zero => exact ⟨fun h => (nomatch h), fun h => by obtain ⟨f, h, _⟩ := h; exact absurd h (Nat.not_lt_zero _)⟩
  | succ n ih =>
    show (tkn C e y n s || decide _) = true ↔ _
    rw [Bool.or_eq_true, ih, decide_eq_true_iff]
    constructor
    · intro h
      rcases h with ⟨f, h1, h2⟩ | h
      · exact ⟨f, by omega, h2⟩
      · exact ⟨n, by omega, h⟩
    · intro h
      obtain ⟨f, h1, h2⟩ := h
      by_cases q : f = n
      · subst q; exact .inr h2
      · exact .inl ⟨f, by omega, h2⟩
theorem mv_iff {C : Chp} {e xn : Nat} {y : Int} (hs : ∀ f, f < kE C → 2 ≤ kSz C f) (he : e < kE C) : mvFree C e (xn : Int) y ↔ ∀ j, j < kSz C e → tkn C e y (kE C) (xn + j) = false := by
  constructor
  · intro h j hj
    rw [Bool.eq_false_iff]
    intro g
    obtain ⟨f, f1, f2, f3, f4, f5⟩ := tkn_iff.1 g
    exact h f f1 ⟨f2, f3, by omega, by omega⟩
  · intro h f hf g
    obtain ⟨g1, g2, g3, g4⟩ := g
    have sf := hs f hf
    have s2 := hs e he
    by_cases q : C 17 f ≤ xn
    · have := h 0 (by omega)
      rw [tkn_iff.2 ⟨f, hf, g1, g2, by omega, by omega⟩] at this
      exact (nomatch this)
    · obtain ⟨j, hj⟩ : ∃ j : Nat, C 17 f = ((xn + j : Nat) : Int) := ⟨(C 17 f - xn).toNat, by omega⟩
      have := h j (by omega)
      rw [tkn_iff.2 ⟨f, hf, g1, g2, by omega, by omega⟩] at this
      exact (nomatch this)
section KMV
variable {S : Sto} {L : Nat} {C : Chp} {e : Nat} {y : Int}
theorem k_mv75 (r : RepK S L C) (wf : WFC C) (hL : 344 ≤ L) {f : Nat} (hf : f < kE C) (hx : 0 ≤ C 17 f ∧ C 17 f + kSz C f ≤ 60) (h18 : 0 ≤ C 18 f ∧ C 18 f < 12) (ex : gI S (L + 10) f = C 17 f) (ey : gI S (L + 11) f = C 18 f) (he : e < 1000) (hy : -2147483648 ≤ y ∧ y < 2147483648) :
    WP (lpF (mX14_move_L75 L ((f : Int), S) (e : Int) y) (0, S)) (fun z => (∀ s : Nat, gI z 227 s = if (f ≠ e ∧ C 18 f = y ∧ C 17 f ≤ (s : Int) ∧ (s : Int) < C 17 f + kSz C f) then 1 else gI S 227 s) ∧ ∀ a i, a ≠ 227 → gI z a i = gI S a i) := by
  have hn := wf.nums
  have sz := kSz_rng wf hf
  have se := kSz_eq hf
  have hf' : f < kR C + kG C := hf
  by_cases q1 : f = e
  · refine WP_cnt 0 (fun _ z => z = (0, S)) (by unfold cFU; omega) rfl (fun i s hi => absurd hi (Nat.not_lt_zero _)) (fun z hz => ?_)
    subst hz
    have ks := k_size r wf (p := (f : Int)) (by omega)
    rw [se] at ks
    unfold mX14_move_L75
    rw [ks, bX_some, w32_id (by omega), w32_id (by omega), if_pos (by omega), w32_id (by omega), w32_id (by omega), if_neg (by omega), bX_some, if_neg (by decide)]
    exact WP_some.2 ⟨fun s => by rw [if_neg (fun g => g.1 q1)], fun _ _ _ => rfl⟩
  by_cases q2 : C 18 f = y
  · refine WP_cnt (kSz C f) (fun i z => z.1 = (i : Int) ∧ (∀ s : Nat, gI z.2 227 s = if C 17 f ≤ (s : Int) ∧ (s : Int) < C 17 f + i then 1 else gI S 227 s) ∧ ∀ a i, a ≠ 227 → gI z.2 a i = gI S a i) (by unfold cFU; omega) ⟨rfl, fun s => by rw [if_neg (by omega)], fun _ _ _ => rfl⟩ (fun i z hi hI => ?_) (fun z hI => ?_)
    · obtain ⟨b1, b2, b3⟩ := hI
      have rz : RepK z.2 L C := r.cg (fun a j l1 l2 => b3 a j (by omega))
      have ks := k_size rz wf (p := (f : Int)) (by omega)
      rw [se] at ks
      have ex' : gI z.2 (L + 10) f = C 17 f := (b3 _ _ (by omega)).trans ex
      have ey' : gI z.2 (L + 11) f = C 18 f := (b3 _ _ (by omega)).trans ey
      have zt : (C 17 f + (i : Int)).toNat = (C 17 f).toNat + i := by omega
      unfold mX14_move_L75
      rw [ks, bX_some, b1, w32_id (by omega), w32_id (by omega), if_pos (by omega), w32_id (by omega), w32_id (by omega), if_pos (by omega), rdI_e (by omega), Int.toNat_natCast, ey', w32_id (by omega), w32_id (by omega), if_pos q2, bX_some, if_pos rfl, rdI_e (by omega), Int.toNat_natCast, ex', wrI_e (by omega), zt]
      refine WP_some.2 ⟨by show (i : Int) + 1 = _; omega, fun s => ?_, fun a j g => ?_⟩
      · show gI (sI z.2 227 _ 1) 227 s = _
        rw [hI_sI]
        by_cases q : s = (C 17 f).toNat + i
        · rw [if_pos ⟨rfl, q⟩, if_pos (by omega)]; rfl
        · rw [if_neg (fun g => q g.2), b2 s]
          by_cases g : C 17 f ≤ (s : Int) ∧ (s : Int) < C 17 f + i
          · rw [if_pos g, if_pos (by omega)]
          · rw [if_neg g, if_neg (by omega)]
      · show gI (sI z.2 227 _ 1) a j = _
        rw [hI_sI_a (by omega)]; exact b3 a j g
    · obtain ⟨b1, b2, b3⟩ := hI
      have rz : RepK z.2 L C := r.cg (fun a j l1 l2 => b3 a j (by omega))
      have ks := k_size rz wf (p := (f : Int)) (by omega)
      rw [se] at ks
      unfold mX14_move_L75
      rw [ks, bX_some, b1, w32_id (by omega), if_neg (by omega), bX_some, if_neg (by decide)]
      refine WP_some.2 ⟨fun s => ?_, b3⟩
      rw [b2 s]
      by_cases g : C 17 f ≤ (s : Int) ∧ (s : Int) < C 17 f + kSz C f
      · rw [if_pos g, if_pos ⟨q1, q2, g⟩]
      · rw [if_neg g, if_neg (fun g' => g g'.2.2)]
  · refine WP_cnt 0 (fun _ z => z = (0, S)) (by unfold cFU; omega) rfl (fun i s hi => absurd hi (Nat.not_lt_zero _)) (fun z hz => ?_)
    subst hz
    have ks := k_size r wf (p := (f : Int)) (by omega)
    rw [se] at ks
    unfold mX14_move_L75
    rw [ks, bX_some, w32_id (by omega), w32_id (by omega), if_pos (by omega), w32_id (by omega), w32_id (by omega), if_pos (by omega), rdI_e (by omega), Int.toNat_natCast, ey, w32_id (by omega), w32_id (by omega), if_neg q2, bX_some, if_neg (by decide)]
    exact WP_some.2 ⟨fun s => by rw [if_neg (fun g => q2 g.2.1)], fun _ _ _ => rfl⟩
/-- the sites taken in a row by others -/
theorem k_mv63 (r : RepK S L C) (rP : RepP S L C) (wf : WFC C) (wp : WFP C) (h0 : C 16 0 ≠ 0) (hL : 344 ≤ L) (he : e < 1000) (hy : -2147483648 ≤ y ∧ y < 2147483648) (h227 : ∀ s : Nat, (s : Int) < C 15 0 → gI S 227 s = 0) :
    WP (lpF (mX14_move_L63 L (e : Int) y) (0, S)) (fun z => (∀ s : Nat, (s : Int) < C 15 0 → gI z 227 s = if tkn C e y (kE C) s = true then 1 else 0) ∧ ∀ a i, a ≠ 227 → gI z a i = gI S a i) := by
  have hn := wf.nums
  have hE : kE C ≤ 156 := by unfold kE; omega
  refine WP_cnt (kE C) (fun i z => z.1 = (i : Int) ∧ (∀ s : Nat, (s : Int) < C 15 0 → gI z.2 227 s = if tkn C e y i s = true then 1 else 0) ∧ ∀ a i, a ≠ 227 → gI z.2 a i = gI S a i) (by unfold cFU; omega) ⟨rfl, fun s hs => by rw [if_neg (fun g => nomatch g)]; exact h227 s hs, fun _ _ _ => rfl⟩ (fun i z hi hI => ?_) (fun z hI => ?_)
  · obtain ⟨b1, b2, b3⟩ := hI
    have rz : RepK z.2 L C := r.cg (fun a j l1 l2 => b3 a j (by omega))
    have el := k_elements rz wf
    have hi' : i < kR C + kG C := hi
    have p1 := wp.1
    have p2 := wp.2.1 h0 i hi
    have p3 := rP.2 h0 i hi
    unfold mX14_move_L63
    rw [el, bX_some, b1, w32_id (by omega), w32_id (by omega), if_pos (by omega)]
    have ez : z = ((i : Int), z.2) := by rw [← b1]
    rw [ez]
    refine WP_call (k_mv75 (e := e) (y := y) rz wf hL hi ⟨by omega, by omega⟩ ⟨by omega, by omega⟩ ((b3 _ _ (by omega)).trans p3.1) ((b3 _ _ (by omega)).trans p3.2) he hy) (fun x hx => ?_)
    refine WP_some.2 ⟨by show (i : Int) + 1 = _; omega, fun s hs => ?_, fun a j g => (hx.2 a j g).trans (b3 a j g)⟩
    show gI x 227 s = _
    have eb : tkn C e y (i + 1) s = (tkn C e y i s || decide (i ≠ e ∧ C 18 i = y ∧ C 17 i ≤ (s : Int) ∧ (s : Int) < C 17 i + kSz C i)) := rfl
    rw [hx.1 s, b2 s hs, eb]
    by_cases g : i ≠ e ∧ C 18 i = y ∧ C 17 i ≤ (s : Int) ∧ (s : Int) < C 17 i + kSz C i
    · rw [if_pos g, decide_eq_true g, Bool.or_true, if_pos rfl]
    · rw [if_neg g, decide_eq_false g, Bool.or_false]
  · obtain ⟨b1, b2, b3⟩ := hI
    have rz : RepK z.2 L C := r.cg (fun a j l1 l2 => b3 a j (by omega))
    have el := k_elements rz wf
    unfold kE at b1
    unfold mX14_move_L63
    rw [el, bX_some, b1, w32_id (by omega), if_neg (by omega)]
    exact WP_some.2 ⟨b2, b3⟩
theorem k_mv37 (wp : WFP C) (rP : RepP S L C) (hL : 344 ≤ L) : WP (lpF (mX14_move_L37 L) (0, S)) (fun z => (∀ s : Nat, (s : Int) < C 15 0 → gI z 227 s = 0) ∧ ∀ a i, a ≠ 227 → gI z a i = gI S a i) := by
  have p1 := wp.1
  obtain ⟨w, hw⟩ : ∃ w : Nat, C 15 0 = (w : Int) := ⟨(C 15 0).toNat, by omega⟩
  have e11 := rP.1.1
  rw [hw] at p1 e11 ⊢
  refine WP_cnt w (fun i z => z.1 = (i : Int) ∧ (∀ s : Nat, s < i → gI z.2 227 s = 0) ∧ ∀ a i, a ≠ 227 → gI z.2 a i = gI S a i) (by unfold cFU; omega) ⟨rfl, fun s hs => absurd hs (Nat.not_lt_zero _), fun _ _ _ => rfl⟩ (fun i z hi hI => ?_) (fun z hI => ?_)
  · obtain ⟨b1, b2, b3⟩ := hI
    have e1 : gI z.2 L 11 = (w : Int) := (b3 _ _ (by omega)).trans e11
    unfold mX14_move_L37
    rw [e1, b1, w32_id (by omega), w32_id (by omega), if_pos (by omega), wrI_e (by omega), Int.toNat_natCast]
    refine WP_some.2 ⟨by show (i : Int) + 1 = _; omega, fun s hs => ?_, fun a j g => ?_⟩
    · show gI (sI z.2 227 i 0) 227 s = 0
      rw [hI_sI]
      by_cases q : s = i
      · rw [if_pos ⟨rfl, q⟩]; rfl
      · rw [if_neg (fun g => q g.2)]; exact b2 s (by omega)
    · show gI (sI z.2 227 i 0) a j = _
      rw [hI_sI_a (by omega)]; exact b3 a j g
  · obtain ⟨b1, b2, b3⟩ := hI
    have e1 : gI z.2 L 11 = (w : Int) := (b3 _ _ (by omega)).trans e11
    unfold mX14_move_L37
    rw [e1, b1, w32_id (by omega), if_neg (by omega)]
    exact WP_some.2 ⟨fun s hs => b2 s (by omega), b3⟩
theorem k_mv135 (r : RepK S L C) (wf : WFC C) (he : e < kE C) {xn : Nat} {t : Nat → Bool} (hx : (xn : Int) + kSz C e ≤ 60) (h227 : ∀ s : Nat, s < xn + kSz C e → gI S 227 s = if t s = true then 1 else 0) :
    WP (lpF (mX14_move_L135 S L (e : Int) (xn : Int)) 0) (WE (fun _ => ∀ j, j < kSz C e → t (xn + j) = false) (fun z => z = (0, S) ∧ ¬ ∀ j, j < kSz C e → t (xn + j) = false)) := by
  have hn := wf.nums
  have sz := kSz_rng wf he
  have se := kSz_eq he
  have he' : e < kR C + kG C := he
  have ks := k_size r wf (p := (e : Int)) (by omega)
  rw [se] at ks
  refine WP_cnt (kSz C e) (fun i z => z = (i : Int) ∧ ∀ j, j < i → t (xn + j) = false) (by unfold cFU; omega) ⟨rfl, fun j h => absurd h (Nat.not_lt_zero _)⟩ (fun i z hi hI => ?_) (fun z hI => ?_)
  · obtain ⟨rfl, b2⟩ := hI
    have zt : ((xn : Int) + (i : Int)).toNat = xn + i := by omega
    unfold mX14_move_L135
    rw [ks, bX_some, w32_id (by omega), w32_id (by omega), if_pos (by omega), rdZ_e (by omega), zt, h227 _ (by omega)]
    by_cases q : t (xn + i) = true
    · rw [if_pos q, if_pos (by decide)]
      exact WP_some.2 ⟨rfl, fun g => by rw [g i hi] at q; exact (nomatch q)⟩
    · rw [if_neg q, if_neg (by decide)]
      refine WP_some.2 ⟨by show (i : Int) + 1 = _; omega, fun j hj => ?_⟩
      by_cases z : j = i
      · rw [z]; exact Bool.eq_false_iff.2 q
      · exact b2 j (by omega)
  · obtain ⟨rfl, b2⟩ := hI
    unfold mX14_move_L135
    rw [ks, bX_some, w32_id (by omega), if_neg (by omega)]
    exact WP_some.2 b2
end KMV
