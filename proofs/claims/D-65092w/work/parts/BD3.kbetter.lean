/-! the class: an exchange that makes the wire less -/
section KBETTER
variable {S : Sto} {k : Nat} {C : Chp}
/-- places of a chip are changed, scratch rows too -/
def ChX (k : Nat) (C : Chp) (S z : Sto) : Prop := (∀ c i, (c < 226 ∨ 228 < c) → c ≠ 344 + 22 * k + 10 → c ≠ 344 + 22 * k + 11 → gI z c i = gI S c i) ∧ (∀ i, kE C ≤ i → gI z (344 + 22 * k + 10) i = gI S (344 + 22 * k + 10) i ∧ gI z (344 + 22 * k + 11) i = gI S (344 + 22 * k + 11) i) ∧
  (∀ c i, (c < 226 ∨ 228 < c) → gL z c i = gL S c i) ∧ (∀ c i, gR z c i = gR S c i) ∧ nC z = nC S ∧ nS z = nS S
theorem ChX.refl : ChX k C S S := ⟨fun _ _ _ _ _ => rfl, fun _ _ => ⟨rfl, rfl⟩, fun _ _ _ => rfl, fun _ _ => rfl, rfl, rfl⟩
theorem ChX.tr {z y : Sto} (h : ChX k C S z) (g : ChX k C z y) : ChX k C S y := ⟨fun c i q q' q'' => (g.1 c i q q' q'').trans (h.1 c i q q' q''), fun i q => ⟨(g.2.1 i q).1.trans (h.2.1 i q).1, (g.2.1 i q).2.trans (h.2.1 i q).2⟩, fun c i q => (g.2.2.1 c i q).trans (h.2.2.1 c i q), fun c i => (g.2.2.2.1 c i).trans (h.2.2.2.1 c i), g.2.2.2.2.1.trans h.2.2.2.2.1, g.2.2.2.2.2.trans h.2.2.2.2.2⟩
theorem Ch.X {z : Sto} (h : Ch 226 228 S z) : ChX k C S z := ⟨fun c i q _ _ => h.1 c i q, fun i _ => ⟨h.1 _ _ (by omega), h.1 _ _ (by omega)⟩, h.2.1, h.2.2.1, h.2.2.2.1, h.2.2.2.2⟩
theorem ChX.K {z : Sto} (h : ChX k C S z) (r : RepK S (344 + 22 * k) C) : RepK z (344 + 22 * k) C := by
  have cl : ∀ a i, 344 + 22 * k ≤ a → a ≤ 344 + 22 * k + 9 → gI z a i = gI S a i := fun a i l1 l2 => h.1 a i (by omega) (by omega) (by omega)
  obtain ⟨t1, t2, t3, t4, t5, t6⟩ := r
  refine ⟨?_, fun g' hg' => ?_, fun g' hg' => ?_, fun g' hg' => ?_, fun g' hg' => ?_, fun g' hg' => ?_⟩
  · simp (disch := omega) only [cl]; exact t1
  · rw [cl _ _ (by omega) (by omega)]; exact t2 g' hg'
  · rw [cl _ _ (by omega) (by omega)]; exact t3 g' hg'
  · rw [cl _ _ (by omega) (by omega)]; exact t4 g' hg'
  · rw [cl _ _ (by omega) (by omega)]; exact t5 g' hg'
  · simp (disch := omega) only [cl]; exact t6 g' hg'
theorem KPins.mv {z : Sto} {s : Pst} (h : KPins S C s) (e : ∀ a i, 219 ≤ a → a ≤ 225 → gI z a i = gI S a i) : KPins z C s := by
  obtain ⟨h1, h2, h3⟩ := h
  refine ⟨by rw [e _ _ (by omega) (by omega)]; exact h1, fun p hp => ?_, fun n hn => ?_⟩
  · rw [e _ _ (by omega) (by omega), e _ _ (by omega) (by omega), e _ _ (by omega) (by omega), e _ _ (by omega) (by omega)]; exact h2 p hp
  · rw [e _ _ (by omega) (by omega), e _ _ (by omega) (by omega)]; exact h3 n hn
/-- nets that are touched -/
def KTch (S : Sto) (tc : Nat) (t : Nat → Nat) : Prop := gI S 226 3 = (tc : Int) ∧ ∀ i, i < tc → gI S 228 i = (t i : Int)
theorem anyN_up {f : Nat → Bool} {i m : Nat} (l : i ≤ m) (e : anyN f i = true) : anyN f m = true := by
  obtain ⟨j, j1, j2⟩ := anyN_t.1 e
  exact anyN_t.2 ⟨j, by omega, j2⟩
theorem k_touch35 {tc : Nat} {t : Nat → Nat} (h : KTch S tc t) (ht : ∀ i, i < tc → t i < 1000) (h8 : tc ≤ 8) {x1 : Int} {n : Int} (hn : -1 ≤ n ∧ n < 1000) :
    lpF (mX14_touch_L35 (x1, S) n) ((if n = -1 then 1 else 0), 0) = some (b2i (decide (n = -1) || anyN (fun i => decide ((t i : Int) = n)) tc)) := by
  refine WP.of ?_
  refine WP_cnt tc (fun i z => z.2 = (i : Int) ∧ z.1 = b2i (decide (n = -1) || anyN (fun i => decide ((t i : Int) = n)) i)) (by unfold cFU; omega) ⟨rfl, by show (if n = -1 then (1 : Int) else 0) = b2i (decide (n = -1) || false); rw [Bool.or_false, ← b2i_if]⟩ (fun i z hi hI => ?_) (fun z hI => ?_)
  · obtain ⟨b1, b2⟩ := hI
    unfold mX14_touch_L35
    dsimp only
    rw [h.1, b1, w32_id (by omega), w32_id (by omega), if_pos (by omega), b2, w32_b2i]
    cases e : (decide (n = -1) || anyN (fun i => decide ((t i : Int) = n)) i) with
    | true =>
      rw [if_neg (by decide), bX_some, if_neg (by decide)]
      refine WP_some.2 ?_
      show b2i true = _
      rw [Bool.or_eq_true] at e
      have : (decide (n = -1) || anyN (fun i => decide ((t i : Int) = n)) tc) = true := by
        rw [Bool.or_eq_true]
        exact e.imp id (fun g => anyN_up (by omega) g)
      rw [this]
    | false =>
      rw [if_pos (by decide), bX_some, if_pos rfl, rdI_e (by omega), Int.toNat_natCast, h.2 i hi, w32_id (by have := ht i hi; omega), w32_id (by omega)]
      refine WP_some.2 ⟨by show (i : Int) + 1 = _; omega, ?_⟩
      show (if (t i : Int) = n then (1 : Int) else 0) = b2i (decide (n = -1) || (anyN (fun i => decide ((t i : Int) = n)) i || decide ((t i : Int) = n)))
      rw [← Bool.or_assoc, e, Bool.false_or, b2i_if]
  · obtain ⟨b1, b2⟩ := hI
    unfold mX14_touch_L35
    dsimp only
    rw [h.1, b1, w32_id (by omega), if_neg (by omega), bX_some, if_neg (by decide)]
    exact WP_some.2 b2
/-- an element's size, a pin's net -/
theorem k_sizeE {L : Nat} (r : RepK S L C) (w : WFC C) {e : Nat} (he : e < kE C) : mX22_size S L (e : Int) = some (kSz C e : Int) := by
  have he' : e < kR C + kG C := he
  rw [k_size r w (p := (e : Int)) (by omega)]
  unfold kSz
  rw [Int.toNat_natCast]
  by_cases q : e < kR C
  · rw [if_pos (by omega), if_pos q]; rfl
  · rw [if_neg (by omega), if_neg q]
    show some ((kAr C (e - kR C) : Int) + 1) = some (((kAr C (e - kR C) + 1 : Nat)) : Int)
    congr 1
theorem k_netOfPin2 {L : Nat} (r : RepK S L C) (w : WFC C) {e j : Nat} (he : e < kE C) (hj : j < kSz C e) : mX22_netOfPin S L (e : Int) (j : Int) = some (if kNp C e j < 0 then -1 else kNp C e j) := by
  have hn := w.nums
  have he' : e < kR C + kG C := he
  have er := r.1.2.1
  rw [w.r] at er
  have ei := r.1.1
  rw [w.i] at ei
  have sz := kSz_rng w he
  unfold mX22_netOfPin kNp
  rw [er, w32_id (by omega), w32_id (by omega)]
  by_cases q : e < kR C
  · rw [if_pos (show (e : Int) < (kR C : Int) by omega), if_pos q, w32_id (by omega)]
    by_cases z : j = 1
    · rw [if_pos (show (j : Int) = 1 by omega), if_pos z, bX_some, ei, if_neg (by omega)]
      congr 1
    · have e7 := r.2.2.2.2.1 e q
      have w7 := w.2.2.2.2.1 e q
      rw [w.i, w.r, w.g] at w7
      rw [if_neg (show ¬ (j : Int) = 1 by omega), if_neg z, rdI_e (by omega), Int.toNat_natCast, e7, w32_id (by omega)]
      by_cases g : C 7 e < 0
      · rw [if_pos g, if_pos g]; rfl
      · rw [if_neg g, if_neg g, rdI_e (by omega), Int.toNat_natCast, e7]; rfl
  · have hs : kSz C e = kAr C (e - kR C) + 1 := if_neg q
    have zz : ((e : Int) - (kR C : Int)).toNat = e - kR C := by omega
    have ze : ((e : Int) - (kR C : Int)) = ((e - kR C : Nat) : Int) := by omega
    rw [if_neg (show ¬ (e : Int) < (kR C : Int) by omega), if_neg q, k_inputsOf r w (by omega), bX_some, zz, w32_id (by omega), w32_id (by omega)]
    by_cases z : j = kAr C (e - kR C)
    · rw [if_pos (show (j : Int) = (kAr C (e - kR C) : Int) by omega), if_pos z, k_netOfGate r w, bX_some, bX_some, if_neg (by omega)]
      congr 1; omega
    · have e5 := r.2.2.1 (3 * (e - kR C) + j) (by have := w.ar (g := e - kR C) (by omega); omega)
      have hp := w.p (g := e - kR C) (k := j) (by omega) (by omega)
      have z3 : (3 * ((e : Int) - (kR C : Int)) + (j : Int)).toNat = 3 * (e - kR C) + j := by omega
      have := w.ar (g := e - kR C) (by omega)
      rw [if_neg (show ¬ (j : Int) = (kAr C (e - kR C) : Int) by omega), if_neg z, rdI_e (by omega), z3, e5, bX_some, if_neg (by omega)]
/-- what holds of the touched nets: each once, nets of the chip -/
def TOk (C : Chp) (tc : Nat) (t : Nat → Nat) : Prop := (∀ i, i < tc → t i < kN C) ∧ ∀ i j, i < tc → j < tc → t i = t j → i = j
theorem k_touch (hk : k < 4) (r : RepK S (344 + 22 * k) C) (w : WFC C) {e tc : Nat} {t : Nat → Nat} (he : e < kE C) (h : KTch S tc t) (ok : TOk C tc t) (h4 : tc + kSz C e ≤ 8) :
    WP (mX14_touch S (344 + 22 * k) (e : Int)) (fun z => Ch 226 228 S z ∧ ∃ tc' t', KTch z tc' t' ∧ TOk C tc' t' ∧ tc' ≤ tc + kSz C e ∧ (∀ i, i < tc → ∃ i', i' < tc' ∧ t' i' = t i) ∧ ∀ j, j < kSz C e → 0 ≤ kNp C e j → ∃ i, i < tc' ∧ (t' i : Int) = kNp C e j) := by
  have hn := w.nums
  unfold mX14_touch
  refine WP_call (R := fun z => Ch 226 228 S z ∧ ∃ tc' t', KTch z tc' t' ∧ TOk C tc' t' ∧ tc' ≤ tc + kSz C e ∧ (∀ i, i < tc → ∃ i', i' < tc' ∧ t' i' = t i) ∧ ∀ j, j < kSz C e → 0 ≤ kNp C e j → ∃ i, i < tc' ∧ (t' i : Int) = kNp C e j) ?_ (fun z hz => WP_some.2 hz)
  refine WP_cnt (kSz C e) (fun j z => z.1 = (j : Int) ∧ Ch 226 228 S z.2 ∧ ∃ tc' t', KTch z.2 tc' t' ∧ TOk C tc' t' ∧ tc' ≤ tc + j ∧ (∀ i, i < tc → ∃ i', i' < tc' ∧ t' i' = t i) ∧ ∀ j', j' < j → 0 ≤ kNp C e j' → ∃ i, i < tc' ∧ (t' i : Int) = kNp C e j') (by unfold cFU; omega) ⟨rfl, Ch.refl, tc, t, h, ok, Nat.le_refl _, fun i hi => ⟨i, hi, rfl⟩, fun j hj => absurd hj (Nat.not_lt_zero _)⟩ (fun j z hj hI => ?_) (fun z hI => ?_)
  · obtain ⟨z1, z2⟩ := z
    obtain ⟨b1, b2, tc', t', b3, b4, b5, b6, b7⟩ := hI
    dsimp only at b1 b2 b3
    subst b1
    have rz : RepK z2 (344 + 22 * k) C := r.ch b2 (by omega)
    have np := kNp_lt w he hj
    have szr := kSz_rng w he
    obtain ⟨x, hx⟩ : ∃ x, (if kNp C e j < 0 then -1 else kNp C e j) = x := ⟨_, rfl⟩
    have xr : -1 ≤ x ∧ x < (kN C : Int) ∧ (0 ≤ kNp C e j → x = kNp C e j) := by
      rw [← hx]; split <;> omega
    unfold mX14_touch_L2
    dsimp only
    rw [k_sizeE rz w he, bX_some, w32_id (by omega), w32_id (by omega), if_pos (by omega), k_netOfPin2 rz w he hj, hx, bX_some, w32_id (by omega), k_touch35 b3 (fun i hi => by have := b4.1 i hi; omega) (by omega) (by omega), bX_some, w32_b2i]
    by_cases q : (decide (x = -1) || anyN (fun i => decide ((t' i : Int) = x)) tc') = true
    · rw [q, if_neg (by decide), bX_some]
      refine WP_some.2 ⟨by show (j : Int) + 1 = _; omega, b2, tc', t', b3, b4, by omega, b6, fun j' hj' g => ?_⟩
      by_cases l : j' = j
      · subst l
        have ex := xr.2.2 g
        rw [decide_eq_false (by omega), Bool.false_or] at q
        obtain ⟨i, i1, i2⟩ := anyN_t.1 q
        exact ⟨i, i1, by rw [← ex]; exact of_decide_eq_true i2⟩
      · exact b7 j' (by omega) g
    · have q' := Bool.eq_false_iff.2 q
      rw [Bool.or_eq_false_iff] at q'
      have x0 : 0 ≤ x := by have := of_decide_eq_false q'.1; omega
      obtain ⟨n, rfl⟩ : ∃ n : Nat, x = (n : Int) := ⟨x.toNat, by omega⟩
      have nn : ∀ i, i < tc' → t' i ≠ n := fun i hi g => by
        have : anyN (fun i => decide ((t' i : Int) = (n : Int))) tc' = true := anyN_t.2 ⟨i, hi, decide_eq_true (by rw [g])⟩
        rw [q'.2] at this; exact absurd this (by decide)
      rw [Bool.eq_false_iff.2 q, if_pos (by decide), wf_eq, b3.1, wrI_e (by omega), Int.toNat_natCast, bX_some]
      refine WP_some.2 ⟨by show (j : Int) + 1 = _; omega, (b2.sI (by omega)).sI (by omega), tc' + 1, updN t' tc' n, ⟨?_, fun i hi => ?_⟩, ⟨fun i hi => ?_, fun i i2 hi hi2 g => ?_⟩, by omega, fun i hi => ?_, fun j' hj' g => ?_⟩
      · dsimp only; rw [hI_sI_a (by omega), gI_set, w32_id (by omega)]; omega
      · dsimp only
        by_cases l : i = tc'
        · rw [l, updN_eq, gI_set, w32_id (by omega)]
        · rw [updN_ne l, hI_sI_i l, hI_sI_a (by omega)]; exact b3.2 i (by omega)
      · by_cases l : i = tc'
        · rw [l, updN_eq]; omega
        · rw [updN_ne l]; exact b4.1 i (by omega)
      · by_cases l : i = tc'
        · by_cases l2 : i2 = tc'
          · omega
          · rw [l, updN_eq, updN_ne l2] at g; exact absurd g.symm (nn i2 (by omega))
        · by_cases l2 : i2 = tc'
          · rw [l2, updN_eq, updN_ne l] at g; exact absurd g (nn i (by omega))
          · rw [updN_ne l, updN_ne l2] at g; exact b4.2 i i2 (by omega) (by omega) g
      · obtain ⟨i', i1, i2⟩ := b6 i hi
        exact ⟨i', by omega, by rw [updN_ne (by omega)]; exact i2⟩
      · by_cases l : j' = j
        · subst l
          exact ⟨tc', by omega, by rw [updN_eq]; exact xr.2.2 g⟩
        · obtain ⟨i', i1, i2⟩ := b7 j' (by omega) g
          exact ⟨i', by omega, by rw [updN_ne (by omega)]; exact i2⟩
  · obtain ⟨z1, z2⟩ := z
    obtain ⟨b1, b2, tc', t', b3, b4, b5, b6, b7⟩ := hI
    dsimp only at b1 b2 b3
    subst b1
    have rz : RepK z2 (344 + 22 * k) C := r.ch b2 (by omega)
    have szr := kSz_rng w he
    unfold mX14_touch_L2
    dsimp only
    rw [k_sizeE rz w he, bX_some, w32_id (by omega), if_neg (by omega)]
    exact WP_some.2 ⟨b2, tc', t', b3, b4, b5, b6, b7⟩
/-- their wires -/
theorem k_sum14 (hk : k < 4) {xs ys : Nat → Int} (hp : KPins S C (kPins C)) (hg : gR S 219 0 = 344 + 22 * k) (w : WFC C) (wp : WFP (plX C xs ys)) (rP : RepP S (344 + 22 * k) (plX C xs ys)) (h0 : C 16 0 ≠ 0) {tc : Nat} {t : Nat → Nat} (h : KTch S tc t) (ok : TOk C tc t) (h8 : tc ≤ 8) :
    mX14_sum S = some (tSum (kWire (plX C xs ys)) t tc) ∧ 0 ≤ tSum (kWire (plX C xs ys)) t tc ∧ tSum (kWire (plX C xs ys)) t tc ≤ 800 := by
  have wx : WFC (plX C xs ys) := w.fc (fun f i q => plX_o (by omega))
  have hp' : KPins S (plX C xs ys) (kPins (plX C xs ys)) := by rw [kPins_pl]; exact hp
  have rng : ∀ i, i ≤ tc → 0 ≤ tSum (kWire (plX C xs ys)) t i ∧ tSum (kWire (plX C xs ys)) t i ≤ 100 * i := fun i => by
    induction i with
    | zero => exact fun _ => ⟨Int.le_refl _, Int.le_refl _⟩
    | succ i ih =>
      intro hi
      have := ih (by omega)
      have := kWire_rng wx wp h0 (t i) (kMany_pos wx (ok.1 i (by omega)))
      show 0 ≤ tSum (kWire (plX C xs ys)) t i + kWire (plX C xs ys) (t i) ∧ tSum (kWire (plX C xs ys)) t i + kWire (plX C xs ys) (t i) ≤ _
      omega
  refine ⟨?_, (rng tc (Nat.le_refl _)).1, by have := (rng tc (Nat.le_refl _)).2; omega⟩
  have hn := w.nums
  unfold mX14_sum
  have key : WP (lpF (mX14_sum_L4 S) (0, 0)) (fun z => z = tSum (kWire (plX C xs ys)) t tc) := by
    refine WP_cnt tc (fun i z => z.2 = (i : Int) ∧ z.1 = tSum (kWire (plX C xs ys)) t i) (by unfold cFU; omega) ⟨rfl, rfl⟩ (fun i z hi hI => ?_) (fun z hI => ?_)
    · obtain ⟨b1, b2⟩ := hI
      unfold mX14_sum_L4
      rw [h.1, b1, w32_id (by omega), w32_id (by omega), if_pos (by omega), rdI_e (by omega), Int.toNat_natCast, h.2 i hi, k_wire hp' hk rfl hg wx wp rP h0 (ok.1 i hi), bX_some, b2]
      exact WP_some.2 ⟨by show (i : Int) + 1 = _; omega, rfl⟩
    · obtain ⟨b1, b2⟩ := hI
      unfold mX14_sum_L4
      rw [h.1, b1, w32_id (by omega), if_neg (by omega)]
      exact WP_some.2 b2
  rw [key.of, bX_some]
/-- an exchange -/
theorem k_exch (hk : k < 4) (w : WFC C) {xs ys : Nat → Int} (rP : RepP S (344 + 22 * k) (plX C xs ys)) (h0 : C 16 0 ≠ 0) {a b : Nat} (ha : a < kE C) (hb : b < kE C) :
    WP (mX14_exchange S (344 + 22 * k) (a : Int) (b : Int)) (fun z => RepP z (344 + 22 * k) (plX C (sw xs a b) (sw ys a b)) ∧ ChX k C S z ∧ ∀ c i, 226 ≤ c → c ≤ 228 → gI z c i = gI S c i) := by
  have hn := w.nums
  have hE : kE C ≤ 156 := by unfold kE; omega
  obtain ⟨⟨p1, p2, p3⟩, p4⟩ := rP
  have q4 : ∀ e, e < kE C → gI S (344 + 22 * k + 10) e = xs e ∧ gI S (344 + 22 * k + 11) e = ys e := fun e he => p4 h0 e he
  have i32x : ∀ e, e < kE C → w32 (xs e) = xs e ∧ w32 (ys e) = ys e := fun e he => by rw [← (q4 e he).1, ← (q4 e he).2, w32_gI, w32_gI]; exact ⟨rfl, rfl⟩
  unfold mX14_exchange
  rw [rdI_e (by omega), Int.toNat_natCast, rdI_e (by omega), Int.toNat_natCast, rdI_e (by omega), Int.toNat_natCast, wrI_e (by omega), Int.toNat_natCast, rdI_e (by omega), Int.toNat_natCast, hI_sI_a (by omega), wrI_e (by omega), Int.toNat_natCast, wrI_e (by omega), Int.toNat_natCast, wrI_e (by omega), Int.toNat_natCast, (q4 a ha).1, (q4 a ha).2, (q4 b hb).1, (q4 b hb).2]
  obtain ⟨z, hz⟩ : ∃ z, sI (sI (sI (sI S (344 + 22 * k + 10) a (xs b)) (344 + 22 * k + 11) a (ys b)) (344 + 22 * k + 10) b (xs a)) (344 + 22 * k + 11) b (ys a) = z := ⟨_, rfl⟩
  rw [hz]
  have zo : ∀ c i, c ≠ 344 + 22 * k + 10 → c ≠ 344 + 22 * k + 11 → gI z c i = gI S c i := fun c i h1 h2 => by rw [← hz, hI_sI_a h2, hI_sI_a h1, hI_sI_a h2, hI_sI_a h1]
  have zx : ∀ i, gI z (344 + 22 * k + 10) i = if i = b then xs a else if i = a then xs b else gI S (344 + 22 * k + 10) i := fun i => by
    rw [← hz, hI_sI_a (by omega), hI_sI]
    by_cases q : i = b
    · rw [if_pos ⟨rfl, q⟩, if_pos q, (i32x a ha).1]
    · rw [if_neg (fun g => q g.2), if_neg q, hI_sI_a (by omega), hI_sI]
      by_cases q2 : i = a
      · rw [if_pos ⟨rfl, q2⟩, if_pos q2, (i32x b hb).1]
      · rw [if_neg (fun g => q2 g.2), if_neg q2]
  have zy : ∀ i, gI z (344 + 22 * k + 11) i = if i = b then ys a else if i = a then ys b else gI S (344 + 22 * k + 11) i := fun i => by
    rw [← hz, hI_sI]
    by_cases q : i = b
    · rw [if_pos ⟨rfl, q⟩, if_pos q, (i32x a ha).2]
    · rw [if_neg (fun g => q g.2), if_neg q, hI_sI_a (by omega), hI_sI]
      by_cases q2 : i = a
      · rw [if_pos ⟨rfl, q2⟩, if_pos q2, (i32x b hb).2]
      · rw [if_neg (fun g => q2 g.2), if_neg q2, hI_sI_a (by omega)]
  have zh : (∀ c i, gL z c i = gL S c i) ∧ (∀ c i, gR z c i = gR S c i) ∧ nC z = nC S ∧ nS z = nS S := by rw [← hz]; exact ⟨fun _ _ => rfl, fun _ _ => rfl, rfl, rfl⟩
  refine WP_some.2 ⟨⟨⟨(zo _ _ (by omega) (by omega)).trans p1, (zo _ _ (by omega) (by omega)).trans p2, (zo _ _ (by omega) (by omega)).trans p3⟩, fun _ e he => ?_⟩, ⟨fun c i _ h1 h2 => zo c i h1 h2, fun i hi => ?_, fun c i _ => zh.1 c i, zh.2.1, zh.2.2.1, zh.2.2.2⟩, fun c i _ _ => zo c i (by omega) (by omega)⟩
  · show gI z (344 + 22 * k + 10) e = xs (pm a b e) ∧ gI z (344 + 22 * k + 11) e = ys (pm a b e)
    rw [zx, zy]
    unfold pm
    by_cases q : e = b
    · simp only [if_pos q]
      by_cases q2 : e = a
      · simp only [if_pos q2]
        have e2 : a = b := by omega
        rw [e2]; exact ⟨rfl, rfl⟩
      · simp only [if_neg q2, and_self]
    · simp only [if_neg q]
      by_cases q2 : e = a
      · simp only [if_pos q2, and_self]
      · simp only [if_neg q2]; exact q4 e he
  · rw [zx, zy, if_neg (by omega), if_neg (by omega), if_neg (by omega), if_neg (by omega)]; exact ⟨rfl, rfl⟩
/-- what is kept while a chip's places are tried -/
def KTry (k : Nat) (C : Chp) (S : Sto) (xs ys : Nat → Int) : Prop := RepK S (344 + 22 * k) C ∧ KPins S C (kPins C) ∧ gR S 219 0 = 344 + 22 * k ∧ WFP (plX C xs ys) ∧ RepP S (344 + 22 * k) (plX C xs ys)
theorem KTry.ch {z : Sto} {xs ys : Nat → Int} (h : KTry k C S xs ys) (g : Ch 226 228 S z) : KTry k C z xs ys :=
  ⟨h.1.ch g (by omega), h.2.1.mv (fun a i l1 l2 => g.1 a i (by omega)), (g.2.2.1 _ _).trans h.2.2.1, h.2.2.2.1, h.2.2.2.2.ch g (by omega)⟩
theorem k_better (hk : k < 4) (w : WFC C) (h0 : C 16 0 ≠ 0) {xs ys : Nat → Int} (h : KTry k C S xs ys) {a b : Nat} (ha : a < kE C) (hb : b < kE C) (hs : kSz C a = kSz C b) :
    WP (mX14_better S (344 + 22 * k) (a : Int) (b : Int)) (fun x => ChX k C S x.2 ∧
      (if kTot (plX C (sw xs a b) (sw ys a b)) (kN C) < kTot (plX C xs ys) (kN C) then x.1 = 1 ∧ KTry k C x.2 (sw xs a b) (sw ys a b) else x.1 = 0 ∧ KTry k C x.2 xs ys)) := by
  have hn := w.nums
  have sa := kSz_rng w ha
  have sb := kSz_rng w hb
  unfold mX14_better
  rw [wf_eq]
  have c1 : Ch 226 228 S (sI S 226 3 0) := Ch.refl.sI (by omega)
  have h1 := h.ch c1
  have t1 : KTch (sI S 226 3 0) 0 (fun _ => 0) := ⟨by rw [gI_set]; rfl, fun i hi => absurd hi (Nat.not_lt_zero _)⟩
  refine WP_call (k_touch hk h1.1 w ha t1 ⟨fun i hi => absurd hi (Nat.not_lt_zero _), fun i j hi => absurd hi (Nat.not_lt_zero _)⟩ (by omega)) (fun x2 hx2 => ?_)
  obtain ⟨c2, tc2, t2, k2, o2, n2, _, s2⟩ := hx2
  have h2 := h1.ch c2
  refine WP_call (k_touch hk h2.1 w hb k2 o2 (by omega)) (fun x3 hx3 => ?_)
  obtain ⟨c3, tc, t, k3, o3, n3, u3, s3⟩ := hx3
  have h3 := h2.ch c3
  have c03 : ChX k C S x3 := ((c1.tr c2 (by omega) (by omega)).tr c3 (by omega) (by omega)).X
  have cov : ∀ e, e = a ∨ e = b → ∀ j, j < kSz C e → 0 ≤ kNp C e j → ∃ i, i < tc ∧ (t i : Int) = kNp C e j := fun e he j hj g => by
    rcases he with rfl | rfl
    · obtain ⟨i, i1, i2⟩ := s2 j hj g
      obtain ⟨i', j1, j2⟩ := u3 i i1
      exact ⟨i', j1, by rw [j2]; exact i2⟩
    · exact s3 j hj g
  have bet := better_iff w (xs := xs) (ys := ys) (a := a) (b := b) o3.1 o3.2 cov
  have m3 := k_sum14 hk h3.2.1 h3.2.2.1 w h3.2.2.2.1 h3.2.2.2.2 h0 k3 o3 (by omega)
  rw [m3.1, bX_some]
  refine WP_call (k_exch hk w h3.2.2.2.2 h0 ha hb) (fun x5 hx5 => ?_)
  obtain ⟨p5, c5, e5⟩ := hx5
  have k5 : KTch x5 tc t := ⟨(e5 _ _ (by omega) (by omega)).trans k3.1, fun i hi => (e5 _ _ (by omega) (by omega)).trans (k3.2 i hi)⟩
  have h5 : KTry k C x5 (sw xs a b) (sw ys a b) := ⟨c5.K h3.1, h3.2.1.mv (fun a i l1 l2 => c5.1 a i (by omega) (by omega) (by omega)), (c5.2.2.2.1 _ _).trans h3.2.2.1, h3.2.2.2.1.sw ha hb hs, p5⟩
  have m5 := k_sum14 hk h5.2.1 h5.2.2.1 w h5.2.2.2.1 h5.2.2.2.2 h0 k5 o3 (by omega)
  rw [m5.1, bX_some, w32_id (by omega), w32_id (by omega)]
  by_cases q : kTot (plX C (sw xs a b) (sw ys a b)) (kN C) < kTot (plX C xs ys) (kN C)
  · rw [if_pos (bet.2 q)]
    simp only [if_pos q]
    exact WP_some.2 ⟨c03.tr c5, rfl, h5⟩
  · rw [if_neg (fun g => q (bet.1 g))]
    simp only [if_neg q]
    refine WP_call (k_exch hk w p5 h0 ha hb) (fun x7 hx7 => WP_some.2 ?_)
    obtain ⟨p7, c7, _⟩ := hx7
    rw [sw_sw, sw_sw] at p7
    exact ⟨(c03.tr c5).tr c7, rfl, c7.K h5.1, h5.2.1.mv (fun a i l1 l2 => c7.1 a i (by omega) (by omega) (by omega)), (c7.2.2.2.1 _ _).trans h5.2.2.1, h.2.2.2.1, p7⟩
end KBETTER
