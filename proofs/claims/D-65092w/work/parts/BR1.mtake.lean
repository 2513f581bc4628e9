/-! the reference cuts a token -/
def TpM (S : Sto) (u : Nat → Int) (n : Nat) : Prop := gI S 2000 2 = (n : Int) ∧ (∀ i, i < n → gI S 2001 i % 256 = u i) ∧ n ≤ 4000
theorem TpM.n {S : Sto} {u : Nat → Int} {n : Nat} (h : TpM S u n) : gI S 2000 2 = (n : Int) := h.1
theorem TpM.t {S : Sto} {u : Nat → Int} {n : Nat} (h : TpM S u n) : ∀ i, i < n → gI S 2001 i % 256 = u i := h.2.1
theorem TpM.b {S : Sto} {u : Nat → Int} {n : Nat} (h : TpM S u n) : n ≤ 4000 := h.2.2
theorem TpM.u {S : Sto} {u : Nat → Int} {n : Nat} (t : TpM S u n) : ∀ i, i < n → 0 ≤ u i ∧ u i < 256 := fun i hi => by rw [← t.t i hi]; omega
/-- what may change: ints of some places, longs of some labels -/
def ChL (P : Nat → Nat → Prop) (Q : Nat → Nat → Prop) (S z : Sto) : Prop := (∀ a i, ¬ P a i → gI z a i = gI S a i) ∧ (∀ a i, ¬ Q a i → gL z a i = gL S a i) ∧ (∀ a i, gR z a i = gR S a i) ∧ nC z = nC S ∧ nS z = nS S
section MTK
variable {S S' z y : Sto} {u : Nat → Int} {n : Nat} {P P' Q Q' : Nat → Nat → Prop}
theorem ChL.refl : ChL P Q S S := ⟨fun _ _ _ => rfl, fun _ _ _ => rfl, fun _ _ => rfl, rfl, rfl⟩
theorem ChL.tr (h : ChL P Q S z) (g : ChL P' Q' z y) (e : ∀ a i, P' a i → P a i) (e2 : ∀ a i, Q' a i → Q a i) : ChL P Q S y := ⟨fun a i q => (g.1 a i (fun k => q (e a i k))).trans (h.1 a i q), fun a i q => (g.2.1 a i (fun k => q (e2 a i k))).trans (h.2.1 a i q), fun a i => (g.2.2.1 a i).trans (h.2.2.1 a i), g.2.2.2.1.trans h.2.2.2.1, g.2.2.2.2.trans h.2.2.2.2⟩
theorem ChL.sI (h : ChL P Q S z) {a i : Nat} {v : Int} (q : P a i) : ChL P Q S (sI z a i v) := ⟨fun b j g => by
  rw [hI_sI, if_neg (fun e => g (by rw [e.1, e.2]; exact q))]; exact h.1 b j g, h.2.1, h.2.2.1, h.2.2.2.1, h.2.2.2.2⟩
theorem ChL.sL (h : ChL P Q S z) {a i : Nat} {v : Int64} (q : Q a i) : ChL P Q S (sL z a i v) := ⟨h.1, fun b j g => by
  rw [gL_sL, if_neg (fun e => g (by rw [e.1, e.2]; exact q))]; exact h.2.1 b j g, h.2.2.1, h.2.2.2.1, h.2.2.2.2⟩
theorem ChL.ofW (h : ChW P S z) : ChL P Q S z := ⟨h.1, fun a i _ => h.2.1 a i, h.2.2.1, h.2.2.2.1, h.2.2.2.2⟩
theorem TpM.ch (t : TpM S u n) (g : ChL P Q S z) (e1 : ¬ P 2000 2) (e2 : ∀ i, ¬ P 2001 i) : TpM z u n := ⟨(g.1 _ _ e1).trans t.n, fun i hi => by rw [g.1 _ _ (e2 i)]; exact t.t i hi, t.b⟩
theorem chA_rng (hu : ∀ i, i < n → 0 ≤ u i ∧ u i < 256) {p : Nat} : -2147483648 ≤ chA u n p ∧ chA u n p < 2147483648 := by
  unfold chA; split
  · rename_i h; have := hu p h; omega
  · omega
theorem m_byteAt (t : TpM S u n) {p : Nat} (hp : p ≤ 100000) : mX23_byteAt S (p : Int) = some (chA u n p) := by
  have hb := t.b
  unfold mX23_byteAt chA
  rw [t.n, w32_id (by omega), w32_id (by omega)]
  by_cases h : p < n
  · rw [if_pos (by omega), if_pos h, rdI_e (by omega), Int.toNat_natCast, aAnd_255, t.t p h]; rfl
  · rw [if_neg (by omega), if_neg h]; rfl
theorem m_isBlank {v : Int} (h : -2147483648 ≤ v ∧ v < 2147483648) : mX23_isBlank v = some (b2i (blk v)) := by
  unfold mX23_isBlank blk b2i
  rw [w32_id h]
  by_cases h1 : v = 9 <;> by_cases h2 : v = 10 <;> by_cases h3 : v = 13 <;> by_cases h4 : v = 32 <;> first | omega | (simp [h1, h2, h3, h4, bX_some, gz_0, gz_1])
theorem m_isLetter {v : Int} (h : -2147483648 ≤ v ∧ v < 2147483648) : mX23_isLetter v = some (b2i (ltr v)) := k_isLetter h
theorem m_isDigit {v : Int} (h : -2147483648 ≤ v ∧ v < 2147483648) : mX23_isDigit v = some (b2i (dgt v)) := k_isDigit h
theorem m_isSign {v : Int} (h : -2147483648 ≤ v ∧ v < 2147483648) : mX23_isSign v = some (b2i (sgn v)) := by
  unfold mX23_isSign sgn b2i
  rw [w32_id h]
  by_cases g : v = 33 ∨ v = 38 ∨ v = 40 ∨ v = 41 ∨ v = 43 ∨ v = 44 ∨ v = 46 ∨ v = 58 ∨ v = 59 ∨ v = 61 ∨ v = 63 ∨ v = 64 ∨ v = 94 ∨ v = 123 ∨ v = 124 ∨ v = 125
  · rw [if_pos (decide_eq_true g)]
    rcases g with g | g | g | g | g | g | g | g | g | g | g | g | g | g | g | g <;> subst g <;> rfl
  · have gf : ¬ decide (v = 33 ∨ v = 38 ∨ v = 40 ∨ v = 41 ∨ v = 43 ∨ v = 44 ∨ v = 46 ∨ v = 58 ∨ v = 59 ∨ v = 61 ∨ v = 63 ∨ v = 64 ∨ v = 94 ∨ v = 123 ∨ v = 124 ∨ v = 125) = true := fun q => g (of_decide_eq_true q)
    rw [if_neg gf]
    simp only [not_or] at g
    obtain ⟨g1, g2, g3, g4, g5, g6, g7, g8, g9, g10, g11, g12, g13, g14, g15, g16⟩ := g
    simp only [if_pos g1, if_pos g2, if_pos g3, if_pos g4, if_pos g5, if_pos g6, if_pos g7, if_pos g8, if_pos g9, if_pos g10, if_pos g11, if_pos g12, if_pos g13, if_pos g14, if_pos g15, if_pos g16, if_neg g12, if_neg g16, bX_some]
    rfl
theorem chA_ltr {p : Nat} : ltr (chA u n p) = (decide (p < n) && ltr (u p)) := by
  unfold chA; split
  · rename_i h; rw [decide_eq_true h]; rfl
  · rename_i h; rw [decide_eq_false h]; rfl
theorem chA_dgt {p : Nat} : dgt (chA u n p) = (decide (p < n) && dgt (u p)) := by
  unfold chA; split
  · rename_i h; rw [decide_eq_true h]; rfl
  · rename_i h; rw [decide_eq_false h]; rfl
theorem chA_in {p : Nat} (h : p < n) : chA u n p = u p := if_pos h
/-- blanks and remarks -/
theorem m_remark (t : TpM S u n) {p : Nat} (hp : p < n) (hc : u p = 35) : WP (lpF (mX23_skip_L33 S) (p : Int)) (fun z => ∃ q : Nat, p < q ∧ q ≤ n ∧ z = (q : Int) ∧ sk u (n - q) false q = sk u (n - p) false p) := by
  have hb := t.b
  refine WP_lpF (fun z => ∃ q : Nat, p ≤ q ∧ q ≤ n ∧ z = (q : Int) ∧ sk u (n - q) true q = sk u (n - p) false p) (fun z => n - z.toNat) ⟨p, Nat.le_refl _, by omega, rfl, sk_cm (b := true) hp hc⟩ (by show n - _ < 1000000000000; omega) (fun z hz => ?_)
  obtain ⟨q, q1, q2, q3, q4⟩ := hz
  subst q3
  unfold mX23_skip_L33
  by_cases e : q < n
  · have hr := t.u q e
    rw [t.n, w32_id (by omega), w32_id (by omega), if_pos (by omega), m_byteAt t (by omega), bX_some, chA_in e, w32_id (by omega)]
    by_cases e2 : u q = 10
    · rw [if_neg (fun h => h e2), bX_some, if_neg (by decide)]
      refine WP_some.2 ⟨q, ?_, q2, rfl, ?_⟩
      · by_cases g : q = p
        · subst g; omega
        · omega
      · rw [← q4]; exact (sk_nl e e2).symm
    · rw [if_pos e2, bX_some, if_pos rfl]
      refine WP_some.2 ⟨⟨q + 1, by omega, by omega, by omega, ?_⟩, ?_⟩
      · rw [← q4]; exact (sk_in e e2).symm
      · omega
  · rw [t.n, w32_id (by omega), w32_id (by omega), if_neg (by omega), bX_some, if_neg (by decide)]
    refine WP_some.2 ⟨q, by omega, q2, rfl, ?_⟩
    rw [← q4, sk_end (by omega), sk_end (by omega)]
theorem m_skip (t : TpM S u n) {p : Nat} (hp : p ≤ n) : mX23_skip S (p : Int) = some ((skE u n p : Nat) : Int) := by
  have hb := t.b
  suffices h : WP (mX23_skip S (p : Int)) (fun x => x = ((skE u n p : Nat) : Int)) by
    obtain ⟨x, h1, h2⟩ := h
    rw [h1, h2]
  unfold mX23_skip
  refine WP_call (R := fun x => x = ((skE u n p : Nat) : Int)) ?_ (fun x hx => WP_some.2 hx)
  refine WP_lpF (fun z => ∃ q : Nat, q ≤ n ∧ z = (q : Int) ∧ sk u (n - q) false q = skE u n p) (fun z => n - z.toNat) ⟨p, hp, rfl, rfl⟩ (by show n - _ < 1000000000000; omega) (fun z hz => ?_)
  obtain ⟨q, q2, q3, q4⟩ := hz
  subst q3
  unfold mX23_skip_L2
  rw [m_byteAt t (by omega), bX_some, m_isBlank (chA_rng t.u), bX_some]
  simp only [bX_some, w32_b2i, b2i_eq0]
  by_cases e : q < n
  · have hr := t.u q e
    rw [chA_in e, w32_id (by omega)]
    by_cases gb : blk (u q) = true
    · have g35 : u q ≠ 35 := fun h => by rw [h] at gb; exact absurd gb (by decide)
      rw [gb]
      simp only [Bool.true_eq_false, if_false, bX_some, if_true, if_neg g35]
      refine WP_some.2 ⟨⟨q + 1, by omega, by omega, ?_⟩, by omega⟩
      rw [← q4]; exact (sk_bl e gb).symm
    · rw [bool_f gb]
      simp only [if_true]
      by_cases g35 : u q = 35
      · simp only [if_pos g35, bX_some, if_true]
        refine WP_call (m_remark t e g35) (fun y hy => ?_)
        obtain ⟨r, r1, r2, r3, r4⟩ := hy
        exact WP_some.2 ⟨⟨r, r2, r3, by rw [r4]; exact q4⟩, by omega⟩
      · simp only [if_neg g35, bX_some, Bool.false_eq_true, if_false]
        refine WP_some.2 ?_
        rw [← q4, sk_st (bool_f gb) g35]
        exact rfl
  · have ec : chA u n q = -1 := if_neg e
    rw [ec]
    refine WP_some.2 ?_
    rw [← q4, sk_end (by omega)]
    exact rfl
def PTk (T : Nat) (a i : Nat) : Prop := 2002 ≤ a ∧ a ≤ 2006 ∧ i = T
def QTk (T : Nat) (a i : Nat) : Prop := a = 2005 ∧ i = T
/-- what is kept of a name -/
def NwT (u : Nat → Int) (S : Sto) (T p e : Nat) : Prop := isPk (gL S 2005 T) (fB u p e) ∧ gI S 2006 T = (w4 (fB u p e) : Int)
/-- a token as the reference keeps it -/
def TkE (u : Nat → Int) (n : Nat) (S : Sto) (T p : Nat) : Prop := gI S 2002 T = tK u n p ∧ gI S 2003 T = (p : Int) ∧ (tK u n p ≠ 4 → gI S 2004 T = tV u n p) ∧ (tK u n p = 1 → NwT u S T p (tE u n p))
theorem fB_suc {p k : Nat} {t : Nat} : fB u p (p + (k + 1)) t = if t = k then (u (p + k)).toNat else fB u p (p + k) t := by
  unfold fB
  by_cases g : t = k
  · subst g; rw [if_pos (by omega), if_pos rfl]
  · rw [if_neg g]
    by_cases g2 : t < k
    · rw [if_pos (by omega), if_pos (by omega)]
    · rw [if_neg (by omega), if_neg (by omega)]
theorem isPk.cg {x : Int64} {f g : Nat → Nat} (h : isPk x f) (e : ∀ t, t < 8 → f t = g t) : isPk x g := fun i hi => by rw [h i hi, e _ (by omega)]
theorem or_add {a b s : Nat} (hb : b < 256) : (a * 2 ^ 8) * 2 ^ s ||| b * 2 ^ s = (a * 2 ^ 8) * 2 ^ s + b * 2 ^ s := by
  have h : b * 2 ^ s < 2 ^ (8 + s) := by
    rw [Nat.pow_add]; exact Nat.mul_lt_mul_of_pos_right (by omega) (Nat.two_pow_pos s)
  have e := or_shl (a := b * 2 ^ s) (b := a) h
  rw [Nat.pow_add, ← Nat.mul_assoc] at e
  exact e
/-- the letters of a name, one by one -/
theorem m_letters (t : TpM S u n) {p T : Nat} (hp : p < n) (hT : T ≤ 5000) (gT : gI z 2000 3 = (T : Int)) (g : ltr (u p) = true) (h5 : gL S 2005 T = 0) (h6 : gI S 2006 T = 0) :
    WP (lpF (mX23_take_L50 (p : Int) z) ((p : Int), S)) (fun y => y.1 = ((wE u n p : Nat) : Int) ∧ NwT u y.2 T p (wE u n p) ∧ ChL (fun a i => a = 2006 ∧ i = T) (QTk T) S y.2) := by
  have hn := t.b
  obtain ⟨r1, r2, r3, r4⟩ := rnE_spec (P := ldg) (u := u) (n - p) p
  have hw := wE_rng (u := u) hp g
  have ew : rnE ldg u (n - p) p = wE u n p := rfl
  rw [ew] at r1 r2 r3 r4
  have hl : ∀ i, p ≤ i → i < wE u n p → 48 ≤ u i ∧ u i < 128 := fun i h1 h2 => by
    have := r3 i h1 h2
    unfold ldg at this
    rw [Bool.or_eq_true] at this
    rcases this with q | q
    · have := of_decide_eq_true q; omega
    · have := of_decide_eq_true q; omega
  refine WP_cnt (wE u n p - p) (fun k s => s.1 = ((p + k : Nat) : Int) ∧ isPk (gL s.2 2005 T) (fB u p (p + k)) ∧ gI s.2 2006 T = (w4 (fB u p (p + k)) : Int) ∧ ChL (fun a i => a = 2006 ∧ i = T) (QTk T) S s.2) (by show _ < 1000000000000; omega) ⟨rfl, ?_, ?_, ChL.refl⟩ (fun k s hk hs => ?_) (fun s hs => ?_)
  · show isPk (gL S 2005 T) _
    rw [h5]
    exact isPk_0.cg (fun t _ => by unfold fB; rw [if_neg (by omega)])
  · show gI S 2006 T = _
    rw [h6]; unfold w4 fB; rw [if_neg (by omega), if_neg (by omega), if_neg (by omega), if_neg (by omega)]; rfl
  · obtain ⟨s1, s2⟩ := s
    obtain ⟨a1, a2, a3, a4⟩ := hs
    dsimp only at a1 a2 a3 a4
    subst a1
    have ts : TpM s2 u n := t.ch a4 (fun q => by omega) (fun i q => by omega)
    have hb := hl (p + k) (by omega) (by omega)
    have hlg := r3 (p + k) (by omega) (by omega)
    unfold mX23_take_L50
    dsimp only
    rw [m_byteAt ts (by omega), bX_some, m_isLetter (chA_rng ts.u), bX_some, chA_in (by omega)]
    simp only [bX_some, m_isDigit (show -2147483648 ≤ u (p + k) ∧ u (p + k) < 2147483648 by omega), w32_b2i, b2i_eq0]
    have hc : (if ltr (u (p + k)) = false then (if ¬ dgt (u (p + k)) = false then some true else some false) else some true) = some true := by
      unfold ldg at hlg
      cases h1 : ltr (u (p + k)) <;> cases h2 : dgt (u (p + k)) <;> rw [h1, h2] at hlg <;> simp at hlg ⊢
    rw [hc, bX_some, if_pos rfl, gT, show ((p + k : Nat) : Int) - (p : Int) = (k : Int) by omega, w32_id (by omega)]
    obtain ⟨b, eb⟩ : ∃ b : Nat, u (p + k) = (b : Int) := ⟨(u (p + k)).toNat, by omega⟩
    have eb' : (u (p + k)).toNat = b := by omega
    have hb1 : b < 128 := by omega
    rw [eb]
    by_cases c8 : k < 8
    · rw [if_pos (by omega), rdL_e (by omega), Int.toNat_natCast, bX_some, wrL_e (by omega), Int.toNat_natCast, if_neg (by omega), bX_some, if_neg (by decide), rdI_e (by omega), Int.toNat_natCast, bX_some, wrI_e (by omega), Int.toNat_natCast]
      refine WP_some.2 ⟨by dsimp only; omega, ?_, ?_, (a4.sL ⟨rfl, rfl⟩).sI ⟨rfl, rfl⟩⟩
      · dsimp only
        rw [gL_sI, gL_sL, if_pos ⟨rfl, rfl⟩, show (56 : Int) - 8 * (k : Int) = ((56 - 8 * k : Nat) : Int) by omega]
        refine (isPk_or a2 (by omega) (by omega) rfl ?_).cg (fun t _ => ?_)
        · unfold fB; rw [if_neg (by omega)]
        · rw [fB_suc, eb']
      · dsimp only
        rw [gI_sI_eq, gI_sL, w32_gI, a3]
        unfold w4
        rw [fB_suc, fB_suc, fB_suc, fB_suc, if_neg (by omega), if_neg (by omega), if_neg (by omega), if_neg (by omega)]
    · rw [if_neg (by omega), rdL_e (by omega), Int.toNat_natCast, bX_some, wrL_e (by omega), Int.toNat_natCast]
      have pk : isPk (gL s2 2005 T) (fB u p (p + (k + 1))) := a2.cg (fun t ht => by rw [fB_suc, if_neg (by omega)])
      have f0 : ∀ i, k ≤ i → fB u p (p + k) i = 0 := fun i hi => by unfold fB; rw [if_neg (by omega)]
      have ts2 : TpM (sL s2 2005 T (gL s2 2005 T)) u n := t.ch (a4.sL ⟨rfl, rfl⟩) (fun q => by omega) (fun i q => by omega)
      by_cases c12 : k < 12
      · have w4s : w4 (fB u p (p + (k + 1))) = w4 (fB u p (p + k)) ||| b * 2 ^ (24 - 8 * (k - 8)) ∧ w4 (fB u p (p + k)) < 2147483648 ∧ b * 2 ^ (24 - 8 * (k - 8)) < 2147483648 := by
          have hB := fun i => fB_lt (u := u) (p := p) (e := p + k) (fun t ht => by have := hl (p + t) (by omega) (by omega); omega) i
          unfold w4
          rw [fB_suc, fB_suc, fB_suc, fB_suc, eb']
          have h8 := hB 8; have h9 := hB 9; have h10 := hB 10; have h11 := hB 11
          have hk : k = 8 ∨ k = 9 ∨ k = 10 ∨ k = 11 := by omega
          rcases hk with e | e | e | e <;> subst e
          · rw [f0 8 (by omega), f0 9 (by omega), f0 10 (by omega), f0 11 (by omega)]
            have := or_add (a := 0) (b := b) (s := 24) (by omega)
            simp at this ⊢; omega
          · rw [f0 9 (by omega), f0 10 (by omega), f0 11 (by omega)]
            have := or_add (a := fB u p (p + 9) 8) (b := b) (s := 16) (by omega)
            simp at this ⊢
            rw [show fB u p (p + 9) 8 * 256 * 65536 = fB u p (p + 9) 8 * 16777216 by omega] at this
            rw [this]; omega
          · rw [f0 10 (by omega), f0 11 (by omega)]
            have := or_add (a := fB u p (p + 10) 8 * 256 + fB u p (p + 10) 9) (b := b) (s := 8) (by omega)
            have e1 : (fB u p (p + 10) 8 * 256 + fB u p (p + 10) 9) * 2 ^ 8 * 2 ^ 8 = fB u p (p + 10) 8 * 16777216 + fB u p (p + 10) 9 * 65536 := by omega
            rw [e1] at this
            simp at this ⊢; omega
          · rw [f0 11 (by omega)]
            have := or_add (a := fB u p (p + 11) 8 * 65536 + fB u p (p + 11) 9 * 256 + fB u p (p + 11) 10) (b := b) (s := 0) (by omega)
            have e1 : (fB u p (p + 11) 8 * 65536 + fB u p (p + 11) 9 * 256 + fB u p (p + 11) 10) * 2 ^ 8 * 2 ^ 0 = fB u p (p + 11) 8 * 16777216 + fB u p (p + 11) 9 * 65536 + fB u p (p + 11) 10 * 256 := by omega
            rw [e1] at this
            simp at this ⊢; omega
        rw [if_pos (by omega), if_pos (by omega), bX_some, if_pos rfl, rdI_e (by omega), Int.toNat_natCast, gI_sL, a3, m_byteAt ts2 (by omega), bX_some, chA_in (by omega), eb, show (24 : Int) - 8 * ((k : Int) - 8) = ((24 - 8 * (k - 8) : Nat) : Int) by omega, aShl_nat (by omega) w4s.2.2, aOr_nat w4s.2.1 w4s.2.2, ← w4s.1, bX_some, wrI_e (by omega), Int.toNat_natCast]
        have hB' := fun i => fB_lt (u := u) (p := p) (e := p + (k + 1)) (fun t ht => by have := hl (p + t) (by omega) (by omega); omega) i
        have hlt : w4 (fB u p (p + (k + 1))) < 2147483648 := by
          unfold w4; have h8 := hB' 8; have h9 := hB' 9; have h10 := hB' 10; have h11 := hB' 11; omega
        refine WP_some.2 ⟨by dsimp only; omega, ?_, ?_, (a4.sL ⟨rfl, rfl⟩).sI ⟨rfl, rfl⟩⟩
        · dsimp only; rw [gL_sI, gL_sL, if_pos ⟨rfl, rfl⟩]; exact pk
        · dsimp only; rw [gI_sI_eq, w32_id (by omega)]
      · rw [if_pos (by omega), if_neg (by omega), bX_some, if_neg (by decide), rdI_e (by omega), Int.toNat_natCast, bX_some, wrI_e (by omega), Int.toNat_natCast]
        refine WP_some.2 ⟨by dsimp only; omega, ?_, ?_, (a4.sL ⟨rfl, rfl⟩).sI ⟨rfl, rfl⟩⟩
        · dsimp only; rw [gL_sI, gL_sL, if_pos ⟨rfl, rfl⟩]; exact pk
        · dsimp only
          rw [gI_sI_eq, gI_sL, w32_gI, a3]
          unfold w4
          rw [fB_suc, fB_suc, fB_suc, fB_suc, if_neg (by omega), if_neg (by omega), if_neg (by omega), if_neg (by omega)]
  · obtain ⟨s1, s2⟩ := s
    obtain ⟨a1, a2, a3, a4⟩ := hs
    dsimp only at a1 a2 a3 a4
    have e : p + (wE u n p - p) = wE u n p := by omega
    rw [e] at a1 a2 a3
    subst a1
    have ts : TpM s2 u n := t.ch a4 (fun q => by omega) (fun i q => by omega)
    unfold mX23_take_L50
    dsimp only
    rw [m_byteAt ts (by omega), bX_some, m_isLetter (chA_rng ts.u), bX_some]
    simp only [bX_some, m_isDigit (chA_rng ts.u), w32_b2i, b2i_eq0, chA_ltr, chA_dgt]
    have hc : (if (decide (wE u n p < n) && ltr (u (wE u n p))) = false then (if ¬ (decide (wE u n p < n) && dgt (u (wE u n p))) = false then some true else some false) else some true) = some false := by
      by_cases q : wE u n p < n
      · have := r4 (by omega)
        unfold ldg at this
        cases h1 : ltr (u (wE u n p)) <;> cases h2 : dgt (u (wE u n p)) <;> rw [h1, h2] at this <;> simp at this ⊢
      · simp [q]
    rw [hc, bX_some, if_neg (by decide)]
    exact WP_some.2 ⟨rfl, ⟨a2, a3⟩, a4⟩
theorem m_digits (t : TpM S u n) {p T : Nat} (hp : p < n) (hT : T ≤ 5000) (gT : gI z 2000 3 = (T : Int)) (g : dgt (u p) = true) (h4 : gI S 2004 T = 0) :
    WP (lpF (mX23_take_L252 (p : Int) z) ((p : Int), S)) (fun y => y.1 = ((nE u n p : Nat) : Int) ∧ (nE u n p - p ≤ 6 → gI y.2 2004 T = dv u p (nE u n p - p)) ∧ ChL (fun a i => a = 2004 ∧ i = T) (QTk T) S y.2) := by
  have hn := t.b
  obtain ⟨r1, r2, r3, r4⟩ := rnE_spec (P := dgt) (u := u) (n - p) p
  have hw := nE_rng (u := u) hp g
  have ew : rnE dgt u (n - p) p = nE u n p := rfl
  rw [ew] at r1 r2 r3 r4
  refine WP_cnt (nE u n p - p) (fun k s => s.1 = ((p + k : Nat) : Int) ∧ (k ≤ 6 → gI s.2 2004 T = dv u p k) ∧ ChL (fun a i => a = 2004 ∧ i = T) (QTk T) S s.2) (by show _ < 1000000000000; omega) ⟨rfl, fun _ => h4, ChL.refl⟩ (fun k s hk hs => ?_) (fun s hs => ?_)
  · obtain ⟨s1, s2⟩ := s
    obtain ⟨a1, a2, a4⟩ := hs
    dsimp only at a1 a2 a4
    subst a1
    have ts : TpM s2 u n := t.ch a4 (fun q => by omega) (fun i q => by omega)
    have hd := r3 (p + k) (by omega) (by omega)
    have hu := t.u (p + k) (by omega)
    unfold mX23_take_L252
    dsimp only
    rw [m_byteAt ts (by omega), bX_some, m_isDigit (chA_rng ts.u), bX_some, chA_in (by omega), hd, if_pos (by decide), gT, show ((p + k : Nat) : Int) - (p : Int) = (k : Int) by omega, w32_id (by omega)]
    simp only [bX_some]
    by_cases c6 : k < 6
    · have hd1 := dv_rng (u := u) (p := p) (k := k + 1) (fun i hi => r3 (p + i) (by omega) (by omega))
      have p2 : (10 : Int) ^ (k + 1) ≤ 10 ^ 6 := by
        have := Nat.pow_le_pow_right (n := 10) (by omega) (show k + 1 ≤ 6 by omega)
        exact_mod_cast this
      have e6 : (10 : Int) ^ 6 = 1000000 := by decide
      rw [if_pos (by omega), rdI_e (by omega), Int.toNat_natCast, bX_some, wrI_e (by omega), Int.toNat_natCast, a2 (by omega)]
      refine WP_some.2 ⟨by dsimp only; omega, fun _ => ?_, a4.sI ⟨rfl, rfl⟩⟩
      dsimp only
      rw [gI_sI_eq]
      show w32 (dv u p (k + 1)) = _
      rw [w32_id (by omega)]
    · rw [if_neg (by omega), rdI_e (by omega), Int.toNat_natCast, bX_some, wrI_e (by omega), Int.toNat_natCast]
      exact WP_some.2 ⟨by dsimp only; omega, fun q => by omega, a4.sI ⟨rfl, rfl⟩⟩
  · obtain ⟨s1, s2⟩ := s
    obtain ⟨a1, a2, a4⟩ := hs
    dsimp only at a1 a2 a4
    have e : p + (nE u n p - p) = nE u n p := by omega
    rw [e] at a1
    subst a1
    have ts : TpM s2 u n := t.ch a4 (fun q => by omega) (fun i q => by omega)
    unfold mX23_take_L252
    dsimp only
    rw [m_byteAt ts (by omega), bX_some, m_isDigit (chA_rng ts.u), bX_some, chA_dgt]
    have hc : (decide (nE u n p < n) && dgt (u (nE u n p))) = false := by
      by_cases q : nE u n p < n
      · rw [r4 (by omega), Bool.and_false]
      · simp [q]
    rw [hc, if_neg (by decide)]
    exact WP_some.2 ⟨rfl, a2, a4⟩
end MTK
