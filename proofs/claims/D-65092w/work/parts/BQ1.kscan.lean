/-! the class's scanner: bytes, blanks, words -/
/-- a byte as the class sees it -/
def rw8 (c : Int) : Int := if c < 128 then c else c - 256
def PSc (a0 : Nat) (a i : Nat) : Prop := a = a0 ∧ 2 ≤ i ∧ i ≤ 9
/-- what stands behind a scanner -/
def TpK (S : Sto) (a0 : Nat) (u : Nat → Int) (n : Nat) : Prop := gR S a0 0 = 2 ∧ gI S a0 1 = (n : Int) ∧ (∀ i, i < n → gI S 2 i = rw8 (u i)) ∧ (∀ i, i < n → 0 ≤ u i ∧ u i < 256) ∧ n ≤ 4000 ∧ a0 ≠ 2
theorem TpK.r {S : Sto} {a0 : Nat} {u : Nat → Int} {n : Nat} (h : TpK S a0 u n) : gR S a0 0 = 2 := h.1
theorem TpK.n {S : Sto} {a0 : Nat} {u : Nat → Int} {n : Nat} (h : TpK S a0 u n) : gI S a0 1 = (n : Int) := h.2.1
theorem TpK.t {S : Sto} {a0 : Nat} {u : Nat → Int} {n : Nat} (h : TpK S a0 u n) : ∀ i, i < n → gI S 2 i = rw8 (u i) := h.2.2.1
theorem TpK.u {S : Sto} {a0 : Nat} {u : Nat → Int} {n : Nat} (h : TpK S a0 u n) : ∀ i, i < n → 0 ≤ u i ∧ u i < 256 := h.2.2.2.1
theorem TpK.b {S : Sto} {a0 : Nat} {u : Nat → Int} {n : Nat} (h : TpK S a0 u n) : n ≤ 4000 := h.2.2.2.2.1
theorem TpK.a {S : Sto} {a0 : Nat} {u : Nat → Int} {n : Nat} (h : TpK S a0 u n) : a0 ≠ 2 := h.2.2.2.2.2
section KSC
variable {S S' : Sto} {a0 : Nat} {u : Nat → Int} {n : Nat}
theorem TpK.cg (h : TpK S a0 u n) (g1 : gR S' a0 0 = gR S a0 0) (g2 : gI S' a0 1 = gI S a0 1) (g3 : ∀ i, gI S' 2 i = gI S 2 i) : TpK S' a0 u n :=
  ⟨g1.trans h.r, g2.trans h.n, fun i hi => (g3 i).trans (h.t i hi), h.u, h.b, h.a⟩
theorem TpK.ch (h : TpK S a0 u n) {P : Nat → Nat → Prop} (g : ChW P S S') (g1 : ¬ P a0 1) (g2 : ∀ i, ¬ P 2 i) : TpK S' a0 u n :=
  h.cg (g.2.2.1 a0 0) (g.1 _ _ g1) (fun i => g.1 _ _ (g2 i))
theorem TpK.chS (h : TpK S a0 u n) (g : ChW (PSc a0) S S') : TpK S' a0 u n := h.ch g (fun q => by have := q.2; omega) (fun i q => h.a q.1.symm)
theorem rw8_rng {c : Int} (h : 0 ≤ c ∧ c < 256) : -128 ≤ rw8 c ∧ rw8 c < 128 := by unfold rw8; split <;> omega
theorem rw8_eq {c k : Int} (h : 0 ≤ c ∧ c < 256) (hk : 0 ≤ k ∧ k < 128) : (rw8 c = k) = (c = k) := by
  unfold rw8; split
  · rfl
  · exact propext ⟨fun g => by omega, fun g => by omega⟩
theorem rw8_ltr {c : Int} (h : 0 ≤ c ∧ c < 256) : ltr (rw8 c) = ltr c := by
  unfold rw8 ltr; split
  · rfl
  · exact decide_eq_decide.2 ⟨fun g => by omega, fun g => by omega⟩
theorem rw8_dgt {c : Int} (h : 0 ≤ c ∧ c < 256) : dgt (rw8 c) = dgt c := by
  unfold rw8 dgt; split
  · rfl
  · exact decide_eq_decide.2 ⟨fun g => by omega, fun g => by omega⟩
theorem rw8_blk {c : Int} (h : 0 ≤ c ∧ c < 256) : blk (rw8 c) = blk c := by
  unfold rw8 blk; split
  · rfl
  · exact decide_eq_decide.2 ⟨fun g => by omega, fun g => by omega⟩
theorem rw8_sgn {c : Int} (h : 0 ≤ c ∧ c < 256) : sgn (rw8 c) = sgn c := by
  unfold rw8 sgn; split
  · rfl
  · exact decide_eq_decide.2 ⟨fun g => by omega, fun g => by omega⟩
theorem rw8_inj {c d : Int} (h : 0 ≤ c ∧ c < 256) (g : 0 ≤ d ∧ d < 256) : (rw8 c = rw8 d) = (c = d) := by
  unfold rw8
  refine propext ⟨fun q => ?_, fun q => by rw [q]⟩
  split at q <;> split at q <;> omega
theorem gk_tp {σ : Type} (h : gR S a0 0 = 2) {f : Nat → Option σ} : gk (gR S a0 0) 100 f = f 2 := by rw [h]; rfl
theorem k_isLetter {v : Int} (h : -2147483648 ≤ v ∧ v < 2147483648) : mX3_isLetter v = some (b2i (ltr v)) := by
  unfold mX3_isLetter ltr b2i
  rw [w32_id h]
  by_cases h1 : 97 ≤ v <;> by_cases h2 : 122 < v <;> by_cases h3 : 65 ≤ v <;> by_cases h4 : 90 < v <;> by_cases h5 : v = 95 <;> first | omega | (simp [h1, h2, h3, h4, h5, bX_some, gz_0, gz_1]; try omega)
theorem k_isDigit {v : Int} (h : -2147483648 ≤ v ∧ v < 2147483648) : mX3_isDigit v = some (b2i (dgt v)) := by
  unfold mX3_isDigit dgt b2i
  rw [w32_id h]
  by_cases h1 : 48 ≤ v <;> by_cases h2 : v ≤ 57 <;> first | omega | (simp [h1, h2, bX_some, gz_0, gz_1]; try omega)
theorem k_isSign {v : Int} (h : -2147483648 ≤ v ∧ v < 2147483648) : mX3_isSign v = some (b2i (sgn v)) := by
  unfold mX3_isSign sgn b2i
  rw [w32_id h]
  by_cases g : v = 33 ∨ v = 38 ∨ v = 40 ∨ v = 41 ∨ v = 43 ∨ v = 44 ∨ v = 46 ∨ v = 58 ∨ v = 59 ∨ v = 61 ∨ v = 63 ∨ v = 64 ∨ v = 94 ∨ v = 123 ∨ v = 124 ∨ v = 125
  · rw [if_pos (decide_eq_true g)]
    rcases g with g | g | g | g | g | g | g | g | g | g | g | g | g | g | g | g <;> subst g <;> rfl
  · have gf : ¬ decide (v = 33 ∨ v = 38 ∨ v = 40 ∨ v = 41 ∨ v = 43 ∨ v = 44 ∨ v = 46 ∨ v = 58 ∨ v = 59 ∨ v = 61 ∨ v = 63 ∨ v = 64 ∨ v = 94 ∨ v = 123 ∨ v = 124 ∨ v = 125) = true := fun q => g (of_decide_eq_true q)
    rw [if_neg gf]
    simp only [not_or] at g
    obtain ⟨g1, g2, g3, g4, g5, g6, g7, g8, g9, g10, g11, g12, g13, g14, g15, g16⟩ := g
    rw [if_neg g1, if_neg g2, if_neg g3, if_neg g4, if_neg g5, if_neg g6, if_neg g7, if_neg g8, if_neg g9, if_neg g10, if_neg g11, if_neg g12, if_neg g13, if_neg g14, if_neg g15, if_neg g16]
    rfl
/-- the sign at a place; 0 behind the end -/
def sgA (u : Nat → Int) (n p : Nat) : Int := if p < n then rw8 (u p) else 0
theorem k_sign (t : TpK S a0 u n) {p : Nat} (hp : p ≤ 100000) : mX3_sign S a0 (p : Int) = some (sgA u n p) := by
  unfold mX3_sign sgA
  have hb := t.b
  rw [t.n, w32_id (by omega), w32_id (by omega)]
  by_cases h : p < n
  · rw [if_pos (by omega), if_pos h, gk_tp t.r, rdI_e (by omega), Int.toNat_natCast, t.t p h]; rfl
  · rw [if_neg (by omega), if_neg h]; rfl
theorem sgA_rng (hu : ∀ i, i < n → 0 ≤ u i ∧ u i < 256) {p : Nat} : -2147483648 ≤ sgA u n p ∧ sgA u n p < 2147483648 := by
  unfold sgA; split
  · rename_i h; have := rw8_rng (hu p h); omega
  · omega
theorem sgA_ltr (hu : ∀ i, i < n → 0 ≤ u i ∧ u i < 256) {p : Nat} : ltr (sgA u n p) = (decide (p < n) && ltr (u p)) := by
  unfold sgA; split
  · rename_i h; rw [rw8_ltr (hu p h), decide_eq_true h]; rfl
  · rename_i h; rw [decide_eq_false h]; rfl
theorem sgA_dgt (hu : ∀ i, i < n → 0 ≤ u i ∧ u i < 256) {p : Nat} : dgt (sgA u n p) = (decide (p < n) && dgt (u p)) := by
  unfold sgA; split
  · rename_i h; rw [rw8_dgt (hu p h), decide_eq_true h]; rfl
  · rename_i h; rw [decide_eq_false h]; rfl
theorem sgA_k (hu : ∀ i, i < n → 0 ≤ u i ∧ u i < 256) {p : Nat} {k : Int} (hk : 1 ≤ k ∧ k < 128) : (sgA u n p = k) = (chA u n p = k) := by
  unfold sgA chA; split
  · rename_i h; exact rw8_eq (hu p h) (by omega)
  · exact propext ⟨fun g => by omega, fun g => by omega⟩
/-- blanks and remarks -/
def PB2 (a0 : Nat) (a i : Nat) : Prop := a = a0 ∧ i = 2
theorem sk_cm {p : Nat} {b : Bool} (h : p < n) (g : u p = 35) : sk u (n - p) true p = sk u (n - p) false p := by
  obtain ⟨f, hf⟩ : ∃ f, n - p = f + 1 := ⟨n - p - 1, by omega⟩
  rw [hf]
  unfold sk
  rw [if_pos rfl, if_neg (by omega), if_neg (by decide), if_neg (by unfold blk; rw [g]; decide), if_pos g]
theorem sk_nl {p : Nat} (h : p < n) (g : u p = 10) : sk u (n - p) true p = sk u (n - p) false p := by
  obtain ⟨f, hf⟩ : ∃ f, n - p = f + 1 := ⟨n - p - 1, by omega⟩
  rw [hf]
  unfold sk
  rw [if_pos rfl, if_pos g, if_neg (by decide), if_pos (by unfold blk; rw [g]; decide)]
theorem sk_in {p : Nat} (h : p < n) (g : u p ≠ 10) : sk u (n - p) true p = sk u (n - (p + 1)) true (p + 1) := by
  obtain ⟨f, hf⟩ : ∃ f, n - p = f + 1 := ⟨n - p - 1, by omega⟩
  rw [hf, show n - (p + 1) = f by omega]
  show sk u (f + 1) true p = _
  rw [sk, if_pos rfl, if_neg g]
theorem sk_bl {p : Nat} (h : p < n) (g : blk (u p) = true) : sk u (n - p) false p = sk u (n - (p + 1)) false (p + 1) := by
  obtain ⟨f, hf⟩ : ∃ f, n - p = f + 1 := ⟨n - p - 1, by omega⟩
  rw [hf, show n - (p + 1) = f by omega]
  show sk u (f + 1) false p = _
  rw [sk, if_neg (by decide), if_pos g]
theorem sk_st {p : Nat} (g : blk (u p) = false) (g2 : u p ≠ 35) : sk u (n - p) false p = p := by
  by_cases h : p < n
  · obtain ⟨f, hf⟩ : ∃ f, n - p = f + 1 := ⟨n - p - 1, by omega⟩
    rw [hf]
    rw [sk, if_neg (by decide), if_neg (by rw [g]; decide), if_neg g2]
  · rw [show n - p = 0 by omega]; rfl
theorem sk_end {p : Nat} {b : Bool} (h : n ≤ p) : sk u (n - p) b p = p := by rw [show n - p = 0 by omega]; rfl
theorem k_remark (t : TpK S a0 u n) {p : Nat} (hp : p < n) (h2 : gI S a0 2 = p) (hc : u p = 35) : WP (lpF (mX3_blanks_L33 a0) S) (fun z => ∃ q : Nat, p < q ∧ q ≤ n ∧ gI z a0 2 = q ∧ sk u (n - q) false q = sk u (n - p) false p ∧ ChW (PB2 a0) S z) := by
  have hb := t.b
  refine WP_lpF (fun z => ∃ q : Nat, p ≤ q ∧ q ≤ n ∧ gI z a0 2 = q ∧ sk u (n - q) true q = sk u (n - p) false p ∧ ChW (PB2 a0) S z) (fun z => n - (gI z a0 2).toNat) ⟨p, Nat.le_refl _, by omega, h2, sk_cm (b := true) hp hc, ChW.refl⟩ (by show n - _ < 1000000000000; omega) (fun z hz => ?_)
  obtain ⟨q, q1, q2, q3, q4, q5⟩ := hz
  have tz : TpK z a0 u n := t.ch q5 (fun h => absurd h.2 (by omega)) (fun i h => t.a h.1.symm)
  unfold mX3_blanks_L33
  by_cases e : q < n
  · have hr := rw8_rng (t.u q e)
    rw [q3, tz.n, w32_id (by omega), w32_id (by omega), if_pos (by omega), gk_tp tz.r, rdI_e (by omega), Int.toNat_natCast, tz.t q e, w32_id (by omega)]
    have e10 : (rw8 (u q) = 10) = (u q = 10) := rw8_eq (t.u q e) (by omega)
    by_cases e2 : u q = 10
    · rw [if_neg (by rw [e10]; exact fun h => h e2)]
      refine WP_some.2 ⟨q, ?_, q2, q3, ?_, q5⟩
      · by_cases g : q = p
        · subst g; omega
        · omega
      · rw [← q4]; exact (sk_nl e e2).symm
    · rw [if_pos (by rw [e10]; exact e2)]
      show WP (some (Sum.inl (sI z a0 2 ((q : Int) + 1)))) _
      refine WP_some.2 ⟨⟨q + 1, by omega, by omega, ?_, ?_, q5.sI ⟨rfl, rfl⟩⟩, ?_⟩
      · rw [gI_sI_eq, w32_id (by omega)]; omega
      · rw [← q4]; exact (sk_in e e2).symm
      · rw [gI_sI_eq, w32_id (by omega)]; omega
  · rw [q3, tz.n, w32_id (by omega), w32_id (by omega), if_neg (by omega)]
    refine WP_some.2 ⟨q, by omega, q2, q3, ?_, q5⟩
    rw [← q4, sk_end (by omega), sk_end (by omega)]
theorem k_blanks (t : TpK S a0 u n) {p : Nat} (hp : p ≤ n) (h2 : gI S a0 2 = p) : WP (mX3_blanks S a0) (fun z => gI z a0 2 = (skE u n p : Nat) ∧ ChW (PB2 a0) S z) := by
  have hb := t.b
  unfold mX3_blanks
  refine WP_call (R := fun z => gI z a0 2 = (skE u n p : Nat) ∧ ChW (PB2 a0) S z) ?_ (fun z hz => WP_some.2 hz)
  refine WP_lpF (fun z => ∃ q : Nat, q ≤ n ∧ gI z.2 a0 2 = q ∧ ChW (PB2 a0) S z.2 ∧ ((z.1 = 1 ∧ sk u (n - q) false q = skE u n p) ∨ (z.1 = 0 ∧ q = skE u n p))) (fun z => 2 * (n - (gI z.2 a0 2).toNat) + z.1.toNat) ⟨p, hp, h2, ChW.refl, Or.inl ⟨rfl, rfl⟩⟩ (by show 2 * (n - _) + 1 < 1000000000000; omega) (fun z hz => ?_)
  obtain ⟨q, q2, q3, q5, q6⟩ := hz
  obtain ⟨zf, z⟩ := z
  dsimp only at q3 q5 q6 ⊢
  have tz : TpK z a0 u n := t.ch q5 (fun h => absurd h.2 (by omega)) (fun i h => t.a h.1.symm)
  unfold mX3_blanks_L2
  dsimp only
  rcases q6 with ⟨q6, q7⟩ | ⟨q6, q7⟩
  · rw [q6, w32_1, if_pos (by decide), q3, tz.n, w32_id (by omega), w32_id (by omega)]
    by_cases e : q < n
    · rw [if_pos (by omega)]
      have hr := rw8_rng (t.u q e)
      rw [bX_some, if_pos rfl]
      rw [gk_tp tz.r, rdI_e (by omega), Int.toNat_natCast, tz.t q e, w32_id (by omega)]
      have e35 : (rw8 (u q) = 35) = (u q = 35) := rw8_eq (t.u q e) (by omega)
      have e9 : (rw8 (u q) = 9) = (u q = 9) := rw8_eq (t.u q e) (by omega)
      have e10 : (rw8 (u q) = 10) = (u q = 10) := rw8_eq (t.u q e) (by omega)
      have e13 : (rw8 (u q) = 13) = (u q = 13) := rw8_eq (t.u q e) (by omega)
      have e32 : (rw8 (u q) = 32) = (u q = 32) := rw8_eq (t.u q e) (by omega)
      simp only [e35, e9, e10, e13, e32]
      by_cases g : u q = 35
      · rw [if_pos g]
        refine WP_bX.2 ?_
        refine WP_call (k_remark tz e q3 g) (fun y hy => WP_some.2 ?_)
        obtain ⟨r, r1, r2, r3, r4, r5⟩ := hy
        refine WP_some.2 ⟨⟨r, r2, r3, q5.tr r5 (fun _ _ h => h), Or.inl ⟨rfl, by rw [r4]; exact q7⟩⟩, ?_⟩
        dsimp only
        rw [r3, Int.toNat_natCast]; show 2 * (n - r) + 1 < 2 * (n - q) + 1; omega
      · rw [if_neg g]
        have hbk : (bX (if ¬ u q = 9 then if ¬ u q = 10 then if ¬ u q = 13 then if u q = 32 then some true else some false else some true else some true else some true) fun b => if b = true then wf z a0 2 ((q : Int) + 1) fun S9 => some ((1 : Int), S9) else some (0, z)) = (if blk (u q) = true then some ((1 : Int), sI z a0 2 ((q : Int) + 1)) else some (0, z)) := by
          unfold blk
          by_cases g1 : u q = 9 <;> by_cases g2 : u q = 10 <;> by_cases g3 : u q = 13 <;> by_cases g4 : u q = 32 <;> first | omega | (simp [g1, g2, g3, g4, bX_some, wf_eq])
        rw [hbk]
        by_cases gb : blk (u q) = true
        · rw [if_pos gb]
          refine WP_some.2 ⟨⟨q + 1, by omega, ?_, q5.sI ⟨rfl, rfl⟩, Or.inl ⟨rfl, ?_⟩⟩, ?_⟩
          · dsimp only; rw [gI_sI_eq, w32_id (by omega)]; omega
          · rw [← q7]; exact (sk_bl e gb).symm
          · dsimp only; rw [gI_sI_eq, w32_id (by omega)]; show 2 * (n - ((q : Int) + 1).toNat) + 1 < 2 * (n - q) + 1; omega
        · rw [if_neg gb]
          refine WP_some.2 ⟨⟨q, q2, q3, q5, Or.inr ⟨rfl, ?_⟩⟩, ?_⟩
          · rw [← q7]; exact (sk_st (bool_f gb) g).symm
          · dsimp only; rw [q3, Int.toNat_natCast]; show 2 * (n - q) + 0 < 2 * (n - q) + 1; omega
    · rw [if_neg (by omega)]
      refine WP_some.2 ⟨?_, q5⟩
      rw [q3, ← q7, sk_end (by omega)]
  · rw [q6, w32_0, if_neg (by decide)]
    exact WP_some.2 ⟨by rw [q3, q7], q5⟩
/-- a text of letters is read -/
theorem k_reads (t : TpK S a0 u n) {b e : Nat} (h4 : gI S a0 4 = b) (h5 : gI S a0 5 = e) (he : b ≤ e ∧ e ≤ n) {l : List Int} (hl : l.length ≤ 100) (hx : ∀ i, i < l.length → 0 ≤ l.getD i 0 ∧ l.getD i 0 < 128) : mX3_reads S a0 l = some (if isTx u b e l then 1 else 0) := by
  have hb := t.b
  suffices h : WP (mX3_reads S a0 l) (fun x => x = if isTx u b e l then 1 else 0) by
    obtain ⟨x, h1, h2⟩ := h
    rw [h1, h2]
  unfold mX3_reads
  rw [h4, h5, w32_id (by omega), w32_id (by omega)]
  refine WP_call (R := fun x => x = if isTx u b e l then 1 else 0) ?_ (fun x hx => ?_)
  · refine WP_cnt l.length (fun k s => s.2 = (k : Int) ∧ ((s.1 = 1 ∧ e = b + l.length ∧ ∀ i, i < k → u (b + i) = l.getD i 0) ∨ (s.1 = 0 ∧ ¬ isTx u b e l))) (by show l.length < 1000000000000; omega) ⟨rfl, ?_⟩ (fun k s hk hs => ?_) (fun s hs => ?_)
    · by_cases g : e = b + l.length
      · exact Or.inl ⟨if_pos (by omega), g, fun i hi => absurd hi (by omega)⟩
      · exact Or.inr ⟨if_neg (by omega), fun q => g (isTx_iff.1 q).1⟩
    · obtain ⟨s1, s2⟩ := s
      obtain ⟨h1, h2⟩ := hs
      dsimp only at h1 h2
      subst h1
      unfold mX3_reads_L24
      dsimp only
      rw [w32_id (by omega), w32_id (by omega), if_pos (by omega)]
      rcases h2 with ⟨h2, h3, h6⟩ | ⟨h2, h3⟩
      · subst h2
        have hr := rw8_rng (t.u (b + k) (by omega))
        have hk2 := hx k hk
        rw [w32_1, if_pos (by decide)]
        rw [bX_some, if_pos rfl]
        rw [gk_tp t.r, h4, rdI_e (by omega), show ((b : Int) + (k : Int)).toNat = b + k by omega, t.t _ (by omega), rdC_e (by omega), Int.toNat_natCast, w32_id (by omega), w32_id (by omega)]
        have hq : (rw8 (u (b + k)) = l.getD k 0) ↔ (u (b + k) = l.getD k 0) := by rw [rw8_eq (t.u _ (by omega)) hk2]
        refine WP_some.2 ⟨by dsimp only; omega, ?_⟩
        dsimp only
        by_cases g : u (b + k) = l.getD k 0
        · refine Or.inl ⟨if_pos (hq.2 g), h3, fun i hi => ?_⟩
          by_cases g2 : i = k
          · rw [g2]; exact g
          · exact h6 i (by omega)
        · exact Or.inr ⟨if_neg (fun z => g (hq.1 z)), fun q => g ((isTx_iff.1 q).2 k hk)⟩
      · subst h2
        rw [w32_0, if_neg (by decide)]
        refine WP_some.2 ?_
        show (0 : Int) = _
        rw [if_neg h3]
    · obtain ⟨s1, s2⟩ := s
      obtain ⟨h1, h2⟩ := hs
      dsimp only at h1 h2
      subst h1
      unfold mX3_reads_L24
      dsimp only
      rw [w32_id (by omega), if_neg (by omega)]
      refine WP_some.2 ?_
      show s1 = _
      rcases h2 with ⟨h2, h3, h6⟩ | ⟨h2, h3⟩
      · rw [h2, if_pos (isTx_iff.2 ⟨h3, h6⟩)]
      · rw [h2, if_neg h3]
  · rw [hx]
    split
    · exact WP_some.2 rfl
    · exact WP_some.2 rfl
theorem k_wordOf (t : TpK S a0 u n) {b e : Nat} (h4 : gI S a0 4 = b) (h5 : gI S a0 5 = e) (he : b ≤ e ∧ e ≤ n) : mX3_wordOf S a0 = some (wdOf u b e) := by
  have r := fun (l : List Int) (h1 : l.length ≤ 100) (h2 : ∀ i, i < l.length → 0 ≤ l.getD i 0 ∧ l.getD i 0 < 128) => k_reads t h4 h5 he h1 h2
  have hw : ∀ {σ : Type} {P : Prop} [Decidable P] {A B : Option σ}, (if ¬ w32 (if P then (1 : Int) else 0) = 0 then A else B) = if P then A else B := by
    intro σ P _ A B
    by_cases h : P
    · rw [if_pos h, if_pos h, if_pos (by decide)]
    · rw [if_neg h, if_neg h, if_neg (by decide)]
  unfold mX3_wordOf wdOf
  rw [r _ (by decide) (by decide), r _ (by decide) (by decide), r _ (by decide) (by decide), r _ (by decide) (by decide), r _ (by decide) (by decide), r _ (by decide) (by decide), r _ (by decide) (by decide)]
  simp only [bX_some, hw]
  by_cases g1 : isTx u b e [109, 111, 100, 117, 108, 101]
  · simp only [if_pos g1, bX_some]
  by_cases g2 : isTx u b e [105, 110]
  · simp only [if_neg g1, if_pos g2, bX_some]
  by_cases g3 : isTx u b e [111, 117, 116]
  · simp only [if_neg g1, if_neg g2, if_pos g3, bX_some]
  by_cases g4 : isTx u b e [108, 101, 116]
  · simp only [if_neg g1, if_neg g2, if_neg g3, if_pos g4, bX_some]
  by_cases g5 : isTx u b e [114, 101, 103]
  · simp only [if_neg g1, if_neg g2, if_neg g3, if_neg g4, if_pos g5, bX_some]
  by_cases g6 : isTx u b e [117, 115, 101]
  · simp only [if_neg g1, if_neg g2, if_neg g3, if_neg g4, if_neg g5, if_pos g6, bX_some]
  by_cases g7 : isTx u b e [99, 101, 108, 108]
  · simp only [if_neg g1, if_neg g2, if_neg g3, if_neg g4, if_neg g5, if_neg g6, if_pos g7, bX_some]
  · simp only [if_neg g1, if_neg g2, if_neg g3, if_neg g4, if_neg g5, if_neg g6, if_neg g7, bX_some]
end KSC
