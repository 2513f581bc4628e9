/-! the class's faults: a gate again, whether it is touched -/
section KAGAIN
variable {S : Sto} {k : Nat} {C : Chp}
/-- the word of a net as it is with a fault -/
def seenW (S : Sto) (n u : Nat) : Int64 := if gI S 267 n = 0 then gL S 265 (64 * n + u) else gL S 266 (64 * n + u)
/-- that word is right: V by patterns -/
def SeenOk (S : Sto) (C : Chp) (V : Nat → Nat → Bool) (n : Nat) : Prop := ∀ u i, u < kWds C → i < 64 → tb (seenW S n u) i = (V (64 * u + i) n && kMsk C i)
theorem k_seen (w : WFC C) {n u : Nat} (hn : n < 162) (hu : u < 64) : mX19_seen S (n : Int) (u : Int) = some (seenW S n u) := by
  have zt : (64 * (n : Int) + (u : Int)).toNat = 64 * n + u := by omega
  unfold mX19_seen seenW
  rw [rdZ_e (by omega), Int.toNat_natCast, w32_bz]
  by_cases q : gI S 267 n = 0
  · rw [if_neg (fun g => g (bz_eq0.2 q)), if_pos q, rdL_e (by omega), zt]; rfl
  · rw [if_pos (fun g => q (bz_eq0.1 g)), if_neg q, rdL_e (by omega), zt]; rfl
/-- words of a gate's inputs, one of them always b -/
def inW (S : Sto) (C : Chp) (g : Nat) (inp : Int) (b : Bool) (u j : Nat) : Int64 := if (j : Int) = inp then (if b = true then gL S 264 2 else 0) else seenW S (kP C g j) u
theorem k_again37 (hk : k < 4) (r : RepK S (344 + 22 * k) C) (w : WFC C) (hR : gR S 264 0 = 344 + 22 * k) {g u : Nat} {inp : Int} {b : Bool} (hg : g < kG C) (hu : u < 64) (hi : -1 ≤ inp ∧ inp < 3) {x1 : Int64} :
    lpF (mX19_again_L37 (x1, (u : Int), S) (g : Int) inp (b2i b)) (0, 0, 0, 0) = some ((if 0 < kAr C g then inW S C g inp b u 0 else 0), (if 1 < kAr C g then inW S C g inp b u 1 else 0), (if 2 < kAr C g then inW S C g inp b u 2 else 0)) := by
  have hn := w.nums
  have ar := w.ar hg
  refine WP.of ?_
  refine WP_cnt (kAr C g) (fun j z => z = ((if 0 < j then inW S C g inp b u 0 else 0), (if 1 < j then inW S C g inp b u 1 else 0), (if 2 < j then inW S C g inp b u 2 else 0), (j : Int))) (by unfold cFU; omega) rfl (fun j z hj hI => ?_) (fun z hI => ?_)
  · have hp := w.p hg hj
    have e5 := r.2.2.1 (3 * g + j) (by omega)
    rw [hp.1] at e5
    have zt : (3 * (g : Int) + (j : Int)).toNat = 3 * g + j := by omega
    unfold mX19_again_L37
    rw [hI]
    dsimp only
    rw [hR, gk_chip hk, k_inputsOf r w (by omega), bX_some, Int.toNat_natCast, w32_id (by omega), w32_id (by omega), if_pos (by omega), w32_id (by omega)]
    have key : (if (j : Int) = inp then (if w32 (b2i b) = 1 then some (gL S 264 2) else some 0) else gk (344 + 22 * k) 22 fun g7 => rdI 450 S (g7 + 7) ((3 * (g : Int)) + (j : Int)) fun v8 => bX (mX19_seen S v8 (u : Int)) fun x9 => some x9) = some (inW S C g inp b u j) := by
      unfold inW
      by_cases q : (j : Int) = inp
      · rw [if_pos q, if_pos q, w32_b2i]
        cases b with
        | true => rw [if_pos (by decide), if_pos rfl]
        | false => rw [if_neg (by decide), if_neg (by decide)]
      · rw [if_neg q, if_neg q, gk_chip hk, rdI_e (by omega), zt, e5, k_seen w (by omega) hu]; rfl
    rw [key, bX_some]
    rcases (by omega : j = 0 ∨ j = 1 ∨ j = 2) with rfl | rfl | rfl
    · exact WP_some.2 rfl
    · exact WP_some.2 rfl
    · exact WP_some.2 rfl
  · unfold mX19_again_L37
    rw [hI]
    dsimp only
    rw [hR, gk_chip hk, k_inputsOf r w (by omega), bX_some, Int.toNat_natCast, w32_id (by omega), if_neg (by omega)]
    exact WP_some.2 rfl
theorem idx3_bitsN {m : Nat} {f : Nat → Bool} (hm : m ≤ 3) {a b d : Bool} (h0 : 0 < m → a = f 0) (h1 : 1 < m → b = f 1) (h2 : 2 < m → d = f 2) : idx3 m a b d = bitsN m f := by
  unfold idx3
  refine bitsN_congr (fun k hk => ?_)
  by_cases q : k = 0
  · subst q; rw [if_pos rfl]; exact h0 (by omega)
  · rw [if_neg q]
    by_cases q1 : k = 1
    · subst q1; rw [if_pos rfl]; exact h1 (by omega)
    · have : k = 2 := by omega
      subst this; rw [if_neg q1]; exact h2 (by omega)
theorem Int64_or0 {x y : Int64} : x ||| y = 0 ↔ x = 0 ∧ y = 0 := by
  constructor
  · intro h
    have e : ∀ i, tb x i = false ∧ tb y i = false := fun i => by
      have : tb (x ||| y) i = false := by rw [h, tb_0]
      rw [tb_or, Bool.or_eq_false_iff] at this; exact this
    exact ⟨tb_ext (fun i _ => by rw [(e i).1, tb_0]), tb_ext (fun i _ => by rw [(e i).2, tb_0])⟩
  · rintro ⟨rfl, rfl⟩; rfl
theorem Int64_xor0 {x y : Int64} : x ^^^ y = 0 ↔ x = y := by
  constructor
  · intro h
    refine tb_ext (fun i _ => ?_)
    have : tb (x ^^^ y) i = false := by rw [h, tb_0]
    rw [tb_xor] at this
    cases hx : tb x i <;> cases hy : tb y i <;> rw [hx, hy] at this <;> first | rfl | exact absurd this (by decide)
  · rintro rfl; exact tb_ext (fun i _ => by rw [tb_xor, tb_0]; cases tb x i <;> rfl)
/-- words of faults alone are changed -/
def Ch66 (S z : Sto) : Prop := (∀ a i, gI z a i = gI S a i) ∧ (∀ a i, a ≠ 266 → gL z a i = gL S a i) ∧ (∀ a i, gR z a i = gR S a i) ∧ nC z = nC S ∧ nS z = nS S
/-- and what tells whether they are others -/
def Ch67 (S z : Sto) : Prop := (∀ a i, a ≠ 267 → gI z a i = gI S a i) ∧ (∀ a i, a ≠ 266 → gL z a i = gL S a i) ∧ (∀ a i, gR z a i = gR S a i) ∧ nC z = nC S ∧ nS z = nS S
theorem Ch66.refl : Ch66 S S := ⟨fun _ _ => rfl, fun _ _ _ => rfl, fun _ _ => rfl, rfl, rfl⟩
theorem Ch67.refl : Ch67 S S := ⟨fun _ _ _ => rfl, fun _ _ _ => rfl, fun _ _ => rfl, rfl, rfl⟩
theorem Ch66.sL {z : Sto} (h : Ch66 S z) {i : Nat} {v : Int64} : Ch66 S (sL z 266 i v) := ⟨fun a j => by rw [gI_sL]; exact h.1 a j, fun a j q => by rw [gL_sLn (.inl q)]; exact h.2.1 a j q, fun a j => by rw [gR_sL]; exact h.2.2.1 a j, h.2.2.2.1, h.2.2.2.2⟩
theorem Ch66.to {z : Sto} (h : Ch66 S z) : Ch67 S z := ⟨fun a i _ => h.1 a i, h.2⟩
theorem Ch67.sI {z : Sto} (h : Ch67 S z) {i : Nat} {v : Int} : Ch67 S (sI z 267 i v) := ⟨fun a j q => by rw [hI_sI_a q]; exact h.1 a j q, fun a j q => by rw [gL_sI]; exact h.2.1 a j q, fun a j => by rw [gR_sI]; exact h.2.2.1 a j, h.2.2.2.1, h.2.2.2.2⟩
theorem Ch67.tr {z y : Sto} (h : Ch67 S z) (g : Ch67 z y) : Ch67 S y := ⟨fun a i q => (g.1 a i q).trans (h.1 a i q), fun a i q => (g.2.1 a i q).trans (h.2.1 a i q), fun a i => (g.2.2.1 a i).trans (h.2.2.1 a i), g.2.2.2.1.trans h.2.2.2.1, g.2.2.2.2.trans h.2.2.2.2⟩
theorem Ch67.K {z : Sto} (h : Ch67 S z) (r : RepK S (344 + 22 * k) C) : RepK z (344 + 22 * k) C := r.cg (fun a i _ _ => h.1 a i (by omega))
theorem Ch67.F {z : Sto} (h : Ch67 S z) (r : KFl S k C) : KFl z k C := ⟨(h.2.2.1 _ _).trans r.1, (h.1 _ _ (by omega)).trans r.2.1, fun i hi => by rw [h.2.1 264 2 (by omega)]; exact r.2.2 i hi⟩
/-- what a gate again leaves -/
theorem k_again (hk : k < 4) (r : RepK S (344 + 22 * k) C) (w : WFC C) (h : KFl S k C) {g : Nat} {inp : Int} {b : Bool} {V : Nat → Nat → Bool} (hg : g < kG C) (hi : -1 ≤ inp ∧ inp < 3)
    (hin : ∀ j, j < kAr C g → (j : Int) ≠ inp → SeenOk S C V (kP C g j)) :
    WP (mX19_again S (g : Int) inp (b2i b)) (fun z => Ch67 S z ∧ (∀ n, n ≠ kB C + g → gI z 267 n = gI S 267 n) ∧ (∀ n u, n ≠ kB C + g → u < 64 → gL z 266 (64 * n + u) = gL S 266 (64 * n + u)) ∧
      ∀ u i, u < kWds C → i < 64 → tb (seenW z (kB C + g) u) i = ((kFn C g).testBit (bitsN (kAr C g) (fun j => if (j : Int) = inp then b else V (64 * u + i) (kP C g j))) && kMsk C i)) := by
  have hn := w.nums
  have kw := kWds_rng w
  have ar := w.ar hg
  have hc := w.c hg
  unfold mX19_again
  rw [h.1, gk_chip hk, k_netOfGate r w, bX_some]
  have key : WP (lpF (mX19_again_L16 (g : Int) inp (b2i b) ((kB C : Int) + (g : Int))) (0, 0, S)) (fun y => Ch66 S y.2 ∧ (∀ n u, n ≠ kB C + g → u < 64 → gL y.2 266 (64 * n + u) = gL S 266 (64 * n + u)) ∧
      (∀ u i, u < kWds C → i < 64 → tb (gL y.2 266 (64 * (kB C + g) + u)) i = ((kFn C g).testBit (bitsN (kAr C g) (fun j => if (j : Int) = inp then b else V (64 * u + i) (kP C g j))) && kMsk C i)) ∧ (y.1 = 0 → ∀ u, u < kWds C → gL y.2 266 (64 * (kB C + g) + u) = gL S 265 (64 * (kB C + g) + u))) := by
    refine WP_cnt (kWds C) (fun t y => y.2.1 = (t : Int) ∧ Ch66 S y.2.2 ∧ (∀ n u, n ≠ kB C + g → u < 64 → gL y.2.2 266 (64 * n + u) = gL S 266 (64 * n + u)) ∧
      (∀ u i, u < t → i < 64 → tb (gL y.2.2 266 (64 * (kB C + g) + u)) i = ((kFn C g).testBit (bitsN (kAr C g) (fun j => if (j : Int) = inp then b else V (64 * u + i) (kP C g j))) && kMsk C i)) ∧ (y.1 = 0 → ∀ u, u < t → gL y.2.2 266 (64 * (kB C + g) + u) = gL S 265 (64 * (kB C + g) + u))) (by unfold cFU; omega)
      ⟨rfl, Ch66.refl, fun _ _ _ _ => rfl, fun u i hu => absurd hu (Nat.not_lt_zero _), fun _ u hu => absurd hu (Nat.not_lt_zero _)⟩ (fun t y ht hI => ?_) (fun y hI => ?_)
    · obtain ⟨y1, y2, y3⟩ := y
      obtain ⟨b1, b2, b3, b4, b5⟩ := hI
      dsimp only at b1 b2 b3 b4 b5
      subst b1
      have ry : RepK y3 (344 + 22 * k) C := b2.to.K r
      have hy := b2.to.F h
      have e6 := ry.2.1 g hg
      have zt : (64 * ((kB C : Int) + (g : Int)) + (t : Int)).toNat = 64 * (kB C + g) + t := by omega
      have sw : ∀ j, j < kAr C g → seenW y3 (kP C g j) t = seenW S (kP C g j) t := fun j hj => by
        have hp := w.p hg hj
        unfold seenW
        rw [b2.1 267 _, b2.2.1 265 _ (by omega), b3 _ _ (by omega) (by omega)]
      unfold mX19_again_L16
      dsimp only
      rw [hy.2.1, w32_id (by omega), w32_id (by omega), if_pos (by omega), k_again37 hk ry w hy.1 hg (by omega) hi, bX_some, hy.1, gk_chip hk, rdI_e (by omega), Int.toNat_natCast, e6, hc.1]
      refine WP_call (k_word19 hk ry w hy.1 hc.2) (fun x hx => ?_)
      have hv : ∀ i, i < 64 → tb x i = ((kFn C g).testBit (bitsN (kAr C g) (fun j => if (j : Int) = inp then b else V (64 * t + i) (kP C g j))) && kMsk C i) := by
        intro i hi'
        rw [hx i hi', hy.2.2 i hi']
        cases hm : kMsk C i with
        | false => rw [Bool.and_false, Bool.and_false]
        | true =>
          have bit : ∀ j, j < kAr C g → tb (inW y3 C g inp b t j) i = (if (j : Int) = inp then b else V (64 * t + i) (kP C g j)) := by
            intro j hj
            unfold inW
            by_cases q : (j : Int) = inp
            · rw [if_pos q, if_pos q]
              cases b with
              | true => rw [if_pos rfl, hy.2.2 i hi', hm]
              | false => rw [if_neg (by decide), tb_0]
            · rw [if_neg q, if_neg q, sw j hj, hin j hj q t i ht hi', hm, Bool.and_true]
          have e : idx3 (kLi C (kC C g)) (tb (if 0 < kAr C g then inW y3 C g inp b t 0 else 0) i) (tb (if 1 < kAr C g then inW y3 C g inp b t 1 else 0) i) (tb (if 2 < kAr C g then inW y3 C g inp b t 2 else 0) i) = bitsN (kAr C g) (fun j => if (j : Int) = inp then b else V (64 * t + i) (kP C g j)) :=
            idx3_bitsN ar.2 (fun l => by have l' : 0 < kAr C g := l; rw [if_pos l']; exact bit 0 l') (fun l => by have l' : 1 < kAr C g := l; rw [if_pos l']; exact bit 1 l') (fun l => by have l' : 2 < kAr C g := l; rw [if_pos l']; exact bit 2 l')
          rw [e]; rfl
      rw [wrL_e (by omega), zt, rdL_e (by omega), zt, rdL_e (by omega), zt]
      have s1 : gL (sL y3 266 (64 * (kB C + g) + t) x) 266 (64 * (kB C + g) + t) = x := gL_sLe ⟨rfl, rfl⟩
      have s2 : gL (sL y3 266 (64 * (kB C + g) + t) x) 265 (64 * (kB C + g) + t) = gL S 265 (64 * (kB C + g) + t) := by rw [gL_sLn (.inl (by omega)), b2.2.1 265 _ (by omega)]
      rw [s1, s2]
      refine WP_some.2 ⟨by show (t : Int) + 1 = _; omega, b2.sL, fun n u hne hu => ?_, fun u i hu hi' => ?_, fun e0 u hu => ?_⟩
      · dsimp only; rw [gL_sLn (.inr (by omega))]; exact b3 n u hne hu
      · dsimp only
        by_cases q : u = t
        · subst q; rw [s1]; exact hv i hi'
        · rw [gL_sLn (.inr (by omega))]; exact b4 u i (by omega) hi'
      · dsimp only at e0 ⊢
        obtain ⟨a1, a2⟩ := Int64_or0.1 e0
        by_cases q : u = t
        · subst q; rw [s1]; exact Int64_xor0.1 a2
        · rw [gL_sLn (.inr (by omega))]; exact b5 a1 u (by omega)
    · obtain ⟨y1, y2, y3⟩ := y
      obtain ⟨b1, b2, b3, b4, b5⟩ := hI
      dsimp only at b1 b2 b3 b4 b5
      subst b1
      have hy := b2.to.F h
      unfold mX19_again_L16
      dsimp only
      rw [hy.2.1, w32_id (by omega), if_neg (by omega)]
      exact WP_some.2 ⟨b2, b3, b4, b5⟩
  refine WP_call key (fun y hy => ?_)
  obtain ⟨b2, b3, b4, b5⟩ := hy
  have zt : ((kB C : Int) + (g : Int)).toNat = kB C + g := by omega
  rw [wrI_e (by omega), zt]
  refine WP_some.2 ⟨b2.to.sI, fun n hne => ?_, fun n u hne hu => ?_, fun u i hu hi' => ?_⟩
  · rw [hI_sI_i hne]; exact b2.1 _ _
  · rw [gL_sI]; exact b3 n u hne hu
  · unfold seenW
    rw [gI_set, gL_sI, gL_sI]
    by_cases q0 : w32 (lCmp y.1 0) = 0
    · have q : y.1 = 0 := by rw [lCmp_eq0] at q0; exact q0
      rw [show (if ¬ w32 (lCmp y.1 0) = 0 then (1 : Int) else 0) = 0 from if_neg (fun g => g q0), if_pos (by decide), b2.2.1 265 _ (by omega), ← b5 q u hu]; exact b4 u i hu hi'
    · rw [show (if ¬ w32 (lCmp y.1 0) = 0 then (1 : Int) else 0) = 1 from if_pos q0, if_neg (by decide)]; exact b4 u i hu hi'
/-- whether some input of a gate differs -/
def tchN (S : Sto) (C : Chp) (g : Nat) : Nat → Bool
  | 0 => false
  | j + 1 => tchN S C g j || decide (gI S 267 (kP C g j) ≠ 0)
theorem tchN_f {S : Sto} {C : Chp} {g m : Nat} (h : tchN S C g m = false) : ∀ j, j < m → gI S 267 (kP C g j) = 0 := by
  induction m with
  | zero => exact fun j hj => absurd hj (Nat.not_lt_zero _)
  | succ m ih =>
    have h : (tchN S C g m || decide (gI S 267 (kP C g m) ≠ 0)) = false := h
    rw [Bool.or_eq_false_iff] at h
    intro j hj
    by_cases q : j = m
    · subst q; exact Decidable.not_not.1 (of_decide_eq_false h.2)
    · exact ih h.1 j (by omega)
theorem k_touches (hk : k < 4) (r : RepK S (344 + 22 * k) C) (w : WFC C) (hR : gR S 264 0 = 344 + 22 * k) {g : Nat} (hg : g < kG C) : mX19_touches S (g : Int) = some (b2i (tchN S C g (kAr C g))) := by
  have hn := w.nums
  have ar := w.ar hg
  have key : lpF (mX19_touches_L4 S (g : Int)) (0, 0) = some (b2i (tchN S C g (kAr C g))) := by
    refine WP.of ?_
    refine WP_cnt (kAr C g) (fun j z => z = (b2i (tchN S C g j), (j : Int))) (by unfold cFU; omega) rfl (fun j z hj hI => ?_) (fun z hI => ?_)
    · subst hI
      have hp := w.p hg hj
      have e5 := r.2.2.1 (3 * g + j) (by omega)
      rw [hp.1] at e5
      have zt : (3 * (g : Int) + (j : Int)).toNat = 3 * g + j := by omega
      unfold mX19_touches_L4
      dsimp only
      rw [hR, gk_chip hk, k_inputsOf r w (by omega), bX_some, Int.toNat_natCast, w32_id (by omega), w32_id (by omega), if_pos (by omega), gk_chip hk, rdI_e (by omega), zt, e5, rdZ_e (by omega), Int.toNat_natCast]
      refine WP_some.2 ?_
      show (aOr (b2i (tchN S C g j)) (bz (gI S 267 (kP C g j))), (j : Int) + 1) = (b2i (tchN S C g j || decide (gI S 267 (kP C g j) ≠ 0)), ((j + 1 : Nat) : Int))
      have e : bz (gI S 267 (kP C g j)) = b2i (decide (gI S 267 (kP C g j) ≠ 0)) := by
        unfold bz
        by_cases q : gI S 267 (kP C g j) = 0
        · rw [if_pos q, decide_eq_false (fun g => g q)]; rfl
        · rw [if_neg q, decide_eq_true q]; rfl
      rw [e, show (j : Int) + 1 = ((j + 1 : Nat) : Int) by omega]
      cases tchN S C g j <;> cases decide (gI S 267 (kP C g j) ≠ 0) <;> rfl
    · subst hI
      unfold mX19_touches_L4
      dsimp only
      rw [hR, gk_chip hk, k_inputsOf r w (by omega), bX_some, Int.toNat_natCast, w32_id (by omega), if_neg (by omega)]
      exact WP_some.2 rfl
  unfold mX19_touches
  rw [key, bX_some, gz_b2i]
/-- a net is always b -/
theorem k_setNet (w : WFC C) (h : KFl S k C) {n : Nat} {b : Bool} (hn : n < 162) :
    WP (mX19_setNet S (n : Int) (b2i b)) (fun z => Ch67 S z ∧ (∀ m, m ≠ n → gI z 267 m = gI S 267 m) ∧ (∀ m u, m ≠ n → u < 64 → gL z 266 (64 * m + u) = gL S 266 (64 * m + u)) ∧ ∀ u i, u < kWds C → i < 64 → tb (seenW z n u) i = (b && kMsk C i)) := by
  have kw := kWds_rng w
  have hw : ∀ z : Sto, KFl z k C → (if w32 (b2i b) = 1 then some (gL z 264 2) else some 0) = some (if b = true then gL z 264 2 else 0) := fun z hz => by
    rw [w32_b2i]
    cases b with
    | true => rw [if_pos (by decide), if_pos rfl]
    | false => rw [if_neg (by decide), if_neg (by decide)]
  unfold mX19_setNet
  refine WP_call (R := fun z => Ch66 S z ∧ (∀ m u, m ≠ n → u < 64 → gL z 266 (64 * m + u) = gL S 266 (64 * m + u)) ∧ ∀ u i, u < kWds C → i < 64 → tb (gL z 266 (64 * n + u)) i = (b && kMsk C i)) ?_ (fun z hz => ?_)
  · refine WP_cnt (kWds C) (fun t z => z.1 = (t : Int) ∧ Ch66 S z.2 ∧ (∀ m u, m ≠ n → u < 64 → gL z.2 266 (64 * m + u) = gL S 266 (64 * m + u)) ∧ ∀ u i, u < t → i < 64 → tb (gL z.2 266 (64 * n + u)) i = (b && kMsk C i)) (by unfold cFU; omega) ⟨rfl, Ch66.refl, fun _ _ _ _ => rfl, fun u i hu => absurd hu (Nat.not_lt_zero _)⟩ (fun t z ht hI => ?_) (fun z hI => ?_)
    · obtain ⟨b1, b2, b3, b4⟩ := hI
      have hz := b2.to.F h
      have zt : (64 * (n : Int) + (t : Int)).toNat = 64 * n + t := by omega
      unfold mX19_setNet_L2
      rw [hz.2.1, b1, w32_id (by omega), w32_id (by omega), if_pos (by omega), hw _ hz, bX_some, wrL_e (by omega), zt]
      refine WP_some.2 ⟨by show (t : Int) + 1 = _; omega, b2.sL, fun m u hne hu => ?_, fun u i hu hi => ?_⟩
      · dsimp only; rw [gL_sLn (.inr (by omega))]; exact b3 m u hne hu
      · dsimp only
        by_cases q : u = t
        · subst q
          rw [gL_sLe ⟨rfl, rfl⟩]
          cases b with
          | true => rw [if_pos rfl, hz.2.2 i hi, Bool.true_and]
          | false => rw [if_neg (by decide), tb_0, Bool.false_and]
        · rw [gL_sLn (.inr (by omega))]; exact b4 u i (by omega) hi
    · obtain ⟨b1, b2, b3, b4⟩ := hI
      have hz := b2.to.F h
      unfold mX19_setNet_L2
      rw [hz.2.1, b1, w32_id (by omega), if_neg (by omega)]
      exact WP_some.2 ⟨b2, b3, b4⟩
  · obtain ⟨b2, b3, b4⟩ := hz
    rw [wrI_e (by omega), Int.toNat_natCast]
    refine WP_some.2 ⟨b2.to.sI, fun m hne => ?_, fun m u hne hu => ?_, fun u i hu hi => ?_⟩
    · rw [hI_sI_i hne]; exact b2.1 _ _
    · rw [gL_sI]; exact b3 m u hne hu
    · unfold seenW
      rw [gI_set, gL_sI, gL_sI, if_neg (by decide)]
      exact b4 u i hu hi
end KAGAIN
