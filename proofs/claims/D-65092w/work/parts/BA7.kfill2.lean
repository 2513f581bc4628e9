/-! the class's words of all nets -/
section KFILL2
variable {S : Sto} {k : Nat} {C : Chp}
def kMsk (C : Chp) (i : Nat) : Bool := decide (6 ≤ kB C) || decide (i < 2 ^ kB C)
/-- what fill leaves -/
def KFl (S : Sto) (k : Nat) (C : Chp) : Prop := gR S 264 0 = 344 + 22 * k ∧ gI S 264 1 = (kWds C : Int) ∧ (∀ i, i < 64 → tb (gL S 264 2) i = kMsk C i)
def KWd (S : Sto) (C : Chp) (n u : Nat) : Prop := ∀ i, i < 64 → tb (gL S 265 (64 * n + u)) i = (kVal C (64 * u + i) n && kMsk C i)
theorem KFl.ch {S' : Sto} (h : KFl S k C) {lo hi : Nat} (g : Ch lo hi S S') (q : 264 < lo ∨ hi < 264) : KFl S' k C :=
  ⟨(g.2.2.1 _ _).trans h.1, (g.1 _ _ (by omega)).trans h.2.1, fun i hi => by rw [g.2.1 264 2 (by omega)]; exact h.2.2 i hi⟩
theorem k_in (hk : k < 4) (r : RepK S (344 + 22 * k) C) (w : WFC C) (hR : gR S 264 0 = 344 + 22 * k) {g j u : Nat} (hg : g < kG C) (hj : j < 3) (hu : u < 64) : mX19_in S 265 (g : Int) (j : Int) (u : Int) = some (if j < kAr C g then gL S 265 (64 * kP C g j + u) else 0) := by
  have hn := w.nums
  have ar := w.ar hg
  unfold mX19_in
  rw [hR, gk_chip hk, k_inputsOf r w (by omega), bX_some, Int.toNat_natCast, w32_id (by omega), w32_id (by omega)]
  by_cases q : j < kAr C g
  · have hp := w.p hg q
    have e4 := r.2.2.1 (3 * g + j) (by omega)
    rw [hp.1] at e4
    have zt : (3 * (g : Int) + (j : Int)).toNat = 3 * g + j := by omega
    have z2 : (64 * (kP C g j : Int) + (u : Int)).toNat = 64 * kP C g j + u := by omega
    rw [if_pos (by omega), gk_chip hk, rdI_e (by omega), zt, e4, rdL_e (by have : aN (kK 265) = 10368 := rfl; omega), z2, bX_some, if_pos q]
  · rw [if_neg (by omega), bX_some, if_neg q]
theorem idx3_congr {m : Nat} {a b d a' b' d' : Bool} (h0 : 0 < m → a = a') (h1 : 1 < m → b = b') (h2 : 2 < m → d = d') (hm : m ≤ 3) : idx3 m a b d = idx3 m a' b' d' := by
  unfold idx3
  refine bitsN_congr (fun k hk => ?_)
  by_cases q : k = 0
  · rw [if_pos q, if_pos q]; exact h0 (by omega)
  · rw [if_neg q, if_neg q]
    by_cases q1 : k = 1
    · rw [if_pos q1, if_pos q1]; exact h1 (by omega)
    · rw [if_neg q1, if_neg q1]; exact h2 (by omega)
theorem k_fill61 (hk : k < 4) (r : RepK S (344 + 22 * k) C) (w : WFC C) (h : KFl S k C) {u : Nat} (hu : u < kWds C) {s8 : Int × Sto} (h8 : s8.1 = (u : Int)) :
    WP (lpF (mX19_fill_L61 s8) (0, S)) (fun z => Ch 265 265 S z ∧ (∀ n, n < kB C → KWd z C n u) ∧ ∀ n v, v < 64 → v ≠ u → gL z 265 (64 * n + v) = gL S 265 (64 * n + v)) := by
  have hn := w.nums
  have kw := kWds_rng w
  refine WP_cnt (kB C) (fun n z => z.1 = (n : Int) ∧ Ch 265 265 S z.2 ∧ (∀ m, m < n → KWd z.2 C m u) ∧ ∀ n v, v < 64 → v ≠ u → gL z.2 265 (64 * n + v) = gL S 265 (64 * n + v)) (by unfold cFU; omega) ⟨rfl, Ch.refl, fun m hm => absurd hm (Nat.not_lt_zero _), fun _ _ _ _ => rfl⟩ (fun n z hn' hI => ?_) (fun z hI => ?_)
  · obtain ⟨b1, b2, b3, b4⟩ := hI
    have rz : RepK z.2 (344 + 22 * k) C := r.ch b2 (by omega)
    have hz := h.ch b2 (by omega)
    have zt : (64 * (n : Int) + (u : Int)).toNat = 64 * n + u := by omega
    unfold mX19_fill_L61
    rw [hz.1, gk_chip hk, k_bits rz w, bX_some, b1, h8, w32_id (by omega), w32_id (by omega), if_pos (by omega)]
    refine WP_call (k_pattern (n := n) (u := u) (by omega) (by omega)) (fun x hx => ?_)
    rw [wrL_e (by omega), zt]
    refine WP_some.2 ⟨by show (n : Int) + 1 = _; omega, b2.sL (by omega), fun m hm i hi => ?_, fun m v hv hne => ?_⟩
    · dsimp only
      by_cases q : m = n
      · subst q
        rw [gL_sLe ⟨rfl, rfl⟩, tb_and, hx i hi, hz.2.2 i hi]
        have e : kVal C (64 * u + i) m = (64 * u + i).testBit m := by show kValF C _ (-1) (-1) false m = _; rw [kValF_src hn', if_neg (by omega)]
        rw [e]
      · rw [gL_sLn (.inr (by omega))]; exact b3 m (by omega) i hi
    · dsimp only; rw [gL_sLn (.inr (by omega))]; exact b4 m v hv hne
  · obtain ⟨b1, b2, b3, b4⟩ := hI
    have rz : RepK z.2 (344 + 22 * k) C := r.ch b2 (by omega)
    have hz := h.ch b2 (by omega)
    unfold mX19_fill_L61
    rw [hz.1, gk_chip hk, k_bits rz w, bX_some, b1, w32_id (by omega), if_neg (by omega)]
    exact WP_some.2 ⟨b2, b3, b4⟩
theorem k_fill105 (hk : k < 4) (r : RepK S (344 + 22 * k) C) (w : WFC C) (h : KFl S k C) {u : Nat} (hu : u < kWds C) (h0 : ∀ n, n < kB C → KWd S C n u) {s8 : Int × Sto} (h8 : s8.1 = (u : Int)) :
    WP (lpF (mX19_fill_L105 s8) (0, S)) (fun z => Ch 265 265 S z ∧ (∀ n, n < kN C → KWd z C n u) ∧ ∀ n v, v < 64 → v ≠ u → gL z 265 (64 * n + v) = gL S 265 (64 * n + v)) := by
  have hn := w.nums
  have kw := kWds_rng w
  refine WP_cnt (kG C) (fun g z => z.1 = (g : Int) ∧ Ch 265 265 S z.2 ∧ (∀ m, m < kB C + g → KWd z.2 C m u) ∧ ∀ n v, v < 64 → v ≠ u → gL z.2 265 (64 * n + v) = gL S 265 (64 * n + v)) (by unfold cFU; omega) ⟨rfl, Ch.refl, fun m hm => h0 m (by omega), fun _ _ _ _ => rfl⟩ (fun g z hg hI => ?_) (fun z hI => ?_)
  · obtain ⟨b1, b2, b3, b4⟩ := hI
    have rz : RepK z.2 (344 + 22 * k) C := r.ch b2 (by omega)
    have hz := h.ch b2 (by omega)
    have eg := rz.1.2.2.2.1
    rw [w.g] at eg
    have ar := w.ar hg
    have hc := w.c hg
    have e6 := rz.2.1 g hg
    have zt : (64 * ((kB C : Int) + (g : Int)) + (u : Int)).toNat = 64 * (kB C + g) + u := by omega
    have i0 := k_in hk rz w hz.1 (j := 0) hg (by omega) (show u < 64 by omega)
    have i1 := k_in hk rz w hz.1 (j := 1) hg (by omega) (show u < 64 by omega)
    have i2 := k_in hk rz w hz.1 (j := 2) hg (by omega) (show u < 64 by omega)
    unfold mX19_fill_L105
    rw [hz.1, gk_chip hk, eg, b1, h8, w32_id (by omega), w32_id (by omega), if_pos (by omega), gk_chip hk, k_netOfGate rz w, bX_some, gk_chip hk, rdI_e (by omega), Int.toNat_natCast, e6, hc.1, show mX19_in z.2 265 (g : Int) 0 (u : Int) = _ from i0, bX_some, show mX19_in z.2 265 (g : Int) 1 (u : Int) = _ from i1, bX_some, show mX19_in z.2 265 (g : Int) 2 (u : Int) = _ from i2, bX_some]
    refine WP_call (k_word19 hk rz w hz.1 hc.2) (fun x hx => ?_)
    rw [wrL_e (by omega), zt]
    refine WP_some.2 ⟨by show (g : Int) + 1 = _; omega, b2.sL (by omega), fun m hm i hi => ?_, fun m v hv hne => ?_⟩
    · dsimp only
      by_cases q : m = kB C + g
      · subst q
        rw [gL_sLe ⟨rfl, rfl⟩, hx i hi, hz.2.2 i hi]
        have e7 : kVal C (64 * u + i) (kB C + g) = (kLf C (kC C g)).testBit (kIdx C (kVal C (64 * u + i)) (-1) false g) := by
          show kValF C _ (-1) (-1) false _ = _
          rw [kValF_gate w hg, if_neg (by omega)]; rfl
        rw [e7, kIdx3 ar.2]
        cases hm : kMsk C i with
        | false => rw [Bool.and_false, Bool.and_false]
        | true =>
          rw [Bool.and_true, Bool.and_true]
          congr 1
          have val : ∀ j, j < kAr C g → tb (gL z.2 265 (64 * kP C g j + u)) i = kVal C (64 * u + i) (kP C g j) := fun j hj => by
            rw [b3 (kP C g j) (w.p hg hj).2 i hi, hm, Bool.and_true]
          refine idx3_congr (fun l => ?_) (fun l => ?_) (fun l => ?_) ar.2
          · rw [if_pos (show 0 < kAr C g from l), if_neg (by omega)]; exact val 0 l
          · rw [if_pos (show 1 < kAr C g from l), if_neg (by omega)]; exact val 1 l
          · rw [if_pos (show 2 < kAr C g from l), if_neg (by omega)]; exact val 2 l
      · rw [gL_sLn (.inr (by omega))]; exact b3 m (by omega) i hi
    · dsimp only; rw [gL_sLn (.inr (by omega))]; exact b4 m v hv hne
  · obtain ⟨b1, b2, b3, b4⟩ := hI
    have rz : RepK z.2 (344 + 22 * k) C := r.ch b2 (by omega)
    have hz := h.ch b2 (by omega)
    have eg := rz.1.2.2.2.1
    rw [w.g] at eg
    unfold mX19_fill_L105
    rw [hz.1, gk_chip hk, eg, b1, w32_id (by omega), if_neg (by omega)]
    exact WP_some.2 ⟨b2, fun n hn' => b3 n (by omega), b4⟩
end KFILL2
