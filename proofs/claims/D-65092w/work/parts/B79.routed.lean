/-! sums over places; what is routed -/
def sumN (f : Nat → Int) : Nat → Int
  | 0 => 0
  | n + 1 => sumN f n + f n
theorem sumN_rng {f : Nat → Int} {b : Int} {n : Nat} (h : ∀ p, p < n → 0 ≤ f p ∧ f p ≤ b) : 0 ≤ sumN f n ∧ sumN f n ≤ b * n := by
  induction n with
  | zero => exact ⟨Int.le_refl _, by show (0 : Int) ≤ b * 0; omega⟩
  | succ n ih =>
    have i := ih (fun p hp => h p (by omega))
    have := h n (by omega)
    have e : b * ((n + 1 : Nat) : Int) = b * n + b := by rw [show ((n + 1 : Nat) : Int) = (n : Int) + 1 by omega, Int.mul_add, Int.mul_one]
    show 0 ≤ sumN f n + f n ∧ sumN f n + f n ≤ _
    rw [e]; omega
theorem sumN_cg {f g : Nat → Int} {n : Nat} (h : ∀ p, p < n → f p = g p) : sumN f n = sumN g n := by
  induction n with
  | zero => rfl
  | succ n ih => show sumN f n + f n = sumN g n + g n; rw [ih (fun p hp => h p (by omega)), h n (by omega)]
theorem kLy_int {C : Chp} (w : WFC C) (wp : WFP C) : 2 * (C 15 0 + 2) * kH C = ((2 * kLy C : Nat) : Int) := by
  have hh := kH_le w wp
  have p1 := wp.1
  unfold kLy kS
  obtain ⟨a, ha⟩ : ∃ a : Nat, C 15 0 = (a : Int) := ⟨(C 15 0).toNat, by omega⟩
  obtain ⟨b, hb⟩ : ∃ b : Nat, kH C = (b : Int) := ⟨(kH C).toNat, by omega⟩
  rw [ha, hb, Int.toNat_natCast, Int.toNat_natCast]
  rw [Int.natCast_mul, Int.natCast_mul, Int.natCast_add, Int.mul_assoc]
  rfl
def rtA (C : Chp) (n p : Nat) : Int := if C 20 p = (n : Int) then 1 else 0
def rtB (C : Chp) (n p : Nat) : Int := if C 20 p = (n : Int) then C 21 p + C 31 p + C 32 p else 0
def rtC (C : Chp) (n p : Nat) : Int := if C 20 p = (n : Int) then C 32 p else 0
theorem st_bits : ∀ a b c : Fin 2, ∀ i : Fin 3, (if ¬ w32 (aAnd (aAnd ((a.val : Int) + 2 * (b.val : Int) + 4 * (c.val : Int)) 7) ((2 ^ i.val : Nat) : Int)) = 0 then (1 : Int) else 0) = (if i.val = 0 then (a.val : Int) else if i.val = 1 then (b.val : Int) else (c.val : Int)) ∧ (if ¬ w32 (aAnd (aAnd ((a.val : Int) + 2 * (b.val : Int) + 4 * (c.val : Int)) 4) ((2 ^ i.val : Nat) : Int)) = 0 then (1 : Int) else 0) = (if i.val = 2 then (c.val : Int) else 0) := by decide
section ROUTED
variable {c : Nat} {S : Sto} {L k : Nat} {C : Chp}
theorem k_st38 {x a b d p3 s : Int} {p : Nat} (hp : p < 4712) {q : Int} {T : Sto} (hx : gI S (L + 13) p = a + 2 * b + 4 * d) (ha : a = 0 ∨ a = 1) (hb : b = 0 ∨ b = 1) (hd : d = 0 ∨ d = 1) (h3 : p3 = 7 ∨ p3 = 4) (hs : 0 ≤ s ∧ s < 1000000) :
    WP (lpF (mX15_steps_L38 S L (q, (p : Int)) p3) (s, 1)) (fun z => z = s + (if p3 = 7 then a + b + d else d)) := by
  obtain ⟨a', rfl⟩ : ∃ a' : Fin 2, a = (a'.val : Int) := by rcases ha with rfl | rfl; exact ⟨0, rfl⟩; exact ⟨1, rfl⟩
  obtain ⟨b', rfl⟩ : ∃ a' : Fin 2, b = (a'.val : Int) := by rcases hb with rfl | rfl; exact ⟨0, rfl⟩; exact ⟨1, rfl⟩
  obtain ⟨d', rfl⟩ : ∃ a' : Fin 2, d = (a'.val : Int) := by rcases hd with rfl | rfl; exact ⟨0, rfl⟩; exact ⟨1, rfl⟩
  refine WP_cnt 3 (fun i z => z.2 = ((2 ^ i : Nat) : Int) ∧ z.1 = s + (if p3 = 7 then (if i = 0 then 0 else if i = 1 then (a'.val : Int) else if i = 2 then (a'.val : Int) + (b'.val : Int) else (a'.val : Int) + (b'.val : Int) + (d'.val : Int)) else if i = 3 then (d'.val : Int) else 0)) (by unfold cFU; omega) ⟨rfl, by rcases h3 with rfl | rfl <;> simp⟩ (fun i z hi hI => ?_) (fun z hI => ?_)
  · obtain ⟨b1, b2⟩ := hI
    have sb := st_bits a' b' d' ⟨i, hi⟩
    have pw : 2 ^ i ≤ 4 := Nat.pow_le_pow_right (n := 2) (by omega) (show i ≤ 2 by omega)
    dsimp only at sb
    obtain ⟨P, hP⟩ : ∃ P, 2 ^ i = P := ⟨_, rfl⟩
    have b1' := b1
    rw [hP] at sb b1 pw
    unfold mX15_steps_L38
    rw [b1, w32_id (by omega), if_pos (by omega)]
    dsimp only
    rw [rdI_e (by omega), Int.toNat_natCast, hx]
    refine WP_some.2 ⟨?_, ?_⟩
    · show (P : Int) + (P : Int) = ((2 ^ (i + 1) : Nat) : Int)
      rw [Nat.pow_succ, hP]; omega
    · show z.1 + _ = _
      rw [b2]
      rcases h3 with rfl | rfl
      · rw [sb.1]
        have : i = 0 ∨ i = 1 ∨ i = 2 := by omega
        rcases this with rfl | rfl | rfl <;> simp <;> omega
      · rw [sb.2]
        have : i = 0 ∨ i = 1 ∨ i = 2 := by omega
        rcases this with rfl | rfl | rfl <;> simp
  · obtain ⟨b1, b2⟩ := hI
    unfold mX15_steps_L38
    rw [b1, if_neg (by decide)]
    refine WP_some.2 ?_
    show z.1 = _
    rw [b2]
    rcases h3 with rfl | rfl <;> simp
theorem k_steps (w : WFC C) (wp : WFP C) (ww : WFW C) (rP : RepP S L C) (rW : RepW S L C) (h19 : C 19 0 = 1) {n : Nat} (hn : n < kN C) {p3 : Int} (h3 : p3 = 7 ∨ p3 = 4) : mX15_steps S L (n : Int) p3 = some (if p3 = 7 then sumN (rtB C n) (2 * kLy C) else sumN (rtC C n) (2 * kLy C)) := by
  have hnn := w.nums
  have ly := kLy_le w wp
  have li := kLy_int w wp
  have e13 := rP.1.2.2
  have e11 := rP.1.1
  have p1 := wp.1
  have W := ww.2 h19
  have RW := (rW.2 h19).1
  have key : WP (lpF (mX15_steps_L5 S L (n : Int) p3) (0, 0)) (fun z => z = if p3 = 7 then sumN (rtB C n) (2 * kLy C) else sumN (rtC C n) (2 * kLy C)) := by
    refine WP_cnt (2 * kLy C) (fun i z => z.2 = (i : Int) ∧ z.1 = if p3 = 7 then sumN (rtB C n) i else sumN (rtC C n) i) (by unfold cFU; omega) ⟨rfl, by split <;> rfl⟩ (fun i z hi hI => ?_) (fun z hI => ?_)
    · obtain ⟨b1, b2⟩ := hI
      have Wi := W.2.1 i hi
      have Ri := RW i hi
      have sB := sumN_rng (f := rtB C n) (b := 3) (n := i) (fun p hp => by have := W.2.1 p (by omega); unfold rtB; split <;> omega)
      have sC := sumN_rng (f := rtC C n) (b := 1) (n := i) (fun p hp => by have := W.2.1 p (by omega); unfold rtC; split <;> omega)
      obtain ⟨z1, z2⟩ := z
      dsimp only at b1 b2
      subst b1
      unfold mX15_steps_L5 mX22_across
      dsimp only
      rw [bX_some, e11, e13, li, w32_id (by omega), w32_id (by omega), if_pos (by omega), rdI_e (by omega), Int.toNat_natCast, Ri.1, w32_id (by omega), w32_id (by omega)]
      by_cases q : C 20 i = (n : Int)
      · rw [if_neg (fun g => g q)]
        refine WP_bX.2 (WP_bX.2 ((k_st38 (x := 0) (by omega) Ri.2 Wi.2.2.1 Wi.2.2.2.1 Wi.2.2.2.2 h3 (T := S) (by rw [b2]; split <;> omega)).mono (fun y hy => ?_)))
        refine WP_some.2 (WP_some.2 ⟨by show (i : Int) + 1 = _; omega, ?_⟩)
        show y = _
        rw [hy, b2]
        rcases h3 with rfl | rfl
        · rw [if_pos rfl, if_pos rfl, if_pos rfl]
          show _ = sumN (rtB C n) i + rtB C n i
          unfold rtB; rw [if_pos q]
        · rw [if_neg (by decide), if_neg (by decide), if_neg (by decide)]
          show _ = sumN (rtC C n) i + rtC C n i
          unfold rtC; rw [if_pos q]
      · rw [if_pos q, bX_some]
        refine WP_some.2 ⟨by show (i : Int) + 1 = _; omega, ?_⟩
        show z1 = _
        rw [b2]
        show _ = if p3 = 7 then sumN (rtB C n) i + rtB C n i else sumN (rtC C n) i + rtC C n i
        unfold rtB rtC; rw [if_neg q, if_neg q, Int.add_zero, Int.add_zero]
    · obtain ⟨b1, b2⟩ := hI
      unfold mX15_steps_L5 mX22_across
      rw [bX_some, e11, e13, li, b1, if_neg (by omega)]
      exact WP_some.2 b2
  unfold mX15_steps
  rw [key.of, bX_some]
theorem k_rt68 (w : WFC C) (wp : WFP C) (ww : WFW C) (rP : RepP S L C) (rW : RepW S L C) (h19 : C 19 0 = 1) {n : Nat} (hn : n < kN C) : lpF (mX1_routed_L68 S L (n : Int)) (0, 0) = some (sumN (rtA C n) (2 * kLy C)) := by
  have hnn := w.nums
  have ly := kLy_le w wp
  have li := kLy_int w wp
  have e13 := rP.1.2.2
  have e11 := rP.1.1
  have p1 := wp.1
  have W := ww.2 h19
  have RW := (rW.2 h19).1
  refine WP.of ?_
  refine WP_cnt (2 * kLy C) (fun i z => z.2 = (i : Int) ∧ z.1 = sumN (rtA C n) i) (by unfold cFU; omega) ⟨rfl, rfl⟩ (fun i z hi hI => ?_) (fun z hI => ?_)
  · obtain ⟨b1, b2⟩ := hI
    have Wi := W.2.1 i hi
    have Ri := RW i hi
    unfold mX1_routed_L68 mX22_across
    rw [bX_some, e11, e13, li, b1, w32_id (by omega), w32_id (by omega), if_pos (by omega), rdI_e (by omega), Int.toNat_natCast, Ri.1, w32_id (by omega), w32_id (by omega), b2]
    exact WP_some.2 ⟨by show (i : Int) + 1 = _; omega, rfl⟩
  · obtain ⟨b1, b2⟩ := hI
    unfold mX1_routed_L68 mX22_across
    rw [bX_some, e11, e13, li, b1, if_neg (by omega)]
    exact WP_some.2 b2
/-- the grid of the chip at hand -/
def MGrid (S : Sto) (k : Nat) (C : Chp) : Prop := (gI S 2000 177) = (k : Int) ∧ (gI S 2000 174) = ((kS C + 2 : Nat) : Int) ∧ (gI S 2000 175) = kH C ∧ (gI S 2000 176) = ((2 * kLy C : Nat) : Int)
theorem m_layGrid (r : RefK S k C) (rP : RefP S k C) (w : WFC C) (wx : WFX C) (h0 : C 16 0 ≠ 0) (hk : k < 4) : WP (mX23_layGrid S (k : Int)) (fun z => MGrid z k C) := by
  have p1 := wx.1.1
  have hh := kH_le w wx.1
  have ly := kLy_le w wx.1
  have li := kLy_int w wx.1
  have e15 := rP.1.2 h0
  have es : ((kS C + 2 : Nat) : Int) = C 15 0 + 2 := by unfold kS; omega
  have hH : kH C = max (3 * C 16 0 + 2) (max (C 0 0) (C 2 0)) := by unfold kH; rw [if_neg h0]
  unfold mX23_layGrid
  have c1 : KeM S (sI (sI S 2000 177 (k : Int)) 2000 174 (C 15 0 + 2)) := (KeM.refl.sI (by omega)).sI (by omega)
  rw [wf_eq, rdI_e (by omega), Int.toNat_natCast, hI_sI_a (by omega), e15, wf_eq, m_height (c1.K r) w (c1.P rP) wx hk, bX_some, ← hH, wf_eq, wf_eq]
  refine WP_some.2 ⟨?_, ?_, ?_, ?_⟩
  · simp (disch := omega) only [gI_sIn, gI_sIe, w32_id]
  · simp (disch := omega) only [gI_sIn, gI_sIe, w32_id]; exact es.symm
  · simp (disch := omega) only [gI_sIn, gI_sIe, w32_id]
  · have e1 : gI (sI (sI (sI S 2000 177 (k : Int)) 2000 174 (C 15 0 + 2)) 2000 175 (kH C)) 2000 174 = C 15 0 + 2 := by simp (disch := omega) only [gI_sIn, gI_sIe, w32_id]
    have e2 : gI (sI (sI (sI S 2000 177 (k : Int)) 2000 174 (C 15 0 + 2)) 2000 175 (kH C)) 2000 175 = kH C := by simp (disch := omega) only [gI_sIn, gI_sIe, w32_id]
    rw [gI_set, e1, e2, li, w32_id (by omega)]
theorem MGrid.fr {S S' : Sto} {W V : List (Nat × Option Nat)} {G : Bool} (h : MGrid S k C) (hf : Fr W V G S S') (h1 : (okL W 2000 174 && okL W 2000 175 && okL W 2000 176 && okL W 2000 177) = true) : MGrid S' k C := by
  rw [Bool.and_eq_true, Bool.and_eq_true, Bool.and_eq_true] at h1
  unfold MGrid at h ⊢
  rw [hf.ei h1.1.1.1, hf.ei h1.1.1.2, hf.ei h1.1.2, hf.ei h1.2]; exact h
theorem m_netAt (hk : k < 4) (hG : MGrid S k C) (rW : RefW S k C) (h19 : C 19 0 = 1) {p : Nat} (hp : p < 2 * kLy C) (hl : kLy C ≤ 2356) : mX23_netAt S (p : Int) = some (C 20 p) := by
  have e := ((rW.2 h19).1 p hp).1
  have zt : (4712 * (k : Int) + (p : Int)).toNat = 4712 * k + p := by omega
  unfold mX23_netAt
  rw [hG.1, rdI_e (by omega), zt, e]
theorem m_rt75 (w : WFC C) (wp : WFP C) (ww : WFW C) (hk : k < 4) (hG : MGrid S k C) (rW : RefW S k C) (h19 : C 19 0 = 1) {n : Nat} (hn : n < kN C) : lpF (mX23_routed_L75 S (n : Int) (k : Int)) (0, 0, 0, 0) = some (sumN (rtA C n) (2 * kLy C), sumN (rtB C n) (2 * kLy C), sumN (rtC C n) (2 * kLy C)) := by
  have hnn := w.nums
  have ly := kLy_le w wp
  have W := ww.2 h19
  have RW := (rW.2 h19).1
  have bb : ∀ x : Int, (x = 0 ∨ x = 1) → (if ¬ w32 (bz x) = 0 then (1 : Int) else 0) = x := by rintro x (rfl | rfl) <;> rfl
  refine WP.of ?_
  refine WP_cnt (2 * kLy C) (fun i z => z = (sumN (rtA C n) i, sumN (rtB C n) i, sumN (rtC C n) i, (i : Int))) (by unfold cFU; omega) rfl (fun i z hi hI => ?_) (fun z hI => ?_)
  · subst hI
    have Wi := W.2.1 i hi
    have Ri := RW i hi
    have zt : (4712 * (k : Int) + (i : Int)).toNat = 4712 * k + i := by omega
    unfold mX23_routed_L75
    dsimp only
    rw [hG.2.2.2, w32_id (by omega), w32_id (by omega), if_pos (by omega), m_netAt hk hG rW h19 hi ly, bX_some, w32_id (by omega), w32_id (by omega)]
    by_cases q : C 20 i = (n : Int)
    · rw [if_pos q, rdZ_e (by omega), rdZ_e (by omega), rdZ_e (by omega), zt, Ri.2.1, Ri.2.2.1, Ri.2.2.2, bb _ Wi.2.2.1, bb _ Wi.2.2.2.1, bb _ Wi.2.2.2.2, bX_some]
      refine WP_some.2 ?_
      show (_, _, _, _) = (sumN (rtA C n) i + rtA C n i, sumN (rtB C n) i + rtB C n i, sumN (rtC C n) i + rtC C n i, ((i + 1 : Nat) : Int))
      rw [show rtA C n i = 1 from if_pos q, show rtB C n i = C 21 i + C 31 i + C 32 i from if_pos q, show rtC C n i = C 32 i from if_pos q, show C 32 i + C 21 i + C 31 i = C 21 i + C 31 i + C 32 i by omega]; rfl
    · rw [if_neg q, bX_some]
      refine WP_some.2 ?_
      show (_, _, _, _) = (sumN (rtA C n) i + rtA C n i, sumN (rtB C n) i + rtB C n i, sumN (rtC C n) i + rtC C n i, ((i + 1 : Nat) : Int))
      rw [show rtA C n i = 0 from if_neg q, show rtB C n i = 0 from if_neg q, show rtC C n i = 0 from if_neg q, Int.add_zero, Int.add_zero, Int.add_zero]; rfl
  · subst hI
    unfold mX23_routed_L75
    dsimp only
    rw [hG.2.2.2, if_neg (by omega)]
    exact WP_some.2 rfl
theorem L53 (h : Inv c S) (hc : c < 64) : WP (mL_53 S) (Inv (c + 1)) := by
  obtain ⟨n, h1, h2, h3, h4⟩ := h.2.1
  unfold mL_53 mX1_tape mX23_tape
  rw [bX_some, wf_eq, bX_some]
  dsimp only
  rw [hI_sI_i (by omega), h2, h3, if_neg (fun g => g rfl)]
  exact WP_some.2 (h.q3 hc)
end ROUTED
