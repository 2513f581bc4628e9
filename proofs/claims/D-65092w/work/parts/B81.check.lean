/-! boxes that violate the rules -/
abbrev bThin (C : Chp) (b : Nat) : Prop := C 24 (5 * b + 3) - C 24 (5 * b + 1) < 2 ∨ C 24 (5 * b + 4) - C 24 (5 * b + 2) < 2
abbrev bMet (C : Chp) (a b : Nat) : Prop := C 24 (5 * a + 1) ≤ C 24 (5 * b + 3) ∧ C 24 (5 * b + 1) ≤ C 24 (5 * a + 3) ∧ C 24 (5 * a + 2) ≤ C 24 (5 * b + 4) ∧ C 24 (5 * b + 2) ≤ C 24 (5 * a + 4)
abbrev bNear (C : Chp) (a b : Nat) : Prop := C 24 (5 * a) = C 24 (5 * b) ∧ ¬ bMet C a b ∧ (C 24 (5 * b + 1) - C 24 (5 * a + 3) < 2 ∧ C 24 (5 * a + 1) - C 24 (5 * b + 3) < 2) ∧ (C 24 (5 * b + 2) - C 24 (5 * a + 4) < 2 ∧ C 24 (5 * a + 2) - C 24 (5 * b + 4) < 2)
def vTh (C : Chp) : Nat → List (Int × Int)
  | 0 => []
  | m + 1 => vTh C m ++ (if bThin C m then [((m : Int), -1)] else [])
def vRow (C : Chp) (a : Nat) : Nat → List (Int × Int)
  | 0 => []
  | j + 1 => vRow C a j ++ (if bNear C a (a + 1 + j) then [((a : Int), ((a + 1 + j : Nat) : Int))] else [])
def vPr (C : Chp) : Nat → List (Int × Int)
  | 0 => []
  | a + 1 => vPr C a ++ vRow C a (kBx C - 1 - a)
def vAll (C : Chp) : List (Int × Int) := vTh C (kBx C) ++ vPr C (kBx C)
/-- entry k of a list, or none of it yet -/
def Ats (l : List (Int × Int)) (k : Nat) (f s : Int) : Prop := (k < l.length → l[k]? = some (f, s)) ∧ (l.length ≤ k → f = -1 ∧ s = -1)
theorem Ats_nil {k : Nat} : Ats [] k (-1) (-1) := ⟨fun h => absurd h (Nat.not_lt_zero _), fun _ => ⟨rfl, rfl⟩⟩
theorem Ats_app {l : List (Int × Int)} {k : Nat} {f s f' s' x y : Int} (h : Ats l k f s) (e : f' = if l.length = k then x else f) (e' : s' = if l.length = k then y else s) : Ats (l ++ [(x, y)]) k f' s' := by
  have hl : (l ++ [(x, y)]).length = l.length + 1 := by rw [List.length_append]; rfl
  by_cases q : l.length = k
  · rw [if_pos q] at e e'
    subst e e' q
    refine ⟨fun _ => ?_, fun g => absurd g (by omega)⟩
    rw [List.getElem?_append_right (Nat.le_refl _), Nat.sub_self]; rfl
  · rw [if_neg q] at e e'
    subst e e'
    refine ⟨fun g => ?_, fun g => h.2 (by omega)⟩
    rw [List.getElem?_append_left (by omega)]; exact h.1 (by omega)
theorem len_snoc {l : List (Int × Int)} {x : Int × Int} : ((l ++ [x]).length : Int) = (l.length : Int) + 1 := by rw [List.length_append]; rfl
section VLIST
variable {C : Chp}
theorem vTh_pre {i n : Nat} (h : i ≤ n) : ∃ r, vTh C n = vTh C i ++ r := by
  induction n with
  | zero => have : i = 0 := by omega
            subst this; exact ⟨[], rfl⟩
  | succ n ih =>
    by_cases e : i = n + 1
    · subst e; exact ⟨[], (List.append_nil _).symm⟩
    · obtain ⟨r, hr⟩ := ih (by omega)
      exact ⟨r ++ (if bThin C n then [((n : Int), -1)] else []), by show vTh C n ++ _ = _; rw [hr, List.append_assoc]⟩
theorem vPr_pre {i n : Nat} (h : i ≤ n) : ∃ r, vPr C n = vPr C i ++ r := by
  induction n with
  | zero => have : i = 0 := by omega
            subst this; exact ⟨[], rfl⟩
  | succ n ih =>
    by_cases e : i = n + 1
    · subst e; exact ⟨[], (List.append_nil _).symm⟩
    · obtain ⟨r, hr⟩ := ih (by omega)
      exact ⟨r ++ vRow C n (kBx C - 1 - n), by show vPr C n ++ _ = _; rw [hr, List.append_assoc]⟩
theorem vRow_pre {a i n : Nat} (h : i ≤ n) : ∃ r, vRow C a n = vRow C a i ++ r := by
  induction n with
  | zero => have : i = 0 := by omega
            subst this; exact ⟨[], rfl⟩
  | succ n ih =>
    by_cases e : i = n + 1
    · subst e; exact ⟨[], (List.append_nil _).symm⟩
    · obtain ⟨r, hr⟩ := ih (by omega)
      exact ⟨r ++ (if bNear C a (a + 1 + n) then [((a : Int), ((a + 1 + n : Nat) : Int))] else []), by show vRow C a n ++ _ = _; rw [hr, List.append_assoc]⟩
theorem vTh_len (n : Nat) : (vTh C n).length ≤ n := by
  induction n with
  | zero => exact Nat.le_refl _
  | succ n ih => show (vTh C n ++ _).length ≤ _; rw [List.length_append]; split <;> (first | (show _ + 1 ≤ _; omega) | (show _ + 0 ≤ _; omega))
theorem vRow_len (a n : Nat) : (vRow C a n).length ≤ n := by
  induction n with
  | zero => exact Nat.le_refl _
  | succ n ih => show (vRow C a n ++ _).length ≤ _; rw [List.length_append]; split <;> (first | (show _ + 1 ≤ _; omega) | (show _ + 0 ≤ _; omega))
theorem vPr_len (wB : WFB C) (n : Nat) : (vPr C n).length ≤ 1999 * n := by
  have hb : kBx C ≤ 2000 := by have := wB.1; unfold kBx; omega
  induction n with
  | zero => exact Nat.le_refl _
  | succ n ih => have := vRow_len (C := C) n (kBx C - 1 - n); show (vPr C n ++ _).length ≤ _; rw [List.length_append]; omega
end VLIST
section KCHECK
variable {S : Sto} {L k : Nat} {C : Chp} {p2 : Int}
/-- the boxes of the chip at hand -/
def KBx (S : Sto) (L : Nat) (C : Chp) : Prop := gR S 240 1 = L ∧ gI S L 20 = C 23 0 ∧ ∀ i, i < 5 * kBx C → gI S (L + 15) i = C 24 i
theorem KBx.ch {S' : Sto} {lo hi : Nat} (h : KBx S L C) (g : Ch lo hi S S') (q : L + 15 < lo ∨ hi < L) : KBx S' L C := ⟨(g.2.2.1 _ _).trans h.1, (g.1 _ _ (by omega)).trans h.2.1, fun i hi => (g.1 _ _ (by omega)).trans (h.2.2 i hi)⟩
theorem KBx.at (h : KBx S L C) {b : Nat} (hb : b < kBx C) : gI S (L + 15) (5 * b) = C 24 (5 * b) ∧ gI S (L + 15) (5 * b + 1) = C 24 (5 * b + 1) ∧ gI S (L + 15) (5 * b + 2) = C 24 (5 * b + 2) ∧ gI S (L + 15) (5 * b + 3) = C 24 (5 * b + 3) ∧ gI S (L + 15) (5 * b + 4) = C 24 (5 * b + 4) := ⟨h.2.2 _ (by omega), h.2.2 _ (by omega), h.2.2 _ (by omega), h.2.2 _ (by omega), h.2.2 _ (by omega)⟩
theorem zt5 {b : Nat} : (5 * (b : Int)).toNat = 5 * b ∧ (5 * (b : Int) + 1).toNat = 5 * b + 1 ∧ (5 * (b : Int) + 2).toNat = 5 * b + 2 ∧ (5 * (b : Int) + 3).toNat = 5 * b + 3 ∧ (5 * (b : Int) + 4).toNat = 5 * b + 4 := by omega
theorem k_isThin (h : KBx S L C) (hk : k < 4) (hL : L = 344 + 22 * k) (wB : WFB C) {b : Nat} (hb : b < kBx C) : mX16_isThin S (b : Int) = some (if bThin C b then 1 else 0) := by
  obtain ⟨e0, e1, e2, e3, e4⟩ := h.at hb
  obtain ⟨z0, z1, z2, z3, z4⟩ := zt5 (b := b)
  have rg := wB.2 b hb
  have hn : kBx C ≤ 2000 := by have := wB.1; unfold kBx; omega
  unfold mX16_isThin
  rw [h.1, hL]
  simp only [gk_chip hk]
  rw [← hL, rdI_e (by omega), rdI_e (by omega), z3, z1, e3, e1, w32_id (by omega)]
  by_cases q : C 24 (5 * b + 3) - C 24 (5 * b + 1) < 2
  · rw [if_neg (by omega), bX_some, if_pos rfl, bX_some, if_pos (Or.inl q)]; rfl
  · rw [if_pos (by omega), rdI_e (by omega), rdI_e (by omega), z4, z2, e4, e2, w32_id (by omega)]
    by_cases q2 : C 24 (5 * b + 4) - C 24 (5 * b + 2) < 2
    · rw [if_pos q2, bX_some, if_pos rfl, bX_some, if_pos (Or.inr q2)]; rfl
    · rw [if_neg q2, bX_some, if_neg (by decide), bX_some, if_neg (by omega)]; rfl
theorem k_meet (h : KBx S L C) (hk : k < 4) (hL : L = 344 + 22 * k) (wB : WFB C) {a b : Nat} (ha : a < kBx C) (hb : b < kBx C) : mX16_meet S (a : Int) (b : Int) = some (if bMet C a b then 1 else 0) := by
  obtain ⟨e0, e1, e2, e3, e4⟩ := h.at hb
  obtain ⟨z0, z1, z2, z3, z4⟩ := zt5 (b := b)
  obtain ⟨f0, f1, f2, f3, f4⟩ := h.at ha
  obtain ⟨y0, y1, y2, y3, y4⟩ := zt5 (b := a)
  have rg := wB.2 b hb
  have rh := wB.2 a ha
  have hn : kBx C ≤ 2000 := by have := wB.1; unfold kBx; omega
  unfold mX16_meet
  rw [h.1, hL]
  simp only [gk_chip hk]
  rw [← hL, rdI_e (by omega), rdI_e (by omega), y1, z3, f1, e3, w32_id (by omega), w32_id (by omega)]
  by_cases q : C 24 (5 * a + 1) ≤ C 24 (5 * b + 3)
  · rw [if_pos q, rdI_e (by omega), rdI_e (by omega), z1, y3, e1, f3, w32_id (by omega), w32_id (by omega)]
    by_cases q2 : C 24 (5 * b + 1) ≤ C 24 (5 * a + 3)
    · rw [if_pos q2, rdI_e (by omega), rdI_e (by omega), y2, z4, f2, e4, w32_id (by omega), w32_id (by omega)]
      by_cases q3 : C 24 (5 * a + 2) ≤ C 24 (5 * b + 4)
      · rw [if_pos q3, rdI_e (by omega), rdI_e (by omega), z2, y4, e2, f4, w32_id (by omega), w32_id (by omega)]
        by_cases q4 : C 24 (5 * b + 2) ≤ C 24 (5 * a + 4)
        · rw [if_pos q4, bX_some, if_pos rfl, bX_some, if_pos ⟨q, q2, q3, q4⟩]; rfl
        · rw [if_neg q4, bX_some, if_neg (by decide), bX_some, if_neg (fun g => q4 g.2.2.2)]; rfl
      · rw [if_neg q3, bX_some, if_neg (by decide), bX_some, if_neg (fun g => q3 g.2.2.1)]; rfl
    · rw [if_neg q2, bX_some, if_neg (by decide), bX_some, if_neg (fun g => q2 g.2.1)]; rfl
  · rw [if_neg q, bX_some, if_neg (by decide), bX_some, if_neg (fun g => q g.1)]; rfl
theorem k_gap {a0 a1 b0 b1 : Int} (h : -1000 ≤ a0 ∧ a0 ≤ 1000 ∧ -1000 ≤ a1 ∧ a1 ≤ 1000 ∧ -1000 ≤ b0 ∧ b0 ≤ 1000 ∧ -1000 ≤ b1 ∧ b1 ≤ 1000) : WP (mX16_gap a0 a1 b0 b1) (fun x => -2147483648 ≤ x ∧ x < 2147483648 ∧ (x < 2 ↔ b0 - a1 < 2 ∧ a0 - b1 < 2)) := by
  have m1 := max_facts (b0 - a1) (a0 - b1)
  have m2 := max_facts 0 (max (b0 - a1) (a0 - b1))
  unfold mX16_gap
  rw [max_e (by omega) (by omega), bX_some]
  generalize max (b0 - a1) (a0 - b1) = x at m1 m2 ⊢
  rw [max_e (by omega) (by omega), bX_some]
  generalize max 0 x = y at m2 ⊢
  refine WP_some.2 ⟨by omega, by omega, by omega⟩
theorem k_areNear (h : KBx S L C) (hk : k < 4) (hL : L = 344 + 22 * k) (wB : WFB C) {a b : Nat} (ha : a < kBx C) (hb : b < kBx C) : mX16_areNear S (a : Int) (b : Int) = some (if bNear C a b then 1 else 0) := by
  obtain ⟨e0, e1, e2, e3, e4⟩ := h.at hb
  obtain ⟨z0, z1, z2, z3, z4⟩ := zt5 (b := b)
  obtain ⟨f0, f1, f2, f3, f4⟩ := h.at ha
  obtain ⟨y0, y1, y2, y3, y4⟩ := zt5 (b := a)
  have rg := wB.2 b hb
  have rh := wB.2 a ha
  have hn : kBx C ≤ 2000 := by have := wB.1; unfold kBx; omega
  unfold mX16_areNear
  rw [h.1, hL]
  simp only [gk_chip hk]
  rw [← hL, rdI_e (by omega), rdI_e (by omega), y0, z0, f0, e0, w32_id (by omega), w32_id (by omega), k_meet h hk hL wB ha hb]
  by_cases q : C 24 (5 * a) = C 24 (5 * b)
  · rw [if_pos q, bX_some]
    by_cases q2 : bMet C a b
    · rw [if_pos q2, if_pos (by decide), bX_some, if_pos rfl, if_neg (fun g => g.2.1 q2)]
    · rw [if_neg q2, if_neg (by decide), bX_some, if_neg (by decide), rdI_e (by omega), rdI_e (by omega), rdI_e (by omega), rdI_e (by omega), y1, y3, z1, z3, f1, f3, e1, e3]
      obtain ⟨x, gx, x1, x2, x3⟩ := k_gap (a0 := C 24 (5 * a + 1)) (a1 := C 24 (5 * a + 3)) (b0 := C 24 (5 * b + 1)) (b1 := C 24 (5 * b + 3)) (by omega)
      obtain ⟨y, gy, v1, v2, v3⟩ := k_gap (a0 := C 24 (5 * a + 2)) (a1 := C 24 (5 * a + 4)) (b0 := C 24 (5 * b + 2)) (b1 := C 24 (5 * b + 4)) (by omega)
      rw [gx, bX_some, w32_id (by omega)]
      by_cases q3 : x < 2
      · rw [if_pos q3, rdI_e (by omega), rdI_e (by omega), rdI_e (by omega), rdI_e (by omega), y2, y4, z2, z4, f2, f4, e2, e4, gy, bX_some, w32_id (by omega)]
        by_cases q4 : y < 2
        · rw [if_pos q4, bX_some, if_pos rfl, bX_some, if_pos ⟨q, q2, x3.1 q3, v3.1 q4⟩]; rfl
        · rw [if_neg q4, bX_some, if_neg (by decide), bX_some, if_neg (fun g => q4 (v3.2 g.2.2.2))]; rfl
      · rw [if_neg q3, bX_some, if_neg (by decide), bX_some, if_neg (fun g => q3 (x3.2 g.2.2.1))]; rfl
  · rw [if_neg q, bX_some, if_pos rfl, if_neg (fun g => q g.1)]
/-- what is known of the violations so far -/
def KV2 (z : Int × Int × Sto) (p2 : Int) (l : List (Int × Int)) : Prop := z.1 = (l.length : Int) ∧ ∀ k : Nat, p2 = (k : Int) → Ats l k (gI z.2.2 240 6) (gI z.2.2 240 7)
theorem k_ck20 (h : KBx S L C) (hk : k < 4) (hL : L = 344 + 22 * k) (wB : WFB C) (hp : -1 ≤ p2 ∧ p2 < 2147483648) (h6 : gI S 240 6 = -1) (h7 : gI S 240 7 = -1) :
    WP (lpF (mX16_check_L20 p2) (0, 0, S)) (fun z => ∃ l r, vTh C (kBx C) = l ++ r ∧ z.1 = (l.length : Int) ∧ (∀ k : Nat, p2 = (k : Int) → Ats l k (gI z.2 240 6) (gI z.2 240 7)) ∧ (r = [] ∨ (p2 ≠ -1 ∧ p2 < (l.length : Int))) ∧ Ch 240 240 S z.2) := by
  have hw := wB.1
  have hn : kBx C ≤ 2000 := by unfold kBx; omega
  have hi23 : ∀ i : Nat, ((i : Int) < C 23 0 ↔ i < kBx C) := fun i => by unfold kBx; omega
  refine WP_cnt (kBx C) (fun i z => z.2.1 = (i : Int) ∧ z.1 = ((vTh C i).length : Int) ∧ (∀ k : Nat, p2 = (k : Int) → Ats (vTh C i) k (gI z.2.2 240 6) (gI z.2.2 240 7)) ∧ Ch 240 240 S z.2.2) (by unfold cFU; omega) ⟨rfl, rfl, fun k _ => by rw [h6, h7]; exact Ats_nil, Ch.refl⟩ (fun i z hi hI => ?_) (fun z hI => ?_)
  · obtain ⟨b1, b2, b3, b4⟩ := hI
    have hz := h.ch b4 (by omega)
    have ln := vTh_len (C := C) i
    have cd : w32 (p2 + (if w32 p2 = -1 then 1000000 else 0)) = (if p2 = -1 then 999999 else p2) := by
      rw [w32_id (show -2147483648 ≤ p2 ∧ _ by omega)]
      by_cases q : p2 = -1
      · rw [if_pos q, if_pos q, q]; rfl
      · rw [if_neg q, if_neg q, w32_id (by omega), Int.add_zero]
    unfold mX16_check_L20
    rw [hz.1, hL, gk_chip hk, ← hL, hz.2.1, b1, w32_id (show -2147483648 ≤ (i : Int) ∧ _ by omega), w32_id (show -2147483648 ≤ C 23 0 ∧ _ by omega), if_pos ((hi23 i).2 hi), b2, cd, w32_id (show -2147483648 ≤ ((vTh C i).length : Int) ∧ _ by omega)]
    by_cases q : ((vTh C i).length : Int) ≤ (if p2 = -1 then 999999 else p2)
    · rw [if_pos q, k_isThin hz hk hL wB hi, bX_some]
      have ev : vTh C (i + 1) = vTh C i ++ (if bThin C i then [((i : Int), -1)] else []) := rfl
      by_cases t : bThin C i
      · rw [if_pos t] at ev
        rw [if_pos t, if_neg (by decide), w32_id (show -2147483648 ≤ p2 ∧ _ by omega)]
        by_cases g : ((vTh C i).length : Int) = p2
        · rw [if_pos g, wf_eq, bX_some, bX_some]
          refine WP_some.2 ⟨by show (i : Int) + 1 = _; omega, by show ((vTh C i).length : Int) + 1 = _; rw [ev, len_snoc], fun k hk' => ?_, b4.sI (by omega)⟩
          rw [ev]
          have a3 := b3 k hk'
          have s7 := (a3.2 (by omega)).2
          refine Ats_app a3 ?_ ?_
          · rw [if_pos (by omega), gI_set, w32_id (by omega)]
          · rw [if_pos (by omega), hI_sI_i (by omega)]; exact s7
        · rw [if_neg g, bX_some, bX_some]
          refine WP_some.2 ⟨by show (i : Int) + 1 = _; omega, by show ((vTh C i).length : Int) + 1 = _; rw [ev, len_snoc], fun k hk' => ?_, b4⟩
          rw [ev]
          exact Ats_app (b3 k hk') (by rw [if_neg (by omega)]) (by rw [if_neg (by omega)])
      · rw [if_neg t, List.append_nil] at ev
        rw [if_neg t, if_pos (by decide), bX_some]
        exact WP_some.2 ⟨by show (i : Int) + 1 = _; omega, by rw [ev], fun k hk' => by rw [ev]; exact b3 k hk', b4⟩
    · rw [if_neg q]
      obtain ⟨r, hr⟩ := vTh_pre (C := C) (i := i) (n := kBx C) (by omega)
      refine WP_some.2 ⟨_, r, hr, rfl, b3, .inr ?_, b4⟩
      by_cases z : p2 = -1
      · rw [if_pos z] at q; omega
      · rw [if_neg z] at q; exact ⟨z, by omega⟩
  · obtain ⟨b1, b2, b3, b4⟩ := hI
    have hz := h.ch b4 (by omega)
    unfold mX16_check_L20
    rw [hz.1, hL, gk_chip hk, ← hL, hz.2.1, b1, w32_id (show -2147483648 ≤ (kBx C : Int) ∧ _ by omega), w32_id (show -2147483648 ≤ C 23 0 ∧ _ by omega), if_neg (by rw [hi23]; omega)]
    exact WP_some.2 ⟨_, [], (List.append_nil _).symm, b2, b3, .inl rfl, b4⟩
theorem k_ck119 (h : KBx S L C) (hk : k < 4) (hL : L = 344 + 22 * k) (wB : WFB C) (hp : -1 ≤ p2 ∧ p2 < 2147483648) {a : Nat} (ha : a < kBx C) {l : List (Int × Int)} (hl : l.length ≤ 4000000) {n0 : Int} {T : Sto} (h0 : ∀ k : Nat, p2 = (k : Int) → Ats l k (gI S 240 6) (gI S 240 7)) :
    WP (lpF (mX16_check_L119 (n0, (a : Int), T) p2) ((l.length : Int), (a : Int) + 1, S)) (fun z => z.1 = ((l ++ vRow C a (kBx C - 1 - a)).length : Int) ∧ (∀ k : Nat, p2 = (k : Int) → Ats (l ++ vRow C a (kBx C - 1 - a)) k (gI z.2 240 6) (gI z.2 240 7)) ∧ Ch 240 240 S z.2) := by
  have hw := wB.1
  have hn : kBx C ≤ 2000 := by unfold kBx; omega
  have hi23 : ∀ i : Nat, ((i : Int) < C 23 0 ↔ i < kBx C) := fun i => by unfold kBx; omega
  refine WP_cnt (kBx C - 1 - a) (fun i z => z.2.1 = ((a + 1 + i : Nat) : Int) ∧ z.1 = ((l ++ vRow C a i).length : Int) ∧ (∀ k : Nat, p2 = (k : Int) → Ats (l ++ vRow C a i) k (gI z.2.2 240 6) (gI z.2.2 240 7)) ∧ Ch 240 240 S z.2.2) (by unfold cFU; omega) ⟨by show (a : Int) + 1 = _; omega, by show (l.length : Int) = _; rw [show vRow C a 0 = [] from rfl, List.append_nil], fun k g => by rw [show vRow C a 0 = [] from rfl, List.append_nil]; exact h0 k g, Ch.refl⟩ (fun i z hi hI => ?_) (fun z hI => ?_)
  · obtain ⟨b1, b2, b3, b4⟩ := hI
    have hz := h.ch b4 (by omega)
    have ln := vRow_len (C := C) a i
    have la : (l ++ vRow C a i).length = l.length + (vRow C a i).length := List.length_append
    have hb : a + 1 + i < kBx C := by omega
    unfold mX16_check_L119
    dsimp only
    rw [hz.1, hL, gk_chip hk, ← hL, hz.2.1, b1, w32_id (show -2147483648 ≤ ((a + 1 + i : Nat) : Int) ∧ _ by omega), w32_id (show -2147483648 ≤ C 23 0 ∧ _ by omega), if_pos ((hi23 _).2 hb), k_areNear hz hk hL wB ha hb, bX_some]
    have ev : l ++ vRow C a (i + 1) = (l ++ vRow C a i) ++ (if bNear C a (a + 1 + i) then [((a : Int), ((a + 1 + i : Nat) : Int))] else []) := by rw [List.append_assoc]; rfl
    by_cases t : bNear C a (a + 1 + i)
    · rw [if_pos t] at ev
      rw [if_pos t, if_neg (by decide), b2, w32_id (show -2147483648 ≤ p2 ∧ _ by omega), w32_id (show -2147483648 ≤ ((l ++ vRow C a i).length : Int) ∧ _ by omega)]
      by_cases g : ((l ++ vRow C a i).length : Int) = p2
      · rw [if_pos g, wf_eq, wf_eq, bX_some, bX_some]
        refine WP_some.2 ⟨by show ((a + 1 + i : Nat) : Int) + 1 = _; omega, by show ((l ++ vRow C a i).length : Int) + 1 = _; rw [ev, len_snoc], fun k hk' => ?_, (b4.sI (by omega)).sI (by omega)⟩
        rw [ev]
        refine Ats_app (b3 k hk') ?_ ?_
        · rw [if_pos (by omega), hI_sI_i (by omega), gI_set, w32_id (by omega)]
        · rw [if_pos (by omega), gI_set, w32_id (by omega)]
      · rw [if_neg g, bX_some, bX_some]
        refine WP_some.2 ⟨by show ((a + 1 + i : Nat) : Int) + 1 = _; omega, by show ((l ++ vRow C a i).length : Int) + 1 = _; rw [ev, len_snoc], fun k hk' => ?_, b4⟩
        rw [ev]
        exact Ats_app (b3 k hk') (by rw [if_neg (by omega)]) (by rw [if_neg (by omega)])
    · rw [if_neg t, List.append_nil] at ev
      rw [if_neg t, if_pos (by decide), bX_some]
      exact WP_some.2 ⟨by show ((a + 1 + i : Nat) : Int) + 1 = _; omega, by rw [ev]; exact b2, fun k hk' => by rw [ev]; exact b3 k hk', b4⟩
  · obtain ⟨b1, b2, b3, b4⟩ := hI
    have hz := h.ch b4 (by omega)
    unfold mX16_check_L119
    rw [hz.1, hL, gk_chip hk, ← hL, hz.2.1, b1, w32_id (by omega), w32_id (show -2147483648 ≤ C 23 0 ∧ _ by omega), if_neg (by rw [hi23]; omega)]
    exact WP_some.2 ⟨b2, b3, b4⟩
theorem k_ck84 (h : KBx S L C) (hk : k < 4) (hL : L = 344 + 22 * k) (wB : WFB C) (hp : -1 ≤ p2 ∧ p2 < 2147483648) {l r : List (Int × Int)} (hl : vTh C (kBx C) = l ++ r) (hr : r = [] ∨ (p2 ≠ -1 ∧ p2 < (l.length : Int))) (h0 : ∀ k : Nat, p2 = (k : Int) → Ats l k (gI S 240 6) (gI S 240 7)) :
    WP (lpF (mX16_check_L84 p2) ((l.length : Int), 0, S)) (fun z => ∃ l r, vAll C = l ++ r ∧ z.1 = (l.length : Int) ∧ (∀ k : Nat, p2 = (k : Int) → Ats l k (gI z.2 240 6) (gI z.2 240 7)) ∧ (r = [] ∨ (p2 ≠ -1 ∧ p2 < (l.length : Int))) ∧ Ch 240 240 S z.2) := by
  have hw := wB.1
  have hn : kBx C ≤ 2000 := by unfold kBx; omega
  have hi23 : ∀ i : Nat, ((i : Int) < C 23 0 ↔ i < kBx C) := fun i => by unfold kBx; omega
  have lt := vTh_len (C := C) (kBx C)
  have ll : l.length ≤ 2000 := by rw [hl, List.length_append] at lt; omega
  have cd : w32 (p2 + (if w32 p2 = -1 then 4000000 else 0)) = (if p2 = -1 then 3999999 else p2) := by
    rw [w32_id (show -2147483648 ≤ p2 ∧ _ by omega)]
    by_cases q : p2 = -1
    · rw [if_pos q, if_pos q, q]; rfl
    · rw [if_neg q, if_neg q, w32_id (by omega), Int.add_zero]
  by_cases st : p2 ≠ -1 ∧ p2 < (l.length : Int)
  · refine WP_cnt 0 (fun _ z => z = ((l.length : Int), 0, S)) (by unfold cFU; omega) rfl (fun i z hi' => absurd hi' (Nat.not_lt_zero _)) (fun z hI => ?_)
    subst hI
    have e : vAll C = l ++ (r ++ vPr C (kBx C)) := by unfold vAll; rw [hl, List.append_assoc]
    unfold mX16_check_L84
    dsimp only
    rw [h.1, hL, gk_chip hk, ← hL, h.2.1, cd, w32_id (show -2147483648 ≤ (0 : Int) ∧ _ by omega), w32_id (show -2147483648 ≤ C 23 0 ∧ _ by omega), w32_id (show -2147483648 ≤ (l.length : Int) ∧ _ by omega), if_neg st.1]
    by_cases z : 0 < C 23 0
    · rw [if_pos z, if_neg (by omega)]
      exact WP_some.2 ⟨l, _, e, rfl, h0, .inr st, Ch.refl⟩
    · rw [if_neg z]
      exact WP_some.2 ⟨l, _, e, rfl, h0, .inr st, Ch.refl⟩
  · have r0 : r = [] := hr.elim id (fun g => absurd g st)
    subst r0
    rw [List.append_nil] at hl
    refine WP_cnt (kBx C) (fun i z => z.2.1 = (i : Int) ∧ z.1 = ((l ++ vPr C i).length : Int) ∧ (∀ k : Nat, p2 = (k : Int) → Ats (l ++ vPr C i) k (gI z.2.2 240 6) (gI z.2.2 240 7)) ∧ Ch 240 240 S z.2.2) (by unfold cFU; omega) ⟨rfl, by show (l.length : Int) = _; rw [show vPr C 0 = [] from rfl, List.append_nil], fun k g => by rw [show vPr C 0 = [] from rfl, List.append_nil]; exact h0 k g, Ch.refl⟩ (fun i z hi hI => ?_) (fun z hI => ?_)
    · obtain ⟨b1, b2, b3, b4⟩ := hI
      have hz := h.ch b4 (by omega)
      have ln := vPr_len wB i
      have la : (l ++ vPr C i).length = l.length + (vPr C i).length := List.length_append
      obtain ⟨z1, z2, z3⟩ := z
      dsimp only at b1 b2 b3 b4 hz
      subst b1 b2
      unfold mX16_check_L84
      dsimp only
      rw [hz.1, hL, gk_chip hk, ← hL, hz.2.1, cd, w32_id (show -2147483648 ≤ (i : Int) ∧ _ by omega), w32_id (show -2147483648 ≤ C 23 0 ∧ _ by omega), if_pos ((hi23 i).2 hi), w32_id (show -2147483648 ≤ ((l ++ vPr C i).length : Int) ∧ _ by omega)]
      by_cases q : ((l ++ vPr C i).length : Int) ≤ (if p2 = -1 then 3999999 else p2)
      · rw [if_pos q]
        refine WP_call (k_ck119 (T := z3) (n0 := ((l ++ vPr C i).length : Int)) hz hk hL wB hp hi (by omega) b3) (fun x hx => ?_)
        have ev : l ++ vPr C (i + 1) = (l ++ vPr C i) ++ vRow C i (kBx C - 1 - i) := by rw [List.append_assoc]; rfl
        exact WP_some.2 ⟨by show (i : Int) + 1 = _; omega, by rw [ev]; exact hx.1, fun k hk' => by rw [ev]; exact hx.2.1 k hk', b4.tr hx.2.2 (by omega) (by omega)⟩
      · rw [if_neg q]
        obtain ⟨r, hr⟩ := vPr_pre (C := C) (i := i) (n := kBx C) (by omega)
        refine WP_some.2 ⟨_, r, by unfold vAll; rw [hl, hr, List.append_assoc], rfl, b3, .inr ?_, b4⟩
        by_cases z : p2 = -1
        · rw [if_pos z] at q; omega
        · rw [if_neg z] at q; exact ⟨z, by omega⟩
    · obtain ⟨b1, b2, b3, b4⟩ := hI
      have hz := h.ch b4 (by omega)
      unfold mX16_check_L84
      rw [hz.1, hL, gk_chip hk, ← hL, hz.2.1, b1, w32_id (show -2147483648 ≤ (kBx C : Int) ∧ _ by omega), w32_id (show -2147483648 ≤ C 23 0 ∧ _ by omega), if_neg (by rw [hi23]; omega)]
      exact WP_some.2 ⟨_, [], by unfold vAll; rw [hl, List.append_nil], b2, b3, .inl rfl, b4⟩
/-- the class's violations: how many up to one asked for, and that one -/
theorem k_check (e20 : gI S L 20 = C 23 0) (eb : ∀ i, i < 5 * kBx C → gI S (L + 15) i = C 24 i) (hk : k < 4) (hL : L = 344 + 22 * k) (wB : WFB C) (hp : -1 ≤ p2 ∧ p2 < 2147483648) :
    WP (mX16_check S L p2) (fun z => ∃ l r, vAll C = l ++ r ∧ z.1 = (l.length : Int) ∧ (∀ k : Nat, p2 = (k : Int) → Ats l k (gI z.2 240 6) (gI z.2 240 7)) ∧ (r = [] ∨ (p2 ≠ -1 ∧ p2 < (l.length : Int))) ∧ Ch 240 240 (sR S 240 1 L) z.2) := by
  unfold mX16_check
  rw [wfR_eq, wf_eq, wf_eq]
  obtain ⟨S3, hS⟩ : ∃ S3, sI (sI (sR S 240 1 L) 240 6 (-1)) 240 7 (-1) = S3 := ⟨_, rfl⟩
  have c3 : Ch 240 240 (sR S 240 1 L) S3 := by rw [← hS]; exact (Ch.refl.sI (by omega)).sI (by omega)
  have b3 : KBx S3 L C := ⟨(c3.2.2.1 _ _).trans (by rw [gR_sR, if_pos ⟨rfl, rfl⟩]), (c3.1 _ _ (by omega)).trans e20, fun i hi => (c3.1 _ _ (by omega)).trans (eb i hi)⟩
  rw [hS]
  refine WP_call (k_ck20 b3 hk hL wB hp (by rw [← hS, hI_sI_i (by omega), gI_set]; rfl) (by rw [← hS, gI_set]; rfl)) (fun x hx => ?_)
  obtain ⟨l, r, x1, x2, x3, x4, x5⟩ := hx
  rw [x2]
  refine WP_call (k_ck84 (b3.ch x5 (by omega)) hk hL wB hp x1 x4 x3) (fun y hy => ?_)
  obtain ⟨l, r, y1, y2, y3, y4, y5⟩ := hy
  exact WP_some.2 ⟨l, r, y1, y2, y3, y4, (c3.tr x5 (by omega) (by omega)).tr y5 (by omega) (by omega)⟩
end KCHECK
