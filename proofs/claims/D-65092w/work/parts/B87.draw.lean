/-! drawing: the class -/
def DrB (S : Sto) (a o : Nat) (l : List Bx5) : Prop := ∀ i t, l[i]? = some t → gI S a (o + 5 * i) = t.1 ∧ gI S a (o + 5 * i + 1) = t.2.1 ∧ gI S a (o + 5 * i + 2) = t.2.2.1 ∧ gI S a (o + 5 * i + 3) = t.2.2.2.1 ∧ gI S a (o + 5 * i + 4) = t.2.2.2.2
def bxOk (t : Bx5) : Prop := (0 ≤ t.1 ∧ t.1 ≤ 2) ∧ (-1 ≤ t.2.1 ∧ t.2.1 ≤ 300) ∧ (-1 ≤ t.2.2.1 ∧ t.2.2.1 ≤ 300) ∧ (-1 ≤ t.2.2.2.1 ∧ t.2.2.2.1 ≤ 300) ∧ (-1 ≤ t.2.2.2.2 ∧ t.2.2.2.2 ≤ 300) ∧ t.2.1 < t.2.2.2.1 ∧ t.2.2.1 < t.2.2.2.2
theorem DrB.app {S S' : Sto} {a o : Nat} {l : List Bx5} {t : Bx5} (h : DrB S a o l) (e : ∀ j, j < o + 5 * l.length → gI S' a j = gI S a j)
    (n : gI S' a (o + 5 * l.length) = t.1 ∧ gI S' a (o + 5 * l.length + 1) = t.2.1 ∧ gI S' a (o + 5 * l.length + 2) = t.2.2.1 ∧ gI S' a (o + 5 * l.length + 3) = t.2.2.2.1 ∧ gI S' a (o + 5 * l.length + 4) = t.2.2.2.2) : DrB S' a o (l ++ [t]) := by
  intro i u hu
  by_cases q : i < l.length
  · rw [List.getElem?_append_left q] at hu
    have := h i u hu
    rw [e _ (by omega), e _ (by omega), e _ (by omega), e _ (by omega), e _ (by omega)]; exact this
  · rw [List.getElem?_append_right (by omega)] at hu
    by_cases z : i = l.length
    · subst z
      rw [Nat.sub_self] at hu
      have : t = u := Option.some.inj hu
      subst this; exact n
    · have : ([t] : List Bx5)[i - l.length]? = none := List.getElem?_eq_none (by show 1 ≤ _; omega)
      rw [this] at hu; exact (nomatch hu)
theorem lenS {α : Type} {l : List α} {x : α} : (l ++ [x]).length = l.length + 1 := by rw [List.length_append]; rfl
theorem st3 : ∀ a b c : Fin 2, (w32 (aAnd ((a.val : Int) + 2 * (b.val : Int) + 4 * (c.val : Int)) 1) = 0 ↔ a.val = 0) ∧ (w32 (aAnd ((a.val : Int) + 2 * (b.val : Int) + 4 * (c.val : Int)) 2) = 0 ↔ b.val = 0) ∧ (w32 (aAnd ((a.val : Int) + 2 * (b.val : Int) + 4 * (c.val : Int)) 4) = 0 ↔ c.val = 0) := by decide
theorem st3' {a b c : Int} (ha : a = 0 ∨ a = 1) (hb : b = 0 ∨ b = 1) (hc : c = 0 ∨ c = 1) : (w32 (aAnd (a + 2 * b + 4 * c) 1) = 0 ↔ a = 0) ∧ (w32 (aAnd (a + 2 * b + 4 * c) 2) = 0 ↔ b = 0) ∧ (w32 (aAnd (a + 2 * b + 4 * c) 4) = 0 ↔ c = 0) := by
  obtain ⟨a', rfl⟩ : ∃ a' : Fin 2, a = (a'.val : Int) := by rcases ha with rfl | rfl; exact ⟨0, rfl⟩; exact ⟨1, rfl⟩
  obtain ⟨b', rfl⟩ : ∃ a' : Fin 2, b = (a'.val : Int) := by rcases hb with rfl | rfl; exact ⟨0, rfl⟩; exact ⟨1, rfl⟩
  obtain ⟨c', rfl⟩ : ∃ a' : Fin 2, c = (a'.val : Int) := by rcases hc with rfl | rfl; exact ⟨0, rfl⟩; exact ⟨1, rfl⟩
  have := st3 a' b' c'
  exact ⟨this.1.trans (by omega), this.2.1.trans (by omega), this.2.2.trans (by omega)⟩
abbrev kW (C : Chp) : Nat := kS C + 2
abbrev kHn (C : Chp) : Nat := (kH C).toNat
/-- the drawer at work: boxes so far -/
def KDr (S : Sto) (L : Nat) (C : Chp) (l : List Bx5) : Prop :=
  gR S 240 1 = L ∧ gI S L 11 + 2 = (kW C : Int) ∧ gI S L 13 = (kHn C : Int) ∧ (∀ p, p < 2 * kLy C → gI S (L + 12) p = C 20 p ∧ gI S (L + 13) p = C 21 p + 2 * C 31 p + 4 * C 32 p) ∧
  gI S 240 2 = (l.length : Int) ∧ l.length ≤ 2000 ∧ DrB S (L + 15) 0 l
def DrF (L : Nat) (S z : Sto) : Prop := (∀ a i, a ≠ L + 15 → ¬ (a = 240 ∧ i = 2) → gI z a i = gI S a i) ∧ (∀ a i, gL z a i = gL S a i) ∧ (∀ a i, gR z a i = gR S a i) ∧ nC z = nC S ∧ nS z = nS S
theorem DrF.refl {L : Nat} {S : Sto} : DrF L S S := ⟨fun _ _ _ _ => rfl, fun _ _ => rfl, fun _ _ => rfl, rfl, rfl⟩
theorem DrF.tr {L : Nat} {S S' S'' : Sto} (h : DrF L S S') (g : DrF L S' S'') : DrF L S S'' := ⟨fun a i q q' => (g.1 a i q q').trans (h.1 a i q q'), fun a i => (g.2.1 a i).trans (h.2.1 a i), fun a i => (g.2.2.1 a i).trans (h.2.2.1 a i), g.2.2.2.1.trans h.2.2.2.1, g.2.2.2.2.trans h.2.2.2.2⟩
section KDRAW
variable {S : Sto} {L k : Nat} {C : Chp} {l : List Bx5}
theorem k_put (h : KDr S L C l) (hk : k < 4) (hL : L = 344 + 22 * k) {t : Bx5} (ht : bxOk t) (hl : l.length < 2000) : WP (mX16_put S t.1 t.2.1 t.2.2.1 t.2.2.2.1 t.2.2.2.2) (fun z => z.1 = 1 ∧ KDr z.2 L C (l ++ [t]) ∧ DrF L S z.2) := by
  obtain ⟨h1, h2, h3, h4, h5, h6, h7⟩ := h
  obtain ⟨t1, t2, t3, t4, t5, t6, t7⟩ := ht
  have g1 : gR (sI S 240 2 ((l.length : Int) + 1)) 240 1 = L := h1
  have zt : (5 * (l.length : Int)).toNat = 5 * l.length ∧ (5 * (l.length : Int) + 1).toNat = 5 * l.length + 1 ∧ (5 * (l.length : Int) + 2).toNat = 5 * l.length + 2 ∧ (5 * (l.length : Int) + 3).toNat = 5 * l.length + 3 ∧ (5 * (l.length : Int) + 4).toNat = 5 * l.length + 4 := by omega
  obtain ⟨z0, z1, z2, z3, z4⟩ := zt
  unfold mX16_put
  rw [h5, w32_id (by omega), if_neg (by omega), wf_eq]
  simp only [gR_sI]
  rw [h1, hL, gk_chip hk, ← hL, wrI_e (by omega), z0]
  simp only [gR_sI]
  rw [h1, hL, gk_chip hk, ← hL, wrI_e (by omega), z1]
  simp only [gR_sI]
  rw [h1, hL, gk_chip hk, ← hL, wrI_e (by omega), z2]
  simp only [gR_sI]
  rw [h1, hL, gk_chip hk, ← hL, wrI_e (by omega), z3]
  simp only [gR_sI]
  rw [h1, hL, gk_chip hk, ← hL, wrI_e (by omega), z4, w16_id (by omega), w16_id (by omega), w16_id (by omega), w16_id (by omega), w16_id (by omega)]
  have fr : ∀ a i, a ≠ L + 15 → ¬ (a = 240 ∧ i = 2) → gI (sI (sI (sI (sI (sI (sI S 240 2 ((l.length : Int) + 1)) (L + 15) (5 * l.length) t.1) (L + 15) (5 * l.length + 1) t.2.1) (L + 15) (5 * l.length + 2) t.2.2.1) (L + 15) (5 * l.length + 3) t.2.2.2.1) (L + 15) (5 * l.length + 4) t.2.2.2.2) a i = gI S a i := fun a i q q' => by
    rw [hI_sI_a q, hI_sI_a q, hI_sI_a q, hI_sI_a q, hI_sI_a q, hI_sI, if_neg q']
  refine WP_some.2 ⟨rfl, ⟨h1, ?_, ?_, fun p hp => ?_, ?_, by rw [lenS]; omega, ?_⟩, fr, fun _ _ => rfl, fun _ _ => rfl, rfl, rfl⟩
  · dsimp only; rw [fr _ _ (by omega) (by omega)]; exact h2
  · dsimp only; rw [fr _ _ (by omega) (by omega)]; exact h3
  · dsimp only; rw [fr _ _ (by omega) (by omega), fr _ _ (by omega) (by omega)]; exact h4 p hp
  · dsimp only
    rw [hI_sI_a (by omega), hI_sI_a (by omega), hI_sI_a (by omega), hI_sI_a (by omega), hI_sI_a (by omega), gI_set, w32_id (by omega), lenS]; rfl
  · dsimp only
    refine h7.app (fun j hj => ?_) ?_
    · simp (disch := omega) only [gI_sIn]
    · simp (disch := omega) only [gI_sIn, gI_sIe, w32_id, Nat.zero_add, and_self]
theorem k_put_no (h : KDr S L C l) (hl : l.length = 2000) {a b c d e : Int} : mX16_put S a b c d e = some (0, S) := by
  unfold mX16_put
  rw [h.2.2.2.2.1, hl]; rfl
theorem yw_int {y W x : Nat} : (y : Int) * (W : Int) + (x : Int) = ((y * W + x : Nat) : Int) := by rw [Int.natCast_add, Int.natCast_mul]
theorem kLy_wh : kLy C = kW C * kHn C := rfl
theorem pt_lt {x y : Nat} (hx : x < kW C) (hy : y < kHn C) : y * kW C + x < kLy C := by
  have : (y + 1) * kW C ≤ kHn C * kW C := Nat.mul_le_mul_right _ hy
  rw [Nat.succ_mul] at this
  rw [kLy_wh, Nat.mul_comm (kW C)]; omega
theorem pt_mod {x y : Nat} (hx : x < kW C) : (y * kW C + x) % kW C = x ∧ (y * kW C + x) / kW C = y := by
  rw [Nat.mul_comm, Nat.mul_add_mod, Nat.mod_eq_of_lt hx, Nat.mul_add_div (by omega), Nat.div_eq_of_lt hx]
  exact ⟨rfl, rfl⟩
theorem rwB_le {sx : Nat → Int} {W y x : Nat} : rwB sx W y x ≤ x := by
  induction x with
  | zero => exact Nat.le_refl _
  | succ x ih => have e : rwB sx W y (x + 1) = if sx (y * W + x) = 1 then rwB sx W y x else x + 1 := rfl
                 rw [e]; split <;> omega
theorem clB_le {sy : Nat → Int} {W l x y : Nat} : clB sy W l x y ≤ y := by
  induction y with
  | zero => exact Nat.le_refl _
  | succ y ih => have e : clB sy W l x (y + 1) = if sy (l + (y * W + x)) = 1 then clB sy W l x y else y + 1 := rfl
                 rw [e]; split <;> omega
theorem dRw_pre {own sx : Nat → Int} {n W y i m : Nat} (h : i ≤ m) : ∃ r, dRw own sx n W y m = dRw own sx n W y i ++ r := by
  induction m with
  | zero => have : i = 0 := by omega
            subst this; exact ⟨[], rfl⟩
  | succ m ih =>
    by_cases e : i = m + 1
    · subst e; exact ⟨[], (List.append_nil _).symm⟩
    · obtain ⟨r, hr⟩ := ih (by omega)
      exact ⟨r ++ _, by show dRw own sx n W y m ++ _ = _; rw [hr, List.append_assoc]⟩
theorem dRws_pre {own sx : Nat → Int} {n W i m : Nat} (h : i ≤ m) : ∃ r, dRws own sx n W m = dRws own sx n W i ++ r := by
  induction m with
  | zero => have : i = 0 := by omega
            subst this; exact ⟨[], rfl⟩
  | succ m ih =>
    by_cases e : i = m + 1
    · subst e; exact ⟨[], (List.append_nil _).symm⟩
    · obtain ⟨r, hr⟩ := ih (by omega)
      exact ⟨r ++ _, by show dRws own sx n W m ++ _ = _; rw [hr, List.append_assoc]⟩
theorem dCl_pre {own sy : Nat → Int} {n W l x i m : Nat} (h : i ≤ m) : ∃ r, dCl own sy n W l x m = dCl own sy n W l x i ++ r := by
  induction m with
  | zero => have : i = 0 := by omega
            subst this; exact ⟨[], rfl⟩
  | succ m ih =>
    by_cases e : i = m + 1
    · subst e; exact ⟨[], (List.append_nil _).symm⟩
    · obtain ⟨r, hr⟩ := ih (by omega)
      exact ⟨r ++ _, by show dCl own sy n W l x m ++ _ = _; rw [hr, List.append_assoc]⟩
theorem dCls_pre {own sy : Nat → Int} {n W l H i m : Nat} (h : i ≤ m) : ∃ r, dCls own sy n W l H m = dCls own sy n W l H i ++ r := by
  induction m with
  | zero => have : i = 0 := by omega
            subst this; exact ⟨[], rfl⟩
  | succ m ih =>
    by_cases e : i = m + 1
    · subst e; exact ⟨[], (List.append_nil _).symm⟩
    · obtain ⟨r, hr⟩ := ih (by omega)
      exact ⟨r ++ _, by show dCls own sy n W l H m ++ _ = _; rw [hr, List.append_assoc]⟩
theorem dVi_pre {own v : Nat → Int} {n W i m : Nat} (h : i ≤ m) : ∃ r, dVi own v n W m = dVi own v n W i ++ r := by
  induction m with
  | zero => have : i = 0 := by omega
            subst this; exact ⟨[], rfl⟩
  | succ m ih =>
    by_cases e : i = m + 1
    · subst e; exact ⟨[], (List.append_nil _).symm⟩
    · obtain ⟨r, hr⟩ := ih (by omega)
      exact ⟨r ++ _, by show dVi own v n W m ++ _ = _; rw [hr, List.append_assoc]⟩
/-- while steps in X go on -/
theorem k_ly59 (h : KDr S L C l) (hk : k < 4) (hL : L = 344 + 22 * k) (w : WFC C) (wp : WFP C) (ww : WFW C) (h19 : C 19 0 = 1) {n x y : Nat} (hx : x < kW C) (hy : y < kHn C) (ho : C 20 (y * kW C + x) = (n : Int)) (hb : rwB (C 21) (kW C) y x = x) {T : Sto} {u : Int} :
    WP (lpF (mX16_lying_L59 (u, S) ((y : Int), T) (kW C : Int)) (x : Int)) (fun z => ∃ x' : Nat, z = (x' : Int) ∧ x ≤ x' ∧ x' < kW C ∧ rwB (C 21) (kW C) y x' = x ∧ C 21 (y * kW C + x') = 0 ∧ C 20 (y * kW C + x') = (n : Int) ∧ dRw (C 20) (C 21) n (kW C) y x' = dRw (C 20) (C 21) n (kW C) y x) := by
  have ly := kLy_le w wp
  have W := ww.2 h19
  have hs := kS_le wp
  have hh := kH_le w wp
  have hW : kW C ≤ 62 := by show kS C + 2 ≤ 62; omega
  refine WP_lpF (fun z => ∃ x' : Nat, z = (x' : Int) ∧ x ≤ x' ∧ x' < kW C ∧ rwB (C 21) (kW C) y x' = x ∧ C 20 (y * kW C + x') = (n : Int) ∧ dRw (C 20) (C 21) n (kW C) y x' = dRw (C 20) (C 21) n (kW C) y x) (fun z => (kW C - z).toNat) ⟨x, rfl, Nat.le_refl _, hx, hb, ho, rfl⟩ (by unfold cFU; omega) (fun z hI => ?_)
  obtain ⟨x', rfl, b1, b2, b3, b4, b5⟩ := hI
  have pl := pt_lt b2 hy
  have Wp := W.2.1 (y * kW C + x') (by omega)
  have e := (h.2.2.2.1 (y * kW C + x') (by omega)).2
  have yw : (y : Int) * (kW C : Int) + (x' : Int) = ((y * kW C + x' : Nat) : Int) := yw_int
  have s3 := st3' Wp.2.2.1 Wp.2.2.2.1 Wp.2.2.2.2
  unfold mX16_lying_L59
  dsimp only
  rw [h.1, hL, gk_chip hk, ← hL, yw, rdI_e (by omega), Int.toNat_natCast, e]
  rcases Wp.2.2.1 with q | q
  · rw [if_neg (by rw [s3.1]; omega)]
    exact WP_some.2 ⟨x', rfl, b1, b2, b3, q, b4, b5⟩
  · rw [if_pos (by rw [s3.1]; omega)]
    have st := W.2.2.1 (y * kW C + x') (by omega) q
    have md := pt_mod (C := C) (y := y) b2
    have st2 : x' + 1 < kW C := by have := st.2.1; rw [show (y * kW C + x') % (kS C + 2) = x' from md.1] at this; exact this
    refine WP_some.2 ⟨⟨x' + 1, by show (x' : Int) + 1 = _; omega, by omega, st2, ?_, ?_, ?_⟩, by show ((kW C : Int) - ((x' : Int) + 1)).toNat < _; omega⟩
    · show (if C 21 (y * kW C + x') = 1 then rwB (C 21) (kW C) y x' else x' + 1) = x
      rw [if_pos q]; exact b3
    · rw [← Nat.add_assoc, st.2.2.1]; exact b4
    · show dRw (C 20) (C 21) n (kW C) y x' ++ _ = _
      rw [if_neg (by rw [q]; omega), List.append_nil]; exact b5
theorem k_ly24 (hk : k < 4) (hL : L = 344 + 22 * k) (w : WFC C) (wp : WFP C) (ww : WFW C) (h19 : C 19 0 = 1) {n y : Nat} (hn : n < kN C) (hy : y < kHn C) {T : Sto} (h : KDr S L C l) :
    WP (lpF (mX16_lying_L24 (kW C : Int) ((y : Int), T) (n : Int)) (0, S)) (WE (fun z => KDr z L C (l ++ dRw (C 20) (C 21) n (kW C) y (kW C)) ∧ DrF L S z) (fun t => ∃ z, t = .inr (.inr (0, z)) ∧ 2000 < (l ++ dRw (C 20) (C 21) n (kW C) y (kW C)).length ∧ DrF L S z)) := by
  have hnn := w.nums
  have ly := kLy_le w wp
  have W := ww.2 h19
  have hs := kS_le wp
  have hh := kH_le w wp
  have hW : kW C ≤ 62 := by show kS C + 2 ≤ 62; omega
  have hH : kHn C ≤ 38 := by show (kH C).toNat ≤ 38; omega
  refine WP_lpF (fun z => ∃ x : Nat, z.1 = (x : Int) ∧ x ≤ kW C ∧ KDr z.2 L C (l ++ dRw (C 20) (C 21) n (kW C) y x) ∧ DrF L S z.2 ∧ (x < kW C → C 20 (y * kW C + x) = (n : Int) → rwB (C 21) (kW C) y x = x)) (fun z => ((kW C : Int) - z.1).toNat) ⟨0, rfl, Nat.zero_le _, by rw [show dRw (C 20) (C 21) n (kW C) y 0 = [] from rfl, List.append_nil]; exact h, DrF.refl, fun _ _ => rfl⟩ (by unfold cFU; show ((kW C : Int) - 0).toNat < _; omega) (fun z hI => ?_)
  obtain ⟨z1, z2⟩ := z
  obtain ⟨x, b1, b2, b3, b4, b5⟩ := hI
  dsimp only at b1 b3 b4
  subst b1
  unfold mX16_lying_L24
  dsimp only
  rw [w32_id (by omega), w32_id (by omega)]
  by_cases q : x < kW C
  · have pl := pt_lt q hy
    have Wp := W.2.1 (y * kW C + x) (by omega)
    have e := (b3.2.2.2.1 (y * kW C + x) (by omega)).1
    have yw : (y : Int) * (kW C : Int) + (x : Int) = ((y * kW C + x : Nat) : Int) := yw_int
    rw [if_pos (by omega), b3.1, hL, gk_chip hk, ← hL, yw, rdI_e (by omega), Int.toNat_natCast, e, w32_id (by omega), w32_id (by omega)]
    by_cases o : C 20 (y * kW C + x) = (n : Int)
    · rw [if_neg (fun g => g o)]
      refine WP_bE.2 (WP_bX.2 ((k_ly59 (n := n) (T := T) (u := (x : Int)) b3 hk hL w wp ww h19 q hy o (b5 q o)).mono (fun v hv => ?_)))
      obtain ⟨x', rfl, c1, c2, c3, c4, c5, c6⟩ := hv
      have ev : dRw (C 20) (C 21) n (kW C) y (x' + 1) = dRw (C 20) (C 21) n (kW C) y x ++ [(0, 4 * (x : Int) - 1, 4 * (y : Int) - 1, 4 * (x' : Int) + 1, 4 * (y : Int) + 1)] := by
        show dRw (C 20) (C 21) n (kW C) y x' ++ _ = _
        rw [if_pos ⟨c5, c4⟩, c3, c6]
      have ok : bxOk (0, 4 * (x : Int) - 1, 4 * (y : Int) - 1, 4 * (x' : Int) + 1, 4 * (y : Int) + 1) := by unfold bxOk; dsimp only; omega
      by_cases len : (l ++ dRw (C 20) (C 21) n (kW C) y x).length < 2000
      · refine WP_bX.2 ((k_put b3 hk hL ok len).mono (fun u hu => ?_))
        obtain ⟨u1, u2, u3⟩ := hu
        rw [u1, if_neg (by decide)]
        refine WP_some.2 (WP_some.2 ⟨⟨x' + 1, by show (x' : Int) + 1 = _; omega, by omega, ?_, b4.tr u3, fun _ _ => ?_⟩, by show ((kW C : Int) - ((x' : Int) + 1)).toNat < ((kW C : Int) - (x : Int)).toNat; omega⟩)
        · rw [ev, ← List.append_assoc]; exact u2
        · show (if C 21 (y * kW C + x') = 1 then _ else x' + 1) = _
          rw [if_neg (by omega)]
      · have l2 := b3.2.2.2.2.2.1
        rw [k_put_no b3 (by omega), bX_some, if_pos (by rfl)]
        refine WP_some.2 ⟨z2, rfl, ?_, b4⟩
        obtain ⟨rr, hr⟩ := dRw_pre (own := C 20) (sx := C 21) (n := n) (W := kW C) (y := y) (i := x' + 1) (m := kW C) (by omega)
        rw [hr, ev, ← List.append_assoc, ← List.append_assoc, List.length_append, lenS]; omega
    · rw [if_pos o, bE_inl]
      have ev : dRw (C 20) (C 21) n (kW C) y (x + 1) = dRw (C 20) (C 21) n (kW C) y x := by
        show dRw (C 20) (C 21) n (kW C) y x ++ _ = _
        rw [if_neg (fun g => o g.1), List.append_nil]
      refine WP_some.2 ⟨⟨x + 1, by show (x : Int) + 1 = _; omega, by omega, by rw [ev]; exact b3, b4, fun g1 g2 => ?_⟩, by show ((kW C : Int) - ((x : Int) + 1)).toNat < ((kW C : Int) - (x : Int)).toNat; omega⟩
      show (if C 21 (y * kW C + x) = 1 then _ else x + 1) = _
      rw [if_neg]
      intro s1
      have st := W.2.2.1 (y * kW C + x) (by omega) s1
      rw [Nat.add_assoc] at st
      exact o (st.2.2.1.symm.trans g2)
  · have ex : x = kW C := by omega
    rw [if_neg (by omega)]
    rw [ex] at b3
    exact WP_some.2 ⟨b3, b4⟩
theorem k_ly10 (hk : k < 4) (hL : L = 344 + 22 * k) (w : WFC C) (wp : WFP C) (ww : WFW C) (h19 : C 19 0 = 1) {n : Nat} (hn : n < kN C) (h : KDr S L C l) :
    WP (lpF (mX16_lying_L10 (kW C : Int) (n : Int)) (0, S)) (WE (fun z => KDr z L C (l ++ dRws (C 20) (C 21) n (kW C) (kHn C)) ∧ DrF L S z) (fun t => t.1 = 0 ∧ 2000 < (l ++ dRws (C 20) (C 21) n (kW C) (kHn C)).length ∧ DrF L S t.2)) := by
  have hh := kH_le w wp
  have hH : kHn C ≤ 38 := by show (kH C).toNat ≤ 38; omega
  refine WP_cnt (kHn C) (fun y z => z.1 = (y : Int) ∧ KDr z.2 L C (l ++ dRws (C 20) (C 21) n (kW C) y) ∧ DrF L S z.2) (by unfold cFU; omega) ⟨rfl, by rw [show dRws (C 20) (C 21) n (kW C) 0 = [] from rfl, List.append_nil]; exact h, DrF.refl⟩ (fun y z hy hI => ?_) (fun z hI => ?_)
  · obtain ⟨z1, z2⟩ := z
    obtain ⟨b1, b3, b4⟩ := hI
    dsimp only at b1 b3 b4
    subst b1
    have ev : l ++ dRws (C 20) (C 21) n (kW C) (y + 1) = (l ++ dRws (C 20) (C 21) n (kW C) y) ++ dRw (C 20) (C 21) n (kW C) y (kW C) := by rw [List.append_assoc]; rfl
    unfold mX16_lying_L10
    dsimp only
    rw [b3.1, hL, gk_chip hk, ← hL, b3.2.2.1, w32_id (by omega), w32_id (by omega), if_pos (by omega)]
    refine WP_bE.2 ((k_ly24 (T := z2) hk hL w wp ww h19 hn hy b3).mono (fun t ht => ?_))
    cases t with
    | inl v => exact WP_some.2 ⟨by show (y : Int) + 1 = _; omega, by rw [ev]; exact ht.1, b4.tr ht.2⟩
    | inr v =>
      obtain ⟨v', rfl, v2, v3⟩ := ht
      obtain ⟨rr, hr⟩ := dRws_pre (own := C 20) (sx := C 21) (n := n) (W := kW C) (i := y + 1) (m := kHn C) (by omega)
      refine ⟨rfl, ?_, b4.tr v3⟩
      rw [hr, ← List.append_assoc, ev, List.length_append]; omega
  · obtain ⟨b1, b3, b4⟩ := hI
    unfold mX16_lying_L10
    rw [b3.1, hL, gk_chip hk, ← hL, b3.2.2.1, b1, if_neg (by omega)]
    exact WP_some.2 ⟨b3, b4⟩
theorem k_lying (hk : k < 4) (hL : L = 344 + 22 * k) (w : WFC C) (wp : WFP C) (ww : WFW C) (h19 : C 19 0 = 1) {n : Nat} (hn : n < kN C) (h : KDr S L C l) :
    WP (mX16_lying S (n : Int)) (fun z => DrF L S z.2 ∧ ((z.1 = 1 ∧ KDr z.2 L C (l ++ dRws (C 20) (C 21) n (kW C) (kHn C))) ∨ (z.1 = 0 ∧ 2000 < (l ++ dRws (C 20) (C 21) n (kW C) (kHn C)).length))) := by
  unfold mX16_lying mX22_across
  rw [h.1, hL, gk_chip hk, ← hL, bX_some, h.2.1]
  refine WP_bE.2 ((k_ly10 hk hL w wp ww h19 hn h).mono (fun t ht => ?_))
  cases t with
  | inl v => exact WP_some.2 ⟨ht.2, .inl ⟨rfl, ht.1⟩⟩
  | inr v => exact ⟨ht.2.2, .inr ⟨ht.1, ht.2.1⟩⟩
end KDRAW
