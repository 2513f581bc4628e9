/-! drawing: the reference -/
def MDr (S : Sto) (k : Nat) (C : Chp) (fl : Int) (l : List Bx5) : Prop :=
  MGrid S k C ∧ (∀ p, p < 2 * kLy C → (gI S 2135 (4712 * k + p)) = C 20 p ∧ (gI S 2136 (4712 * k + p)) = C 21 p ∧ (gI S 2137 (4712 * k + p)) = C 31 p ∧ (gI S 2138 (4712 * k + p)) = C 32 p) ∧
  (gI S 2000 189) = fl ∧ (gI S 2000 188) = (l.length : Int) ∧ (fl = 0 → DrB S 2148 (10000 * k) l)
def DrM (k : Nat) (fl : Int) (S z : Sto) : Prop := (∀ a i, ¬ (fl = 0 ∧ a = 2148 ∧ 10000 * k ≤ i ∧ i < 10000 * k + 10000) → ¬ (a = 2000 ∧ i = 188) → gI z a i = gI S a i) ∧ (∀ a i, gL z a i = gL S a i) ∧ (∀ a i, gR z a i = gR S a i) ∧ nC z = nC S ∧ nS z = nS S
theorem DrM.refl {k : Nat} {fl : Int} {S : Sto} : DrM k fl S S := ⟨fun _ _ _ _ => rfl, fun _ _ => rfl, fun _ _ => rfl, rfl, rfl⟩
theorem DrM.tr {k : Nat} {fl : Int} {S S' S'' : Sto} (h : DrM k fl S S') (g : DrM k fl S' S'') : DrM k fl S S'' := ⟨fun a i q q' => (g.1 a i q q').trans (h.1 a i q q'), fun a i => (g.2.1 a i).trans (h.2.1 a i), fun a i => (g.2.2.1 a i).trans (h.2.2.1 a i), g.2.2.2.1.trans h.2.2.2.1, g.2.2.2.2.trans h.2.2.2.2⟩
theorem dRw_len {own sx : Nat → Int} {n W y x : Nat} : (dRw own sx n W y x).length ≤ x := by
  induction x with
  | zero => exact Nat.le_refl _
  | succ x ih => show (dRw own sx n W y x ++ _).length ≤ _; rw [List.length_append]; split <;> (first | (show _ + 1 ≤ _; omega) | (show _ + 0 ≤ _; omega))
theorem dRws_len {own sx : Nat → Int} {n W y : Nat} (hW : W ≤ 62) : (dRws own sx n W y).length ≤ 62 * y := by
  induction y with
  | zero => exact Nat.le_refl _
  | succ y ih => have := dRw_len (own := own) (sx := sx) (n := n) (W := W) (y := y) (x := W); show (dRws own sx n W y ++ _).length ≤ _; rw [List.length_append]; omega
theorem dCl_len {own sy : Nat → Int} {n W l x y : Nat} : (dCl own sy n W l x y).length ≤ y := by
  induction y with
  | zero => exact Nat.le_refl _
  | succ x ih => show (dCl own sy n W l _ x ++ _).length ≤ _; rw [List.length_append]; split <;> (first | (show _ + 1 ≤ _; omega) | (show _ + 0 ≤ _; omega))
theorem dCls_len {own sy : Nat → Int} {n W l H x : Nat} (hH : H ≤ 38) : (dCls own sy n W l H x).length ≤ 38 * x := by
  induction x with
  | zero => exact Nat.le_refl _
  | succ x ih => have := dCl_len (own := own) (sy := sy) (n := n) (W := W) (l := l) (x := x) (y := H); show (dCls own sy n W l H x ++ _).length ≤ _; rw [List.length_append]; omega
theorem dVi_len {own v : Nat → Int} {n W p : Nat} : (dVi own v n W p).length ≤ p := by
  induction p with
  | zero => exact Nat.le_refl _
  | succ x ih => show (dVi own v n W x ++ _).length ≤ _; rw [List.length_append]; split <;> (first | (show _ + 1 ≤ _; omega) | (show _ + 0 ≤ _; omega))
theorem dNts_len {own sx sy v : Nat → Int} {W H n : Nat} (hW : W ≤ 62) (hH : H ≤ 38) (hWH : W * H ≤ 2356) : (dNts own sx sy v W H n).length ≤ 7068 * n := by
  induction n with
  | zero => exact Nat.le_refl _
  | succ n ih =>
    have a := dRws_len (own := own) (sx := sx) (n := n) (y := H) hW
    have b := dCls_len (own := own) (sy := sy) (n := n) (W := W) (l := W * H) (x := W) hH
    have c := dVi_len (own := own) (v := v) (n := n) (W := W) (p := W * H)
    show (dNts own sx sy v W H n ++ (_ ++ (_ ++ _))).length ≤ _
    rw [List.length_append, List.length_append, List.length_append]; omega
theorem kWH_le {C : Chp} (w : WFC C) (wp : WFP C) : kW C ≤ 62 ∧ 2 ≤ kW C ∧ kHn C ≤ 38 ∧ kW C * kHn C ≤ 2356 := by
  have hs := kS_le wp
  have hh := kH_le w wp
  have ly := kLy_le w wp
  rw [kLy_wh] at ly
  exact ⟨by show kS C + 2 ≤ 62; omega, by show 2 ≤ kS C + 2; omega, by show (kH C).toNat ≤ 38; omega, ly⟩
theorem dAll_len {C : Chp} (w : WFC C) (wp : WFP C) : (dAll C).length ≤ 1200000 := by
  have hn := w.nums
  have h := kWH_le w wp
  have := dNts_len (own := C 20) (sx := C 21) (sy := C 31) (v := C 32) (n := kN C) h.1 h.2.2.1 h.2.2.2
  show (dNts (C 20) (C 21) (C 31) (C 32) (kW C) (kHn C) (kN C)).length ≤ 1200000
  omega
section MDRAW
variable {S : Sto} {k : Nat} {C : Chp} {l : List Bx5} {fl : Int}
theorem m_layD (h : MDr S k C fl l) (hk : k < 4) (hf : fl = 0 ∨ fl = 1) {t : Bx5} (ht : bxOk t) (hl : fl = 0 → l.length < 2000) (hc : l.length < 2000000) : WP (mX23_lay S t.1 t.2.1 t.2.2.1 t.2.2.2.1 t.2.2.2.2) (fun z => MDr z k C fl (l ++ [t]) ∧ DrM k fl S z) := by
  obtain ⟨⟨g1, g2, g3, g4⟩, h2, h3, h4, h5⟩ := h
  obtain ⟨t1, t2, t3, t4, t5, t6, t7⟩ := ht
  unfold mX23_lay
  rw [h3]
  rcases hf with rfl | rfl
  · have hl := hl rfl
    have zt : (5 * (2000 * (k : Int) + (l.length : Int))).toNat = 10000 * k + 5 * l.length ∧ (5 * (2000 * (k : Int) + (l.length : Int)) + 1).toNat = 10000 * k + 5 * l.length + 1 ∧ (5 * (2000 * (k : Int) + (l.length : Int)) + 2).toNat = 10000 * k + 5 * l.length + 2 ∧ (5 * (2000 * (k : Int) + (l.length : Int)) + 3).toNat = 10000 * k + 5 * l.length + 3 ∧ (5 * (2000 * (k : Int) + (l.length : Int)) + 4).toNat = 10000 * k + 5 * l.length + 4 := by omega
    obtain ⟨z0, z1, z2, z3, z4⟩ := zt
    rw [if_pos (by rfl), g1, h4, wrI_e (by omega), z0, wrI_e (by omega), z1, wrI_e (by omega), z2, wrI_e (by omega), z3, wrI_e (by omega), z4, bX_some, wf_eq]
    obtain ⟨S5, hS⟩ : ∃ S5, sI (sI (sI (sI (sI S 2148 (10000 * k + 5 * l.length) t.1) 2148 (10000 * k + 5 * l.length + 1) t.2.1) 2148 (10000 * k + 5 * l.length + 2) t.2.2.1) 2148 (10000 * k + 5 * l.length + 3) t.2.2.2.1) 2148 (10000 * k + 5 * l.length + 4) t.2.2.2.2 = S5 := ⟨_, rfl⟩
    have f5 : ∀ a i, ¬ (a = 2148 ∧ 10000 * k ≤ i ∧ i < 10000 * k + 10000) → gI S5 a i = gI S a i := fun a i q => by
      rw [← hS, hI_sI, if_neg (by omega), hI_sI, if_neg (by omega), hI_sI, if_neg (by omega), hI_sI, if_neg (by omega), hI_sI, if_neg (by omega)]
    have d5 : gI S5 2000 188 = (l.length : Int) := (f5 _ _ (by omega)).trans h4
    have l5 : (∀ a i, gL S5 a i = gL S a i) ∧ (∀ a i, gR S5 a i = gR S a i) ∧ nC S5 = nC S ∧ nS S5 = nS S := by rw [← hS]; exact ⟨fun _ _ => rfl, fun _ _ => rfl, rfl, rfl⟩
    rw [hS, d5]
    have f6 : ∀ a i, ¬ (a = 2148 ∧ 10000 * k ≤ i ∧ i < 10000 * k + 10000) → ¬ (a = 2000 ∧ i = 188) → gI (sI S5 2000 188 ((l.length : Int) + 1)) a i = gI S a i := fun a i q q' => by rw [hI_sI, if_neg q']; exact f5 a i q
    refine WP_some.2 ⟨⟨⟨?_, ?_, ?_, ?_⟩, fun p hp => ?_, ?_, ?_, fun _ => ?_⟩, fun a i q q' => f6 a i (fun g => q ⟨rfl, g⟩) q', l5⟩
    · rw [f6 _ _ (by omega) (by omega)]; exact g1
    · rw [f6 _ _ (by omega) (by omega)]; exact g2
    · rw [f6 _ _ (by omega) (by omega)]; exact g3
    · rw [f6 _ _ (by omega) (by omega)]; exact g4
    · rw [f6 _ _ (by omega) (by omega), f6 _ _ (by omega) (by omega), f6 _ _ (by omega) (by omega), f6 _ _ (by omega) (by omega)]; exact h2 p hp
    · rw [f6 _ _ (by omega) (by omega)]; exact h3
    · rw [gI_set, w32_id (by omega), lenS]; rfl
    · refine (h5 rfl).app (fun j hj => ?_) ?_
      · rw [hI_sI_a (by omega), ← hS]
        simp (disch := omega) only [gI_sIn]
      · rw [hI_sI_a (by omega), hI_sI_a (by omega), hI_sI_a (by omega), hI_sI_a (by omega), hI_sI_a (by omega), ← hS]
        simp (disch := omega) only [gI_sIn, gI_sIe, w32_id, and_self]
  · rw [if_neg (by decide), bX_some, wf_eq, h4]
    have f6 : ∀ a i, ¬ (a = 2000 ∧ i = 188) → gI (sI S 2000 188 ((l.length : Int) + 1)) a i = gI S a i := fun a i q' => by rw [hI_sI, if_neg q']
    refine WP_some.2 ⟨⟨⟨?_, ?_, ?_, ?_⟩, fun p hp => ?_, ?_, ?_, fun g => absurd g (by decide)⟩, fun a i _ q' => f6 a i q', fun _ _ => rfl, fun _ _ => rfl, rfl, rfl⟩
    · rw [f6 _ _ (by omega)]; exact g1
    · rw [f6 _ _ (by omega)]; exact g2
    · rw [f6 _ _ (by omega)]; exact g3
    · rw [f6 _ _ (by omega)]; exact g4
    · rw [f6 _ _ (by omega), f6 _ _ (by omega), f6 _ _ (by omega), f6 _ _ (by omega)]; exact h2 p hp
    · rw [f6 _ _ (by omega)]; exact h3
    · rw [gI_set, w32_id (by omega), lenS]; rfl
theorem aNs : aN (kK 2136) = 18848 ∧ aN (kK 2137) = 18848 ∧ aN (kK 2138) = 18848 := by decide
theorem m_isStepA {a : Nat} {v : Int} (ha : aN (kK a) = 18848) (hk : k < 4) (hc : gI S 2000 177 = (k : Int)) {p : Nat} (hp : p < 4712) (e : gI S a (4712 * k + p) = v) (hv : v = 0 ∨ v = 1) : mX23_isStep S a (p : Int) = some v := by
  have zt : (4712 * (k : Int) + (p : Int)).toNat = 4712 * k + p := by omega
  unfold mX23_isStep
  rw [ha, hc, rdZ_e (by omega), zt, e]
  rcases hv with rfl | rfl <;> rfl
theorem m_netAtD (h : MDr S k C fl l) (hk : k < 4) {p : Nat} (hp : p < 2 * kLy C) (hl : kLy C ≤ 2356) : mX23_netAt S (p : Int) = some (C 20 p) := by
  have zt : (4712 * (k : Int) + (p : Int)).toNat = 4712 * k + p := by omega
  unfold mX23_netAt
  rw [h.1.1, rdI_e (by omega), zt, (h.2.1 p hp).1]
theorem m_rows15 (hk : k < 4) (w : WFC C) (wp : WFP C) (ww : WFW C) (h19 : C 19 0 = 1) (hf : fl = 0 ∨ fl = 1) {n y : Nat} (hn : n < kN C) (hy : y < kHn C) {T : Sto} (h : MDr S k C fl l) {cap : Nat} (hcap : cap ≤ 2000000 ∧ (fl = 0 → cap ≤ 2000)) (hle : (l ++ dRw (C 20) (C 21) n (kW C) y (kW C)).length ≤ cap) :
    WP (lpF (mX23_layRows_L15 ((y : Int), T) (n : Int)) (0, 0, S)) (fun z => MDr z k C fl (l ++ dRw (C 20) (C 21) n (kW C) y (kW C)) ∧ DrM k fl S z) := by
  have hnn := w.nums
  obtain ⟨hW, hW2, hH, hWH⟩ := kWH_le w wp
  have ly : kLy C ≤ 2356 := hWH
  have W := ww.2 h19
  refine WP_cnt (kW C) (fun x z => z.2.1 = (x : Int) ∧ z.1 = ((if x = 0 then 0 else rwB (C 21) (kW C) y (x - 1) : Nat) : Int) ∧ MDr z.2.2 k C fl (l ++ dRw (C 20) (C 21) n (kW C) y x) ∧ DrM k fl S z.2.2) (by unfold cFU; omega) ⟨rfl, rfl, by rw [show dRw (C 20) (C 21) n (kW C) y 0 = [] from rfl, List.append_nil]; exact h, DrM.refl⟩ (fun x z hx hI => ?_) (fun z hI => ?_)
  · obtain ⟨z0, z1, z2⟩ := z
    obtain ⟨b1, b2, b3, b4⟩ := hI
    dsimp only at b1 b2 b3 b4
    subst b1
    have pl := pt_lt hx hy
    have Wp := W.2.1 (y * kW C + x) (by omega)
    have rp := b3.2.1 (y * kW C + x) (by omega)
    have yw : (y : Int) * ((kS C + 2 : Nat) : Int) + (x : Int) = ((y * kW C + x : Nat) : Int) := yw_int
    have bw := rwB_le (sx := C 21) (W := kW C) (y := y) (x := x)
    have y5 : (bX (if 0 < w32 (x : Int) then bX (mX23_isStep z2 2136 (((y * kW C + x : Nat) : Int) - 1)) fun x4 => if ¬ w32 x4 = 0 then some true else some false else some false) fun b => if b = true then some z0 else some (x : Int)) = some ((rwB (C 21) (kW C) y x : Nat) : Int) := by
      rw [w32_id (by omega)]
      cases x with
      | zero => rw [if_neg (by decide), bX_some, if_neg (by decide)]; rfl
      | succ x =>
        have Wq := W.2.1 (y * kW C + x) (by omega)
        have rq := b3.2.1 (y * kW C + x) (by omega)
        have e : ((y * kW C + (x + 1) : Nat) : Int) - 1 = ((y * kW C + x : Nat) : Int) := by omega
        rw [if_pos (by omega), e, m_isStepA aNs.1 hk b3.1.1 (by omega) rq.2.1 Wq.2.2.1, bX_some, b2, if_neg (show ¬ x + 1 = 0 by omega), Nat.add_sub_cancel]
        have ed : rwB (C 21) (kW C) y (x + 1) = if C 21 (y * kW C + x) = 1 then rwB (C 21) (kW C) y x else x + 1 := rfl
        rw [ed]
        rcases Wq.2.2.1 with q | q
        · rw [q, if_neg (by decide), bX_some, if_neg (by decide), if_neg (by decide)]
        · rw [q, if_pos (by decide), bX_some, if_pos rfl, if_pos rfl]
    have ev : dRw (C 20) (C 21) n (kW C) y (x + 1) = dRw (C 20) (C 21) n (kW C) y x ++ (if C 20 (y * kW C + x) = (n : Int) ∧ C 21 (y * kW C + x) = 0 then [(0, 4 * (rwB (C 21) (kW C) y x : Int) - 1, 4 * (y : Int) - 1, 4 * (x : Int) + 1, 4 * (y : Int) + 1)] else []) := rfl
    unfold mX23_layRows_L15 mX23_pointOf
    dsimp only
    rw [b3.1.2.1, w32_id (show -2147483648 ≤ ((kS C + 2 : Nat) : Int) ∧ _ from by show -2147483648 ≤ ((kW C : Nat) : Int) ∧ ((kW C : Nat) : Int) < _; omega)]
    rw [if_pos (by rw [w32_id (by omega)]; show _ < ((kW C : Nat) : Int); omega), bX_some, yw]
    refine WP_bX.2 ?_
    rw [y5, WP_some, m_netAtD b3 hk (by omega) ly, bX_some, w32_id (by omega), w32_id (show -2147483648 ≤ (n : Int) ∧ _ by omega), m_isStepA aNs.1 hk b3.1.1 (by omega) rp.2.1 Wp.2.2.1, bX_some]
    have keep : ¬ (C 20 (y * kW C + x) = (n : Int) ∧ C 21 (y * kW C + x) = 0) → WP (bX (some z2) fun y9 => (some (Sum.inl (((rwB (C 21) (kW C) y x : Nat) : Int), (x : Int) + 1, y9)) : Option ((Int × Int × Sto) ⊕ (Sto)))) (WE (fun z => z.2.1 = ((x + 1 : Nat) : Int) ∧ z.1 = ((if x + 1 = 0 then 0 else rwB (C 21) (kW C) y (x + 1 - 1) : Nat) : Int) ∧ MDr z.2.2 k C fl (l ++ dRw (C 20) (C 21) n (kW C) y (x + 1)) ∧ DrM k fl S z.2.2) (fun z => MDr z k C fl (l ++ dRw (C 20) (C 21) n (kW C) y (kW C)) ∧ DrM k fl S z)) := fun g => by
      rw [if_neg g, List.append_nil] at ev
      exact WP_some.2 ⟨by show (x : Int) + 1 = _; omega, by rw [if_neg (by omega)]; rfl, by rw [ev]; exact b3, b4⟩
    by_cases o : C 20 (y * kW C + x) = (n : Int)
    · rw [if_pos o]
      rcases Wp.2.2.1 with q | q
      · rw [q, if_pos (by decide), bX_some, if_pos rfl]
        rw [if_pos ⟨o, q⟩] at ev
        have ok : bxOk (0, 4 * (rwB (C 21) (kW C) y x : Int) - 1, 4 * (y : Int) - 1, 4 * (x : Int) + 1, 4 * (y : Int) + 1) := by unfold bxOk; dsimp only; omega
        obtain ⟨rr, hr⟩ := dRw_pre (own := C 20) (sx := C 21) (n := n) (W := kW C) (y := y) (i := x + 1) (m := kW C) (by omega)
        have len : (l ++ dRw (C 20) (C 21) n (kW C) y x).length < cap := by
          rw [hr, ev, ← List.append_assoc, ← List.append_assoc, List.length_append, lenS] at hle; omega
        refine WP_bX.2 (WP_bX.2 ((m_layD b3 hk hf ok (fun g => by have := hcap.2 g; omega) (by omega)).mono (fun u hu => ?_)))
        exact WP_some.2 (WP_some.2 ⟨by show (x : Int) + 1 = _; omega, by rw [if_neg (by omega)]; rfl, by rw [ev, ← List.append_assoc]; exact hu.1, b4.tr hu.2⟩)
      · rw [q, if_neg (by decide), bX_some, if_neg (by decide)]
        exact keep (fun g => by omega)
    · rw [if_neg o, bX_some, if_neg (by decide)]
      exact keep (fun g => o g.1)
  · obtain ⟨b1, b2, b3, b4⟩ := hI
    unfold mX23_layRows_L15
    rw [b3.1.2.1, b1, if_neg (by show ¬ w32 ((kW C : Nat) : Int) < w32 ((kW C : Nat) : Int); omega)]
    exact WP_some.2 ⟨b3, b4⟩
theorem m_layRows (hk : k < 4) (w : WFC C) (wp : WFP C) (ww : WFW C) (h19 : C 19 0 = 1) (hf : fl = 0 ∨ fl = 1) {n : Nat} (hn : n < kN C) (h : MDr S k C fl l) {cap : Nat} (hcap : cap ≤ 2000000 ∧ (fl = 0 → cap ≤ 2000)) (hle : (l ++ dRws (C 20) (C 21) n (kW C) (kHn C)).length ≤ cap) :
    WP (mX23_layRows S (n : Int)) (fun z => MDr z k C fl (l ++ dRws (C 20) (C 21) n (kW C) (kHn C)) ∧ DrM k fl S z) := by
  have hh := kH_le w wp
  obtain ⟨hW, hW2, hH, hWH⟩ := kWH_le w wp
  have eH : kH C = (kHn C : Int) := by show kH C = ((kH C).toNat : Int); omega
  unfold mX23_layRows
  refine WP_call (R := fun z => MDr z k C fl (l ++ dRws (C 20) (C 21) n (kW C) (kHn C)) ∧ DrM k fl S z) ?_ (fun x hx => WP_some.2 hx)
  refine WP_cnt (kHn C) (fun y z => z.1 = (y : Int) ∧ MDr z.2 k C fl (l ++ dRws (C 20) (C 21) n (kW C) y) ∧ DrM k fl S z.2) (by unfold cFU; omega) ⟨rfl, by rw [show dRws (C 20) (C 21) n (kW C) 0 = [] from rfl, List.append_nil]; exact h, DrM.refl⟩ (fun y z hy hI => ?_) (fun z hI => ?_)
  · obtain ⟨z1, z2⟩ := z
    obtain ⟨b1, b3, b4⟩ := hI
    dsimp only at b1 b3 b4
    subst b1
    have ev : l ++ dRws (C 20) (C 21) n (kW C) (y + 1) = (l ++ dRws (C 20) (C 21) n (kW C) y) ++ dRw (C 20) (C 21) n (kW C) y (kW C) := by rw [List.append_assoc]; rfl
    obtain ⟨rr, hr⟩ := dRws_pre (own := C 20) (sx := C 21) (n := n) (W := kW C) (i := y + 1) (m := kHn C) (by omega)
    unfold mX23_layRows_L2
    dsimp only
    rw [b3.1.2.2.1, eH, w32_id (by omega), w32_id (by omega), if_pos (by omega)]
    refine WP_call (m_rows15 (T := z2) hk w wp ww h19 hf hn hy b3 hcap (by rw [← ev]; rw [hr, ← List.append_assoc, List.length_append] at hle; omega)) (fun x hx => ?_)
    exact WP_some.2 ⟨by show (y : Int) + 1 = _; omega, by rw [ev]; exact hx.1, b4.tr hx.2⟩
  · obtain ⟨b1, b3, b4⟩ := hI
    unfold mX23_layRows_L2
    rw [b3.1.2.2.1, eH, b1, if_neg (by omega)]
    exact WP_some.2 ⟨b3, b4⟩
theorem m_cols15 (hk : k < 4) (w : WFC C) (wp : WFP C) (ww : WFW C) (h19 : C 19 0 = 1) (hf : fl = 0 ∨ fl = 1) {n x : Nat} (hn : n < kN C) (hx : x < kW C) {T : Sto} (h : MDr S k C fl l) {cap : Nat} (hcap : cap ≤ 2000000 ∧ (fl = 0 → cap ≤ 2000)) (hle : (l ++ dCl (C 20) (C 31) n (kW C) (kW C * kHn C) x (kHn C)).length ≤ cap) :
    WP (lpF (mX23_layColumns_L15 ((x : Int), T) (n : Int)) (0, 0, S)) (fun z => MDr z k C fl (l ++ dCl (C 20) (C 31) n (kW C) (kW C * kHn C) x (kHn C)) ∧ DrM k fl S z) := by
  have hnn := w.nums
  have hh := kH_le w wp
  obtain ⟨hW, hW2, hH, hWH⟩ := kWH_le w wp
  have ly : kLy C ≤ 2356 := hWH
  have W := ww.2 h19
  have eH : kH C = (kHn C : Int) := by show kH C = ((kH C).toNat : Int); omega
  refine WP_cnt (kHn C) (fun y z => z.2.1 = (y : Int) ∧ z.1 = ((if y = 0 then 0 else clB (C 31) (kW C) (kW C * kHn C) x (y - 1) : Nat) : Int) ∧ MDr z.2.2 k C fl (l ++ dCl (C 20) (C 31) n (kW C) (kW C * kHn C) x y) ∧ DrM k fl S z.2.2) (by unfold cFU; omega) ⟨rfl, rfl, by rw [show dCl (C 20) (C 31) n (kW C) (kW C * kHn C) x 0 = [] from rfl, List.append_nil]; exact h, DrM.refl⟩ (fun y z hy hI => ?_) (fun z hI => ?_)
  · obtain ⟨z0, z1, z2⟩ := z
    obtain ⟨b1, b2, b3, b4⟩ := hI
    dsimp only at b1 b2 b3 b4
    subst b1
    have pl := up_lt hx hy
    have Wp := W.2.1 _ pl
    have rp := b3.2.1 _ pl
    have yw : ((kS C + 2 : Nat) : Int) * (kHn C : Int) + ((y : Int) * ((kS C + 2 : Nat) : Int) + (x : Int)) = ((kW C * kHn C + (y * kW C + x) : Nat) : Int) := by rw [← Int.add_assoc]; exact up_gen
    have bw := clB_le (sy := C 31) (W := kW C) (l := kW C * kHn C) (x := x) (y := y)
    have y5 : (bX (if 0 < w32 (y : Int) then bX (mX23_isStep z2 2137 (((kW C * kHn C + (y * kW C + x) : Nat) : Int) - ((kS C + 2 : Nat) : Int))) fun x4 => if ¬ w32 x4 = 0 then some true else some false else some false) fun b => if b = true then some z0 else some (y : Int)) = some ((clB (C 31) (kW C) (kW C * kHn C) x y : Nat) : Int) := by
      rw [w32_id (by omega)]
      cases y with
      | zero => rw [if_neg (by decide), bX_some, if_neg (by decide)]; rfl
      | succ y =>
        have pq := up_lt hx (show y < kHn C by omega)
        have Wq := W.2.1 _ pq
        have rq := b3.2.1 _ pq
        have e : ((kW C * kHn C + ((y + 1) * kW C + x) : Nat) : Int) - ((kS C + 2 : Nat) : Int) = ((kW C * kHn C + (y * kW C + x) : Nat) : Int) := prev_pt
        rw [if_pos (by omega), e, m_isStepA aNs.2.1 hk b3.1.1 (by omega) rq.2.2.1 Wq.2.2.2.1, bX_some, b2, if_neg (show ¬ y + 1 = 0 by omega), Nat.add_sub_cancel]
        have ed : clB (C 31) (kW C) (kW C * kHn C) x (y + 1) = if C 31 (kW C * kHn C + (y * kW C + x)) = 1 then clB (C 31) (kW C) (kW C * kHn C) x y else y + 1 := rfl
        rw [ed]
        rcases Wq.2.2.2.1 with q | q
        · rw [q, if_neg (by decide), bX_some, if_neg (by decide), if_neg (by decide)]
        · rw [q, if_pos (by decide), bX_some, if_pos rfl, if_pos rfl]
    have ev : dCl (C 20) (C 31) n (kW C) (kW C * kHn C) x (y + 1) = dCl (C 20) (C 31) n (kW C) (kW C * kHn C) x y ++ (if C 20 (kW C * kHn C + (y * kW C + x)) = (n : Int) ∧ C 31 (kW C * kHn C + (y * kW C + x)) = 0 then [(1, 4 * (x : Int) - 1, 4 * (clB (C 31) (kW C) (kW C * kHn C) x y : Int) - 1, 4 * (x : Int) + 1, 4 * (y : Int) + 1)] else []) := rfl
    unfold mX23_layColumns_L15 mX23_pointOf
    dsimp only
    rw [b3.1.2.2.1, eH, w32_id (show -2147483648 ≤ (kHn C : Int) ∧ _ by omega)]
    rw [if_pos (by rw [w32_id (by omega)]; omega), bX_some, b3.1.2.1, yw]
    refine WP_bX.2 ?_
    rw [y5, WP_some, m_netAtD b3 hk pl ly, bX_some, w32_id (by omega), w32_id (show -2147483648 ≤ (n : Int) ∧ _ by omega), m_isStepA aNs.2.1 hk b3.1.1 (by omega) rp.2.2.1 Wp.2.2.2.1, bX_some]
    have keep : ¬ (C 20 (kW C * kHn C + (y * kW C + x)) = (n : Int) ∧ C 31 (kW C * kHn C + (y * kW C + x)) = 0) → WP (bX (some z2) fun y9 => (some (Sum.inl (((clB (C 31) (kW C) (kW C * kHn C) x y : Nat) : Int), (y : Int) + 1, y9)) : Option ((Int × Int × Sto) ⊕ (Sto)))) (WE (fun z => z.2.1 = ((y + 1 : Nat) : Int) ∧ z.1 = ((if y + 1 = 0 then 0 else clB (C 31) (kW C) (kW C * kHn C) x (y + 1 - 1) : Nat) : Int) ∧ MDr z.2.2 k C fl (l ++ dCl (C 20) (C 31) n (kW C) (kW C * kHn C) x (y + 1)) ∧ DrM k fl S z.2.2) (fun z => MDr z k C fl (l ++ dCl (C 20) (C 31) n (kW C) (kW C * kHn C) x (kHn C)) ∧ DrM k fl S z)) := fun g => by
      rw [if_neg g, List.append_nil] at ev
      exact WP_some.2 ⟨by show (y : Int) + 1 = _; omega, by rw [if_neg (by omega)]; rfl, by rw [ev]; exact b3, b4⟩
    by_cases o : C 20 (kW C * kHn C + (y * kW C + x)) = (n : Int)
    · rw [if_pos o]
      rcases Wp.2.2.2.1 with q | q
      · rw [q, if_pos (by decide), bX_some, if_pos rfl]
        rw [if_pos ⟨o, q⟩] at ev
        have ok : bxOk (1, 4 * (x : Int) - 1, 4 * (clB (C 31) (kW C) (kW C * kHn C) x y : Int) - 1, 4 * (x : Int) + 1, 4 * (y : Int) + 1) := by unfold bxOk; dsimp only; omega
        obtain ⟨rr, hr⟩ := dCl_pre (own := C 20) (sy := C 31) (n := n) (W := kW C) (l := kW C * kHn C) (x := x) (i := y + 1) (m := kHn C) (by omega)
        have len : (l ++ dCl (C 20) (C 31) n (kW C) (kW C * kHn C) x y).length < cap := by
          rw [hr, ev, ← List.append_assoc, ← List.append_assoc, List.length_append, lenS] at hle; omega
        refine WP_bX.2 (WP_bX.2 ((m_layD b3 hk hf ok (fun g => by have := hcap.2 g; omega) (by omega)).mono (fun u hu => ?_)))
        exact WP_some.2 (WP_some.2 ⟨by show (y : Int) + 1 = _; omega, by rw [if_neg (by omega)]; rfl, by rw [ev, ← List.append_assoc]; exact hu.1, b4.tr hu.2⟩)
      · rw [q, if_neg (by decide), bX_some, if_neg (by decide)]
        exact keep (fun g => by omega)
    · rw [if_neg o, bX_some, if_neg (by decide)]
      exact keep (fun g => o g.1)
  · obtain ⟨b1, b2, b3, b4⟩ := hI
    unfold mX23_layColumns_L15
    rw [b3.1.2.2.1, eH, b1, if_neg (by omega)]
    exact WP_some.2 ⟨b3, b4⟩
theorem m_layColumns (hk : k < 4) (w : WFC C) (wp : WFP C) (ww : WFW C) (h19 : C 19 0 = 1) (hf : fl = 0 ∨ fl = 1) {n : Nat} (hn : n < kN C) (h : MDr S k C fl l) {cap : Nat} (hcap : cap ≤ 2000000 ∧ (fl = 0 → cap ≤ 2000)) (hle : (l ++ dCls (C 20) (C 31) n (kW C) (kW C * kHn C) (kHn C) (kW C)).length ≤ cap) :
    WP (mX23_layColumns S (n : Int)) (fun z => MDr z k C fl (l ++ dCls (C 20) (C 31) n (kW C) (kW C * kHn C) (kHn C) (kW C)) ∧ DrM k fl S z) := by
  obtain ⟨hW, hW2, hH, hWH⟩ := kWH_le w wp
  unfold mX23_layColumns
  refine WP_call (R := fun z => MDr z k C fl (l ++ dCls (C 20) (C 31) n (kW C) (kW C * kHn C) (kHn C) (kW C)) ∧ DrM k fl S z) ?_ (fun x hx => WP_some.2 hx)
  refine WP_cnt (kW C) (fun x z => z.1 = (x : Int) ∧ MDr z.2 k C fl (l ++ dCls (C 20) (C 31) n (kW C) (kW C * kHn C) (kHn C) x) ∧ DrM k fl S z.2) (by unfold cFU; omega) ⟨rfl, by rw [show dCls (C 20) (C 31) n (kW C) (kW C * kHn C) (kHn C) 0 = [] from rfl, List.append_nil]; exact h, DrM.refl⟩ (fun x z hx hI => ?_) (fun z hI => ?_)
  · obtain ⟨z1, z2⟩ := z
    obtain ⟨b1, b3, b4⟩ := hI
    dsimp only at b1 b3 b4
    subst b1
    have ev : l ++ dCls (C 20) (C 31) n (kW C) (kW C * kHn C) (kHn C) (x + 1) = (l ++ dCls (C 20) (C 31) n (kW C) (kW C * kHn C) (kHn C) x) ++ dCl (C 20) (C 31) n (kW C) (kW C * kHn C) x (kHn C) := by rw [List.append_assoc]; rfl
    obtain ⟨rr, hr⟩ := dCls_pre (own := C 20) (sy := C 31) (n := n) (W := kW C) (l := kW C * kHn C) (H := kHn C) (i := x + 1) (m := kW C) (by omega)
    have e174 : gI z2 2000 174 = (kW C : Int) := b3.1.2.1
    unfold mX23_layColumns_L2
    dsimp only
    rw [e174, w32_id (by omega), w32_id (by omega), if_pos (by omega)]
    refine WP_call (m_cols15 (T := z2) hk w wp ww h19 hf hn hx b3 hcap (by rw [← ev]; rw [hr, ← List.append_assoc, List.length_append] at hle; omega)) (fun u hu => ?_)
    exact WP_some.2 ⟨by show (x : Int) + 1 = _; omega, by rw [ev]; exact hu.1, b4.tr hu.2⟩
  · obtain ⟨b1, b3, b4⟩ := hI
    have e174 : gI z.2 2000 174 = (kW C : Int) := b3.1.2.1
    unfold mX23_layColumns_L2
    rw [e174, b1, if_neg (by omega)]
    exact WP_some.2 ⟨b3, b4⟩
theorem m_vias28 (hk : k < 4) (w : WFC C) (wp : WFP C) (ww : WFW C) (h19 : C 19 0 = 1) (hf : fl = 0 ∨ fl = 1) {n : Nat} (hn : n < kN C) {T : Sto} (h : MDr S k C fl l) {cap : Nat} (hcap : cap ≤ 2000000 ∧ (fl = 0 → cap ≤ 2000)) (hle : (l ++ dVi (C 20) (C 32) n (kW C) (kW C * kHn C)).length ≤ cap) :
    WP (lpF (mX23_layAll_L28 ((n : Int), T)) (0, S)) (fun z => MDr z k C fl (l ++ dVi (C 20) (C 32) n (kW C) (kW C * kHn C)) ∧ DrM k fl S z) := by
  have hnn := w.nums
  have hh := kH_le w wp
  obtain ⟨hW, hW2, hH, hWH⟩ := kWH_le w wp
  have ly : kLy C ≤ 2356 := hWH
  have lw : kW C * kHn C = kLy C := rfl
  have W := ww.2 h19
  have eH : kH C = (kHn C : Int) := by show kH C = ((kH C).toNat : Int); omega
  have wh : (kW C : Int) * (kHn C : Int) = ((kW C * kHn C : Nat) : Int) := (Int.natCast_mul _ _).symm
  refine WP_cnt (kW C * kHn C) (fun p z => z.1 = (p : Int) ∧ MDr z.2 k C fl (l ++ dVi (C 20) (C 32) n (kW C) p) ∧ DrM k fl S z.2) (by unfold cFU; omega) ⟨rfl, by rw [show dVi (C 20) (C 32) n (kW C) 0 = [] from rfl, List.append_nil]; exact h, DrM.refl⟩ (fun p z hp hI => ?_) (fun z hI => ?_)
  · obtain ⟨z1, z2⟩ := z
    obtain ⟨b1, b3, b4⟩ := hI
    dsimp only at b1 b3 b4
    subst b1
    have Wp := W.2.1 p (by omega)
    have rp := b3.2.1 p (by omega)
    have pm : p % kW C < kW C := Nat.mod_lt _ (by omega)
    have pd : p / kW C < kHn C := Nat.div_lt_of_lt_mul hp
    have e174 : gI z2 2000 174 = (kW C : Int) := b3.1.2.1
    have ev : dVi (C 20) (C 32) n (kW C) (p + 1) = dVi (C 20) (C 32) n (kW C) p ++ (if C 20 p = (n : Int) ∧ C 32 p = 1 then [(2, 4 * ((p % kW C : Nat) : Int) - 1, 4 * ((p / kW C : Nat) : Int) - 1, 4 * ((p % kW C : Nat) : Int) + 1, 4 * ((p / kW C : Nat) : Int) + 1)] else []) := rfl
    have keep : ¬ (C 20 p = (n : Int) ∧ C 32 p = 1) → WP (bX (some z2) fun y10 => (some (Sum.inl ((p : Int) + 1, y10)) : Option ((Int × Sto) ⊕ (Sto)))) (WE (fun z => z.1 = ((p + 1 : Nat) : Int) ∧ MDr z.2 k C fl (l ++ dVi (C 20) (C 32) n (kW C) (p + 1)) ∧ DrM k fl S z.2) (fun z => MDr z k C fl (l ++ dVi (C 20) (C 32) n (kW C) (kW C * kHn C)) ∧ DrM k fl S z)) := fun g => by
      rw [if_neg g, List.append_nil] at ev
      exact WP_some.2 ⟨by show (p : Int) + 1 = _; omega, by rw [ev]; exact b3, b4⟩
    unfold mX23_layAll_L28
    dsimp only
    rw [e174, b3.1.2.2.1, eH, wh, w32_id (show -2147483648 ≤ ((kW C * kHn C : Nat) : Int) ∧ _ by omega), w32_id (show -2147483648 ≤ (p : Int) ∧ _ by omega), if_pos (by omega), m_netAtD b3 hk (by omega) ly, bX_some, w32_id (show -2147483648 ≤ C 20 p ∧ _ by omega), w32_id (show -2147483648 ≤ (n : Int) ∧ _ by omega), m_isStepA aNs.2.2 hk b3.1.1 (by omega) rp.2.2.2 Wp.2.2.2.2, bX_some]
    by_cases o : C 20 p = (n : Int)
    · rw [if_pos o]
      rcases Wp.2.2.2.2 with q | q
      · rw [q, if_neg (by decide), bX_some, if_neg (by decide)]
        exact keep (fun g => by omega)
      · rw [q, if_pos (by decide), bX_some, if_pos rfl]
        rw [if_pos ⟨o, q⟩] at ev
        have xr : aRem (p : Int) (kW C : Int) = ((p % kW C : Nat) : Int) := by rw [aRem_nn (by omega) (by omega)]; rfl
        have yr : aDiv (p : Int) (kW C : Int) = ((p / kW C : Nat) : Int) := by rw [aDiv_nn (by omega) (by omega)]; rfl
        rw [gnz_nz (by rw [w32_id (by omega)]; omega), gnz_nz (by rw [w32_id (by omega)]; omega), xr, yr]
        generalize hmx : p % kW C = mx at pm ev ⊢
        generalize hmy : p / kW C = my at pd ev ⊢
        have ok : bxOk (2, 4 * (mx : Int) - 1, 4 * (my : Int) - 1, 4 * (mx : Int) + 1, 4 * (my : Int) + 1) := by unfold bxOk; dsimp only; omega
        obtain ⟨rr, hr⟩ := dVi_pre (own := C 20) (v := C 32) (n := n) (W := kW C) (i := p + 1) (m := kW C * kHn C) (by omega)
        have len : (l ++ dVi (C 20) (C 32) n (kW C) p).length < cap := by
          rw [hr, ev, ← List.append_assoc, ← List.append_assoc, List.length_append, lenS] at hle; omega
        refine WP_bX.2 (WP_bX.2 ((m_layD b3 hk hf ok (fun g => by have := hcap.2 g; omega) (by omega)).mono (fun u hu => ?_)))
        exact WP_some.2 (WP_some.2 ⟨by show (p : Int) + 1 = _; omega, by rw [ev, ← List.append_assoc]; exact hu.1, b4.tr hu.2⟩)
    · rw [if_neg o, bX_some, if_neg (by decide)]
      exact keep (fun g => o g.1)
  · obtain ⟨b1, b3, b4⟩ := hI
    have e174 : gI z.2 2000 174 = (kW C : Int) := b3.1.2.1
    unfold mX23_layAll_L28
    rw [e174, b3.1.2.2.1, eH, wh, b1, if_neg (by omega)]
    exact WP_some.2 ⟨b3, b4⟩
theorem m_layAll (hk : k < 4) (r : RefK S k C) (w : WFC C) (wp : WFP C) (ww : WFW C) (h19 : C 19 0 = 1) (hf : fl = 0 ∨ fl = 1) (hG : MGrid S k C) (hW : ∀ p, p < 2 * kLy C → (gI S 2135 (4712 * k + p)) = C 20 p ∧ (gI S 2136 (4712 * k + p)) = C 21 p ∧ (gI S 2137 (4712 * k + p)) = C 31 p ∧ (gI S 2138 (4712 * k + p)) = C 32 p) (hfl : (gI S 2000 189) = fl) (hcap : fl = 0 → (dAll C).length ≤ 2000) :
    WP (mX23_layAll S (k : Int)) (fun z => MDr z k C fl (dAll C) ∧ DrM k fl S z) := by
  have hnn := w.nums
  have dl := dAll_len w wp
  unfold mX23_layAll
  rw [wf_eq]
  have h0 : MDr (sI S 2000 188 0) k C fl [] := by
    refine ⟨?_, fun p hp => ?_, ?_, by rw [gI_set]; rfl, fun _ i t h => (nomatch h)⟩
    · unfold MGrid at hG ⊢
      simp (disch := omega) only [gI_sIn]; exact hG
    · simp (disch := omega) only [gI_sIn]; exact hW p hp
    · rw [hI_sI_i (by omega)]; exact hfl
  have f0 : DrM k fl S (sI S 2000 188 0) := ⟨fun a i _ q => by rw [hI_sI, if_neg q], fun _ _ => rfl, fun _ _ => rfl, rfl, rfl⟩
  refine WP_call (R := fun z => MDr z k C fl (dAll C) ∧ DrM k fl S z) ?_ (fun x hx => WP_some.2 hx)
  refine WP_cnt (kN C) (fun n z => z.1 = (n : Int) ∧ MDr z.2 k C fl (dNts (C 20) (C 21) (C 31) (C 32) (kW C) (kHn C) n) ∧ DrM k fl S z.2) (by unfold cFU; omega) ⟨rfl, h0, f0⟩ (fun n z hn hI => ?_) (fun z hI => ?_)
  · obtain ⟨z1, z2⟩ := z
    obtain ⟨b1, b3, b4⟩ := hI
    dsimp only at b1 b3 b4
    subst b1
    have rz : RefK z2 k C := r.cg (fun a i l1 l2 => b4.1 a i (by omega) (by omega))
    have ev : dNts (C 20) (C 21) (C 31) (C 32) (kW C) (kHn C) (n + 1) = ((dNts (C 20) (C 21) (C 31) (C 32) (kW C) (kHn C) n ++ dRws (C 20) (C 21) n (kW C) (kHn C)) ++ dCls (C 20) (C 31) n (kW C) (kW C * kHn C) (kHn C) (kW C)) ++ dVi (C 20) (C 32) n (kW C) (kW C * kHn C) := by
      rw [List.append_assoc, List.append_assoc]; rfl
    obtain ⟨rr, hr⟩ := dNts_pre (own := C 20) (sx := C 21) (sy := C 31) (v := C 32) (W := kW C) (H := kHn C) (i := n + 1) (m := kN C) (by omega)
    have al : dAll C = dNts (C 20) (C 21) (C 31) (C 32) (kW C) (kHn C) (n + 1) ++ rr := hr
    have le3 : (dNts (C 20) (C 21) (C 31) (C 32) (kW C) (kHn C) (n + 1)).length ≤ (dAll C).length := by rw [al, List.length_append]; omega
    rw [ev] at le3
    have cp : (dAll C).length ≤ 2000000 ∧ (fl = 0 → (dAll C).length ≤ 2000) := ⟨by omega, hcap⟩
    have l3 := le3
    rw [List.length_append] at l3
    have l2 := le3
    rw [List.length_append, List.length_append] at l2
    unfold mX23_layAll_L7
    dsimp only
    rw [m_netCount rz w hk, bX_some, w32_id (by omega), w32_id (by omega), if_pos (by omega)]
    refine WP_call (m_layRows hk w wp ww h19 hf hn b3 cp (by omega)) (fun x hx => ?_)
    refine WP_call (m_layColumns hk w wp ww h19 hf hn hx.1 cp (by omega)) (fun y hy => ?_)
    refine WP_call (m_vias28 (T := z2) hk w wp ww h19 hf hn hy.1 cp le3) (fun u hu => ?_)
    exact WP_some.2 ⟨by show (n : Int) + 1 = _; omega, by rw [ev]; exact hu.1, ((b4.tr hx.2).tr hy.2).tr hu.2⟩
  · obtain ⟨b1, b3, b4⟩ := hI
    have rz : RefK z.2 k C := r.cg (fun a i l1 l2 => b4.1 a i (by omega) (by omega))
    unfold mX23_layAll_L7
    rw [m_netCount rz w hk, bX_some, b1, if_neg (by omega)]
    exact WP_some.2 ⟨b3, b4⟩
end MDRAW
