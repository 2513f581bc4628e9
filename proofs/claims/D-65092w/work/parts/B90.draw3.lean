/-! draw: the call -/
theorem L_modG {c : Nat} {m : Option ((Int × Sto) ⊕ (Nat × Sto))} {m1 : Sto → Option (Int × Sto)} {cs : List (Nat × Int)} (code : Int) (kd : Nat) (P : Sto → Prop)
    (hx : WP m (WE (fun _ => False) (fun t => t.1 = kd ∧ P t.2))) (hcs : cs.lookup kd = some code) (hcode : 0 < code ∧ code < 10)
    (hm : ∀ S1, P S1 → WP (m1 S1) (fun y => gI y.2 2000 0 = code ∧ Inv (c + 1) y.2)) :
    WP (bX (bC m (fun x1 => wrL 1 x1.2 2178 0 (i2l x1.1) fun S2 => some (0, S2)) cs) fun x1 => bX (m1 x1.2) fun x2 => bX (mX23_thrown x2.2) fun x3 => if ¬ w32 x3 = w32 x1.1 then none else bX (if w32 x1.1 = 0 then rdL 1 x2.2 2178 0 fun v4 => if ¬ w32 (lCmp v4 (i2l x2.1)) = 0 then some true else some false else some false) fun b => if b = true then none else some x2.2) (Inv (c + 1)) := by
  refine L_val (bC_WP (hx.mono fun z hz => ?_))
  cases z with
  | inl t => exact False.elim hz
  | inr t =>
    obtain ⟨z1, z2⟩ := hz
    show ∃ c', cs.lookup t.1 = some c' ∧ _
    rw [z1]
    refine ⟨code, hcs, ?_⟩
    refine (hm t.2 z2).mono (fun y hy => ?_)
    exact ⟨by rw [hy.1], fun g => absurd g (by show ¬ code = 0; omega), .inr (by show w32 code ≠ 0; rw [w32_id (by omega)]; omega), hy.2⟩
def bxC (t : Bx5) (j : Nat) : Int := if j = 0 then t.1 else if j = 1 then t.2.1 else if j = 2 then t.2.2.1 else if j = 3 then t.2.2.2.1 else t.2.2.2.2
def bxAt (l : List Bx5) (i : Nat) : Int := bxC (l.getD (i / 5) (0, 0, 0, 0, 0)) (i % 5)
def drC (C : Chp) (l : List Bx5) : Chp := fun f i => if f = 23 then (l.length : Int) else if f = 24 then bxAt l i else C f i
theorem drC_o {C : Chp} {l : List Bx5} {f i : Nat} (h : f ≠ 23) (h' : f ≠ 24) : drC C l f i = C f i := by unfold drC; rw [if_neg h, if_neg h']
theorem DrB.at {S : Sto} {a o : Nat} {l : List Bx5} (h : DrB S a o l) {i : Nat} (hi : i < 5 * l.length) : gI S a (o + i) = bxAt l i := by
  have hl : i / 5 < l.length := by omega
  have e : l[i / 5]? = some (l.getD (i / 5) (0, 0, 0, 0, 0)) := by rw [List.getD_eq_getElem?_getD, List.getElem?_eq_getElem hl]; rfl
  have := h _ _ e
  unfold bxAt bxC
  have z : i = 5 * (i / 5) + i % 5 := by omega
  have m : i % 5 = 0 ∨ i % 5 = 1 ∨ i % 5 = 2 ∨ i % 5 = 3 ∨ i % 5 = 4 := by omega
  rcases m with m | m | m | m | m
  · rw [m, if_pos rfl, show o + i = o + 5 * (i / 5) by omega]; exact this.1
  · rw [m, if_neg (by decide), if_pos rfl, show o + i = o + 5 * (i / 5) + 1 by omega]; exact this.2.1
  · rw [m, if_neg (by decide), if_neg (by decide), if_pos rfl, show o + i = o + 5 * (i / 5) + 2 by omega]; exact this.2.2.1
  · rw [m, if_neg (by decide), if_neg (by decide), if_neg (by decide), if_pos rfl, show o + i = o + 5 * (i / 5) + 3 by omega]; exact this.2.2.2.1
  · rw [m, if_neg (by decide), if_neg (by decide), if_neg (by decide), if_neg (by decide), show o + i = o + 5 * (i / 5) + 4 by omega]; exact this.2.2.2.2
def allOk (l : List Bx5) : Prop := ∀ t, t ∈ l → bxOk t
theorem allOk_nil : allOk [] := fun _ h => (nomatch h)
theorem allOk_app {l m : List Bx5} (h : allOk l) (g : allOk m) : allOk (l ++ m) := fun t ht => (List.mem_append.1 ht).elim (h t) (g t)
theorem allOk_if {c : Prop} [Decidable c] {t : Bx5} (h : bxOk t) : allOk (if c then [t] else []) := by
  split
  · intro u hu; rw [List.mem_singleton.1 hu]; exact h
  · exact allOk_nil
section DOK
variable {C : Chp} {n : Nat}
theorem dRw_ok (hW : kW C ≤ 62) (hH : kHn C ≤ 38) {y : Nat} (hy : y < kHn C) : ∀ x, x ≤ kW C → allOk (dRw (C 20) (C 21) n (kW C) y x) := by
  intro x
  induction x with
  | zero => exact fun _ => allOk_nil
  | succ x ih =>
    intro h
    have b := rwB_le (sx := C 21) (W := kW C) (y := y) (x := x)
    exact allOk_app (ih (by omega)) (allOk_if (by unfold bxOk; dsimp only; omega))
theorem dRws_ok (hW : kW C ≤ 62) (hH : kHn C ≤ 38) : ∀ y, y ≤ kHn C → allOk (dRws (C 20) (C 21) n (kW C) y) := by
  intro y
  induction y with
  | zero => exact fun _ => allOk_nil
  | succ y ih => exact fun h => allOk_app (ih (by omega)) (dRw_ok hW hH (by omega) _ (Nat.le_refl _))
theorem dCl_ok (hW : kW C ≤ 62) (hH : kHn C ≤ 38) {x : Nat} (hx : x < kW C) : ∀ y, y ≤ kHn C → allOk (dCl (C 20) (C 31) n (kW C) (kW C * kHn C) x y) := by
  intro y
  induction y with
  | zero => exact fun _ => allOk_nil
  | succ y ih =>
    intro h
    have b := clB_le (sy := C 31) (W := kW C) (l := kW C * kHn C) (x := x) (y := y)
    exact allOk_app (ih (by omega)) (allOk_if (by unfold bxOk; dsimp only; omega))
theorem dCls_ok (hW : kW C ≤ 62) (hH : kHn C ≤ 38) : ∀ x, x ≤ kW C → allOk (dCls (C 20) (C 31) n (kW C) (kW C * kHn C) (kHn C) x) := by
  intro x
  induction x with
  | zero => exact fun _ => allOk_nil
  | succ x ih => exact fun h => allOk_app (ih (by omega)) (dCl_ok hW hH (by omega) _ (Nat.le_refl _))
theorem dVi_ok (hW : kW C ≤ 62) (hW2 : 2 ≤ kW C) (hH : kHn C ≤ 38) : ∀ p, p ≤ kW C * kHn C → allOk (dVi (C 20) (C 32) n (kW C) p) := by
  intro p
  induction p with
  | zero => exact fun _ => allOk_nil
  | succ p ih =>
    intro h
    have pm : p % kW C < kW C := Nat.mod_lt _ (by omega)
    have pd : p / kW C < kHn C := Nat.div_lt_of_lt_mul (by omega)
    refine allOk_app (ih (by omega)) (allOk_if ?_)
    generalize p % kW C = mx at pm ⊢
    generalize p / kW C = my at pd ⊢
    unfold bxOk; dsimp only; omega
theorem dNts_ok (w : WFC C) (wp : WFP C) : ∀ m, allOk (dNts (C 20) (C 21) (C 31) (C 32) (kW C) (kHn C) m) := by
  obtain ⟨hW, hW2, hH, hWH⟩ := kWH_le w wp
  intro m
  induction m with
  | zero => exact allOk_nil
  | succ m ih => exact allOk_app ih (allOk_app (dRws_ok hW hH _ (Nat.le_refl _)) (allOk_app (dCls_ok hW hH _ (Nat.le_refl _)) (dVi_ok hW hW2 hH _ (Nat.le_refl _))))
theorem WFB_drC (w : WFC C) (wp : WFP C) (h16 : C 16 0 ≠ 0) (hl : (dAll C).length ≤ 2000) : WFB (drC C (dAll C)) := by
  have e23 : drC C (dAll C) 23 0 = ((dAll C).length : Int) := rfl
  have hk : kBx (drC C (dAll C)) = (dAll C).length := by unfold kBx; rw [e23]; rfl
  refine ⟨⟨by rw [e23]; omega, by rw [e23]; omega, fun _ => ⟨h16, hl⟩⟩, fun b hb => ?_⟩
  rw [hk] at hb
  have e24 : ∀ i, drC C (dAll C) 24 i = bxAt (dAll C) i := fun i => rfl
  simp only [e24]
  have ok : bxOk ((dAll C).getD b (0, 0, 0, 0, 0)) := by
    have : (dAll C).getD b (0, 0, 0, 0, 0) = (dAll C)[b] := by rw [List.getD_eq_getElem?_getD, List.getElem?_eq_getElem hb]; rfl
    rw [this]
    exact dNts_ok w wp (kN C) _ (List.getElem_mem hb)
  have c : ∀ j, j < 5 → bxAt (dAll C) (5 * b + j) = bxC ((dAll C).getD b (0, 0, 0, 0, 0)) j := fun j hj => by
    unfold bxAt; rw [show (5 * b + j) / 5 = b by omega, show (5 * b + j) % 5 = j by omega]
  have c0 := c 0 (by omega)
  rw [Nat.add_zero] at c0
  rw [c0, c 1 (by omega), c 2 (by omega), c 3 (by omega), c 4 (by omega)]
  generalize (dAll C).getD b (0, 0, 0, 0, 0) = t at ok ⊢
  obtain ⟨t0, t1, t2, t3, t4⟩ := t
  unfold bxOk at ok
  show 0 ≤ t0 ∧ t0 ≤ 2 ∧ -1000 ≤ t1 ∧ t1 < t3 ∧ t3 ≤ 1000 ∧ -1000 ≤ t2 ∧ t2 < t4 ∧ t4 ≤ 1000
  dsimp only at ok
  omega
end DOK
section DRAW
variable {c : Nat} {S : Sto}
theorem L34 {p1 : Int} (h : Inv c S) (hc : c < 64) (h1 : i32 p1) : WP (mL_34 S p1) (Inv (c + 1)) := by
  have rx := h.1.x hc
  unfold mL_34 mX0_draw
  by_cases hq : isCh S p1
  · have hx := chipIn_t hq; obtain ⟨k, C, hk, rfl, w, r, m, wx, rX, mX⟩ := InvC.get h hq; rw [Int.toNat_natCast] at hx; have hn := w.nums; have eg := r.1.2.2.2.1; have em := m.1.2.2.2.1; rw [w.g] at eg em; have ei := r.1.1; have mi := m.1.1; rw [w.i] at ei mi; have er := r.1.2.1; have mr := m.1.2.1; rw [w.r] at er mr; have eo := r.1.2.2.1; have mo := m.1.2.2.1; rw [w.o] at eo mo; have el := r.1.2.2.2.2.1; have ml := m.1.2.2.2.2.1; rw [w.l] at el ml
    have e19 := rX.2.1.1
    have f19 := mX.2.1.1
    have ww := wx.2.1
    have wB := wx.2.2.1
    have wb := wB.1
    have wp := wx.1
    rcases ww.1 with q3 | q3
    · rw [q3] at e19 f19
      refine L_modF (m1 := fun S1 => mX23_draw S1 _) 2 3 h hc ?_ rfl (by omega) (fun S1 eS => ?_)
      · simp (disch := omega) only [mX1_draw, hx, gI_thr, gz_0, gz_1, true_or, or_true, or_false, false_or, rdI_e, rdZ_e, rdL_e, wrI_e, wrL_e, bX_some, bE_inl, bE_inr, bT_inl, bT_inr, wf_eq, wfL_eq, wfR_eq, gkc_chip, gkc_dsg, gkc_lib, gk_chip, gk_dsg, gk_lib, gth_e rx, inside_0 rx, inside_1, need_0 rx, need_1, now_0 rx, now_1, roomX_0 rx, roomX_1, w32_id, w32_gI, ← Int.not_lt, not_true_eq_false, not_false_eq_true, if_true, if_false, reduceIte, Bool.false_eq_true, Int.toNat_natCast, Int.reduceToNat, Int.toNat_add, Int.toNat_mul, Int.reduceLT, Int.reduceEq, Int.reduceNeg, Nat.reduceAdd, hI_sI, and_self, Nat.reduceEqDiff, true_and, and_true, and_false, false_and, ne_eq, e19, bz_0]
      · simp (disch := omega) only [mX23_draw, m_isChip_t h eS h1 hq, gI_thr, gz_0, gz_1, true_or, or_true, or_false, false_or, rdI_e, rdZ_e, rdL_e, wrI_e, wrL_e, bX_some, bE_inl, bE_inr, bT_inl, bT_inr, wf_eq, wfL_eq, wfR_eq, gkc_chip, gkc_dsg, gkc_lib, gk_chip, gk_dsg, gk_lib, gth_e rx, inside_0 rx, inside_1, need_0 rx, need_1, now_0 rx, now_1, roomX_0 rx, roomX_1, w32_id, w32_gI, ← Int.not_lt, not_true_eq_false, not_false_eq_true, if_true, if_false, reduceIte, Bool.false_eq_true, Int.toNat_natCast, Int.reduceToNat, Int.toNat_add, Int.toNat_mul, Int.reduceLT, Int.reduceEq, Int.reduceNeg, Nat.reduceAdd, hI_sI, and_self, Nat.reduceEqDiff, true_and, and_true, and_false, false_and, ne_eq, eS, f19, bz_0, w32_1, w32_0, gI_set]
    · have W := ww.2 q3
      have h0 := W.1
      rw [q3] at e19 f19
      have dl := dAll_len w wp
      obtain ⟨x, gx, x1, x2, x3, x4, x5, x6, x7⟩ := k_draw hk rfl r w wp ww q3 rX.1 rX.2.1
      have m1 : mX1_draw S (k : Int) = bT (mX1_room x.2 (if ¬ w32 x.1 = (-1) then 1 else 0)) fun x4 => some (Sum.inl (x.1, x.2)) := by
        unfold mX1_draw
        rw [hx, bT_inl, gkc_chip hk, e19, bz_1, now_1, bT_inl, gx, bX_some]
      have mref : ∀ S1, (∀ a i, (a < 240 ∨ (240 < a ∧ a < 344) ∨ 431 < a) → gI S1 a i = gI S a i) → WP (mX23_draw S1 (k : Int)) (fun y => (if (dAll C).length ≤ 2000 then y.1 = ((dAll C).length : Int) ∧ gI y.2 2000 0 = 0 ∧ DrB y.2 2148 (10000 * k) (dAll C) ∧ gI y.2 2147 k = ((dAll C).length : Int) ∧ gI y.2 2146 k = 1 else gI y.2 2000 0 = 3 ∧ ∀ a i, a ≠ 2000 → gI y.2 a i = gI S1 a i) ∧ (∀ a i, kept a i = true → ¬ (a = 2148 ∧ 10000 * k ≤ i ∧ i < 10000 * k + 10000) → ¬ ((a = 2147 ∨ a = 2146) ∧ i = k) → gI y.2 a i = gI S1 a i) ∧ (∀ a i, a ≠ 2000 → gL y.2 a i = gL S1 a i) ∧ nC y.2 = nC S1 ∧ nS y.2 = nS S1) := by
        intro S1 eS
        have mch : mX23_isChip S1 (k : Int) = some 1 := m_isChip_w h (fun i => eS _ _ (by omega)) (fun i => eS _ _ (by omega)) h1 hq
        have k1 : KeM S S1 := fun a i q => eS a i (by omega)
        have f1 := (eS 2134 k (by omega)).trans f19
        have mW := (mX.2.1.2 q3).1
        unfold mX23_draw
        rw [mch, bX_some, if_neg (by decide), rdZ_e (by omega), Int.toNat_natCast, f1, bz_1, if_neg (by decide), bX_some, wf_eq, gI_set, if_neg (by decide)]
        have k2 : KeM S (sI S1 2000 0 0) := k1.sI (by omega)
        refine WP_callF (m_layGrid (k2.K m) (k2.P mX.1) w wx h0 hk) fr_mX23_layGrid (fun u hu hf => ?_)
        have ok2 : ∀ a i, a ≠ 2000 → okP W_mX23_layGrid a i := fun a i q => okP_lab (fun z hz e => by
          simp at hz
          rcases hz with rfl | rfl | rfl | rfl <;> exact q e.symm)
        have fu : ∀ a i, a ≠ 2000 → gI u a i = gI S1 a i := fun a i q => (hf.gi (ok2 a i q)).trans (hI_sI_a q)
        have flu : ∀ a i, a ≠ 2000 → gL u a i = gL S1 a i := fun a i q => hf.gl (ok2 a i q)
        have c0 : gI u 2000 0 = 0 := (hf.ei rfl).trans gI_set
        have ks : ∀ a i, kept a i = true → gI u a i = gI S1 a i := fun a i q => by
          have s := Sc.fr hf rfl rfl
          exact (s.1 a i q).trans ((Sc.refl.sI (a := 2000) (i := 0) rfl).1 a i q)
        have nu : nC u = nC S1 ∧ nS u = nS S1 := hf.heap
        have ku : KeM S u := fun a i q => (fu a i (by omega)).trans (eS a i (by omega))
        have mWu : ∀ p, p < 2 * kLy C → (gI u 2135 (4712 * k + p)) = C 20 p ∧ (gI u 2136 (4712 * k + p)) = C 21 p ∧ (gI u 2137 (4712 * k + p)) = C 31 p ∧ (gI u 2138 (4712 * k + p)) = C 32 p := fun p hp => by
          have e2 : ∀ a i, 2135 ≤ a → a ≤ 2138 → gI u a i = gI S a i := fun a i l1 l2 => (fu a i (by omega)).trans (eS a i (by omega))
          rw [e2 _ _ (by omega) (by omega), e2 _ _ (by omega) (by omega), e2 _ _ (by omega) (by omega), e2 _ _ (by omega) (by omega)]; exact mW p hp
        rw [wf_eq]
        have G6 : MGrid (sI u 2000 189 1) k C := by
          unfold MGrid at hu ⊢
          simp (disch := omega) only [gI_sIn]; exact hu
        refine WP_call (m_layAll (fl := 1) hk ((ku.sI (by omega)).K m) w wp ww q3 (.inr rfl) G6 (fun p hp => by simp (disch := omega) only [gI_sIn]; exact mWu p hp) (by rw [gI_set]; rfl) (fun g => absurd g (by decide))) (fun v hv => ?_)
        obtain ⟨⟨v1, v2, v3, v4, v5⟩, vf⟩ := hv
        have fv : ∀ a i, ¬ (a = 2000 ∧ (i = 188 ∨ i = 189)) → gI v a i = gI u a i := fun a i q => (vf.1 a i (fun g => absurd g.1 (by decide)) (by omega)).trans (by rw [hI_sI, if_neg (by omega)])
        have kk : ∀ a i, kept a i = true → ¬ (a = 2000 ∧ (i = 188 ∨ i = 189 ∨ i = 0)) := fun a i q g => by
          obtain ⟨rfl, rfl | rfl | rfl⟩ := g <;> exact absurd q (by decide)
        rw [v4, w32_id (by omega)]
        by_cases ql : (dAll C).length ≤ 2000
        · rw [if_neg (by omega), wf_eq]
          have G9 : MGrid (sI v 2000 189 0) k C := by
            unfold MGrid at v1 ⊢
            simp (disch := omega) only [gI_sIn]; exact v1
          have kv : KeM S v := fun a i q => (fv a i (by omega)).trans (ku a i q)
          refine WP_call (m_layAll (fl := 0) hk ((kv.sI (by omega)).K m) w wp ww q3 (.inl rfl) G9 (fun p hp => by simp (disch := omega) only [gI_sIn]; exact v2 p hp) (by rw [gI_set]; rfl) (fun _ => ql)) (fun y hy => ?_)
          obtain ⟨⟨y1, y2, y3, y4, y5⟩, yf⟩ := hy
          have fy : ∀ a i, ¬ (a = 2148 ∧ 10000 * k ≤ i ∧ i < 10000 * k + 10000) → ¬ (a = 2000 ∧ (i = 188 ∨ i = 189)) → gI y a i = gI v a i := fun a i q q' => (yf.1 a i (fun g => q g.2) (by omega)).trans (by rw [hI_sI, if_neg (by omega)])
          rw [y4, wrI_e (by omega), Int.toNat_natCast, wrI_e (by omega), Int.toNat_natCast]
          have e188 : gI (sI (sI y 2147 k ((dAll C).length : Int)) 2146 k 1) 2000 188 = ((dAll C).length : Int) := by rw [hI_sI_a (by omega), hI_sI_a (by omega)]; exact y4
          rw [e188]
          refine WP_some.2 ?_
          dsimp only
          rw [if_pos ql]
          refine ⟨⟨rfl, ?_, ?_, ?_, ?_⟩, fun a i q q1 q2 => ?_, fun a i q => ?_, ?_, ?_⟩
          · rw [hI_sI_a (by omega), hI_sI_a (by omega), fy _ _ (by omega) (by omega), fv _ _ (by omega)]; exact c0
          · intro i t ht
            have := y5 rfl i t ht
            rw [hI_sI_a (by omega), hI_sI_a (by omega), hI_sI_a (by omega), hI_sI_a (by omega), hI_sI_a (by omega), hI_sI_a (by omega), hI_sI_a (by omega), hI_sI_a (by omega), hI_sI_a (by omega), hI_sI_a (by omega)]; exact this
          · rw [hI_sI_a (by omega), gI_set, w32_id (by omega)]
          · rw [gI_set]; rfl
          · have := kk a i q
            rw [hI_sI, if_neg (by omega), hI_sI, if_neg (by omega), fy a i q1 (by omega), fv a i (by omega)]; exact ks a i q
          · show gL y a i = _
            rw [yf.2.1]; show gL v a i = _
            rw [vf.2.1]; exact flu a i q
          · show nC y = _; rw [yf.2.2.2.1]; show nC v = _; rw [vf.2.2.2.1]; exact nu.1
          · show nS y = _; rw [yf.2.2.2.2]; show nS v = _; rw [vf.2.2.2.2]; exact nu.2
        · rw [if_pos (by omega), wf_eq]
          refine WP_some.2 ?_
          dsimp only
          rw [if_neg ql]
          refine ⟨⟨?_, fun a i q => ?_⟩, fun a i q q1 q2 => ?_, fun a i q => ?_, ?_, ?_⟩
          · rw [gI_set]; rfl
          · rw [hI_sI_a q, fv a i (by omega)]; exact fu a i q
          · have := kk a i q
            rw [hI_sI, if_neg (by omega), fv a i (by omega)]; exact ks a i q
          · show gL v a i = _; rw [vf.2.1]; exact flu a i q
          · show nC v = _; rw [vf.2.2.2.1]; exact nu.1
          · show nS v = _; rw [vf.2.2.2.2]; exact nu.2
      have xk : ∀ a i, kept a i = true → a ≠ 344 + 22 * k + 15 → ¬ (a = 344 + 22 * k ∧ i = 20) → gI x.2 a i = gI S a i := fun a i q q1 q2 => x4 a i q1 (by rintro ⟨rfl, rfl⟩; exact absurd q (by decide)) q2
      have cl : ∀ a i, 344 + 22 * k ≤ a → a ≤ 344 + 22 * k + 21 → a ≠ 344 + 22 * k + 15 → ¬ (a = 344 + 22 * k ∧ i = 20) → gI x.2 a i = gI S a i := fun a i l1 l2 l3 l4 => x4 a i l3 (by omega) l4
      by_cases ql : (dAll C).length ≤ 2000
      · rw [if_pos ql] at x1
        refine L_modS (m1 := fun S1 => mX23_draw S1 _) ?_
        rw [m1, x1, w32_id (by omega), if_pos (by omega), roomX_1, bT_inl]
        refine WP_some.2 ?_
        show WP (mX23_draw (sL x.2 2178 0 (i2l ((dAll C).length : Int))) (k : Int)) _
        refine (mref (sL x.2 2178 0 (i2l ((dAll C).length : Int))) (fun a i q => x4 a i (by omega) (by omega) (by omega))).mono (fun y hy => ?_)
        rw [if_pos ql] at hy
        obtain ⟨⟨y1, y2, y3, y4, y5⟩, y6, y7, y8, y9⟩ := hy
        refine ⟨y1, y2, ?_, ?_⟩
        · rw [y7 _ _ (by omega), gL_sL, if_pos ⟨rfl, rfl⟩]
        · have yk : ∀ a i, kept a i = true → ¬ (a = 2148 ∧ 10000 * k ≤ i ∧ i < 10000 * k + 10000) → ¬ ((a = 2147 ∨ a = 2146) ∧ i = k) → gI y.2 a i = gI x.2 a i := fun a i q q1 q2 => y6 a i q q1 q2
          have eL : ∀ a i, a ≠ 2178 → a ≠ 2000 → gL y.2 a i = gL S a i := fun a i q q' => by
            rw [y7 a i q', gL_sL, if_neg (fun g => q g.1)]; exact x5 a i
          refine h.chipQ hk (fun a i => (a = 344 + 22 * k + 15 ∨ (a = 344 + 22 * k ∧ i = 20)) ∨ (a = 2148 ∧ 10000 * k ≤ i ∧ i < 10000 * k + 10000) ∨ ((a = 2147 ∨ a = 2146) ∧ i = k)) (drC C (dAll C)) (fun a i q g => ?_) (fun a i g => ?_) (fun a i q _ _ => eL a i (by omega) (by omega)) (by rw [y8]; show nC x.2 ≤ _; omega) (by rw [y9]; show nS x.2 ≤ _; omega) ?_
          · rw [yk a i q (by omega) (by omega), xk a i q (by omega) (by omega)]
          · rcases g with g | ⟨rfl, g2, g3⟩ | ⟨g, rfl⟩
            · exact .inl (by omega)
            · exact .inr ⟨by omega, show 10000 * k ≤ _ from g2, show _ < 10000 * k + 10000 from g3⟩
            · rcases g with rfl | rfl
              · exact .inr (ownC_1 (by omega))
              · exact .inr (ownC_1 (by omega))
          · have l14 : ∀ f i, f ≤ 14 → drC C (dAll C) f i = C f i := fun f i q => drC_o (by omega) (by omega)
            have l12 : ∀ f i, f ≤ 12 → drC C (dAll C) f i = C f i := fun f i q => drC_o (by omega) (by omega)
            have lt' : ∀ f i, 28 ≤ f → f ≤ 30 → drC C (dAll C) f i = C f i := fun f i q q' => drC_o (by omega) (by omega)
            have lf' : ∀ f i, 25 ≤ f → f ≤ 27 → drC C (dAll C) f i = C f i := fun f i q q' => drC_o (by omega) (by omega)
            have n23 : drC C (dAll C) 23 0 = ((dAll C).length : Int) := rfl
            have nk : kBx (drC C (dAll C)) = (dAll C).length := by unfold kBx; rw [n23]; rfl
            have cy : ∀ a i, 344 + 22 * k ≤ a → a ≤ 344 + 22 * k + 21 → gI y.2 a i = gI x.2 a i := fun a i l1 l2 => yk a i (kept_rng (by omega)) (by omega) (by omega)
            have cc : ∀ a i, 344 + 22 * k ≤ a → a ≤ 344 + 22 * k + 21 → a ≠ 344 + 22 * k + 15 → ¬ (a = 344 + 22 * k ∧ i = 20) → gI y.2 a i = gI S a i := fun a i l1 l2 l3 l4 => (cy a i l1 l2).trans (cl a i l1 l2 l3 l4)
            have gg : ∀ a i, 2105 ≤ a → a ≤ 2177 → a ≠ 2147 → a ≠ 2148 → a ≠ 2146 → ((2105 ≤ a ∧ a ≤ 2120) ∨ (2122 ≤ a ∧ a ≤ 2125) ∨ (2134 ≤ a ∧ a ≤ 2139) ∨ (2155 ≤ a ∧ a ≤ 2157) ∨ (2172 ≤ a ∧ a ≤ 2175) ∨ a = 2177) → gI y.2 a i = gI S a i := fun a i l1 l2 l3 l4 l5 l6 => (yk a i (kept_rng (by omega)) (by omega) (by omega)).trans (x4 a i (by omega) (by omega) (by omega))
            obtain ⟨xP, xW, xB, xF, xT⟩ := wx
            obtain ⟨rP, rW, rB, rF, rT⟩ := rX
            obtain ⟨mP, mW, mB, mF, mT⟩ := mX
            have r' : RepK y.2 (344 + 22 * k) C := by
              obtain ⟨t1, t2, t3, t4, t5, t6⟩ := r
              refine ⟨?_, fun g hg => ?_, fun g hg => ?_, fun g hg => ?_, fun g hg => ?_, fun g hg => ?_⟩
              · simp (disch := omega) only [cc]; exact t1
              · rw [cc _ _ (by omega) (by omega) (by omega) (by omega)]; exact t2 g hg
              · rw [cc _ _ (by omega) (by omega) (by omega) (by omega)]; exact t3 g hg
              · rw [cc _ _ (by omega) (by omega) (by omega) (by omega)]; exact t4 g hg
              · rw [cc _ _ (by omega) (by omega) (by omega) (by omega)]; exact t5 g hg
              · simp (disch := omega) only [cc]; exact t6 g hg
            have m' : RefK y.2 k C := m.cg (fun a i l1 l2 => gg a i (by omega) (by omega) (by omega) (by omega) (by omega) (by omega))
            refine ⟨⟨w.fc l14, r'.fc l14, m'.fc l14⟩, ⟨xP, xW, WFB_drC w wp h0 ql, xF, xT.fc l12 lt'⟩, ⟨?_, ?_, ?_, ?_, ?_⟩, ⟨?_, ?_, ?_, ?_, ?_⟩⟩
            · have : RepP y.2 (344 + 22 * k) C := by unfold RepP at rP ⊢; simp (disch := omega) only [cc]; exact rP
              exact this
            · have : RepW y.2 (344 + 22 * k) C := by unfold RepW at rW ⊢; simp (disch := omega) only [cc]; exact rW
              exact this
            · refine ⟨?_, fun i hi => ?_⟩
              · rw [n23, cy _ _ (by omega) (by omega), x2]; exact x1
              · rw [nk] at hi
                rw [cy _ _ (by omega) (by omega)]
                have := (x3 ql).at hi
                rw [Nat.zero_add] at this
                exact this
            · have : RepF y.2 (344 + 22 * k) C := by unfold RepF at rF ⊢; simp (disch := omega) only [cc]; exact rF
              exact this.fc lf'
            · have gl21 : ∀ i, gL y.2 (344 + 22 * k + 21) i = gL S (344 + 22 * k + 21) i := fun i => eL _ _ (by omega) (by omega)
              have : RepT y.2 (344 + 22 * k) C := by unfold RepT at rT ⊢; simp (disch := omega) only [cc, gl21]; exact rT
              exact this.fc l12 lt'
            · have : RefP y.2 k C := by unfold RefP at mP ⊢; simp (disch := omega) only [gg]; exact mP
              exact this
            · have : RefW y.2 k C := by unfold RefW at mW ⊢; simp (disch := omega) only [gg]; exact mW
              exact this
            · refine ⟨?_, fun _ => ?_, fun i hi => ?_⟩
              · rw [n23, if_neg (by omega)]; exact y5
              · rw [n23]; exact y4
              · rw [nk] at hi; exact y3.at hi
            · have : RefF y.2 k C := by unfold RefF at mF ⊢; simp (disch := omega) only [gg]; exact mF
              exact this.fc lf'
            · have gl75 : ∀ i, gL y.2 2175 i = gL S 2175 i := fun i => eL _ _ (by omega) (by omega)
              have : RefT y.2 k C := by unfold RefT at mT ⊢; simp (disch := omega) only [gg, gl75]; exact mT
              exact this.fc l12 lt'
      · rw [if_neg ql] at x1
        have n23 : C 23 0 = -1 := Classical.byContradiction (fun g => ql (wb.2.2 g).2)
        have n24 : kBx C = 0 := by unfold kBx; rw [n23]; rfl
        refine L_modG (m1 := fun S1 => mX23_draw S1 _) 3 4 (fun S1 => S1 = thrS x.2) ?_ rfl (by omega) (fun S1 eS => ?_)
        · have rx' : RoomX x.2 := by unfold RoomX at rx ⊢; rw [x6, x7]; exact rx
          rw [m1, x1, w32_id (by omega), if_neg (by decide), roomX_0 rx', bT_inr]
          exact WP_some.2 ⟨rfl, rfl⟩
        · subst eS
          refine (mref (thrS x.2) (fun a i q => x4 a i (by omega) (by omega) (by omega))).mono (fun y hy => ?_)
          rw [if_neg ql] at hy
          obtain ⟨⟨y1, y2⟩, y6, y7, y8, y9⟩ := hy
          refine ⟨y1, ?_⟩
          have y2' : ∀ a i, a ≠ 2000 → gI y.2 a i = gI x.2 a i := fun a i q => y2 a i q
          have eL : ∀ a i, a ≠ 2000 → gL y.2 a i = gL S a i := fun a i q' => by
            rw [y7 a i q']; exact x5 a i
          refine h.chipQ hk (fun a i => (a = 344 + 22 * k + 15 ∨ (a = 344 + 22 * k ∧ i = 20)) ∨ (a = 2148 ∧ 10000 * k ≤ i ∧ i < 10000 * k + 10000) ∨ ((a = 2147 ∨ a = 2146) ∧ i = k)) C (fun a i q g => ?_) (fun a i g => ?_) (fun a i q _ _ => eL a i (by omega)) (by rw [y8]; show nC x.2 + 1 ≤ _; omega) (by rw [y9]; show nS x.2 + 6 ≤ _; omega) ?_
          · rw [y6 a i q (by omega) (by omega)]; exact xk a i q (by omega) (by omega)
          · rcases g with g | ⟨rfl, g2, g3⟩ | ⟨g, rfl⟩
            · exact .inl (by omega)
            · exact .inr ⟨by omega, show 10000 * k ≤ _ from g2, show _ < 10000 * k + 10000 from g3⟩
            · rcases g with rfl | rfl
              · exact .inr (ownC_1 (by omega))
              · exact .inr (ownC_1 (by omega))
          · have cc : ∀ a i, 344 + 22 * k ≤ a → a ≤ 344 + 22 * k + 21 → a ≠ 344 + 22 * k + 15 → ¬ (a = 344 + 22 * k ∧ i = 20) → gI y.2 a i = gI S a i := fun a i l1 l2 l3 l4 => (y2' a i (by omega)).trans (cl a i l1 l2 l3 l4)
            have gg : ∀ a i, 2105 ≤ a → a ≤ 2177 → gI y.2 a i = gI S a i := fun a i l1 l2 => (y2' a i (by omega)).trans (x4 a i (by omega) (by omega) (by omega))
            obtain ⟨rP, rW, rB, rF, rT⟩ := rX
            obtain ⟨mP, mW, mB, mF, mT⟩ := mX
            have r' : RepK y.2 (344 + 22 * k) C := by
              obtain ⟨t1, t2, t3, t4, t5, t6⟩ := r
              refine ⟨?_, fun g hg => ?_, fun g hg => ?_, fun g hg => ?_, fun g hg => ?_, fun g hg => ?_⟩
              · simp (disch := omega) only [cc]; exact t1
              · rw [cc _ _ (by omega) (by omega) (by omega) (by omega)]; exact t2 g hg
              · rw [cc _ _ (by omega) (by omega) (by omega) (by omega)]; exact t3 g hg
              · rw [cc _ _ (by omega) (by omega) (by omega) (by omega)]; exact t4 g hg
              · rw [cc _ _ (by omega) (by omega) (by omega) (by omega)]; exact t5 g hg
              · simp (disch := omega) only [cc]; exact t6 g hg
            refine ⟨⟨w, r', m.cg (fun a i l1 l2 => gg a i (by omega) (by omega))⟩, wx, ⟨?_, ?_, ?_, ?_, ?_⟩, ⟨?_, ?_, ?_, ?_, ?_⟩⟩
            · unfold RepP at rP ⊢; simp (disch := omega) only [cc]; exact rP
            · unfold RepW at rW ⊢; simp (disch := omega) only [cc]; exact rW
            · refine ⟨?_, fun i hi => absurd hi (by rw [n24]; omega)⟩
              rw [y2' _ _ (by omega), x2, x1, n23]
            · unfold RepF at rF ⊢; simp (disch := omega) only [cc]; exact rF
            · have gl21 : ∀ i, gL y.2 (344 + 22 * k + 21) i = gL S (344 + 22 * k + 21) i := fun i => eL _ _ (by omega)
              unfold RepT at rT ⊢; simp (disch := omega) only [cc, gl21]; exact rT
            · unfold RefP at mP ⊢; simp (disch := omega) only [gg]; exact mP
            · unfold RefW at mW ⊢; simp (disch := omega) only [gg]; exact mW
            · unfold RefB at mB ⊢; simp (disch := omega) only [gg]; exact mB
            · unfold RefF at mF ⊢; simp (disch := omega) only [gg]; exact mF
            · have gl75 : ∀ i, gL y.2 2175 i = gL S 2175 i := fun i => eL _ _ (by omega)
              unfold RefT at mT ⊢; simp (disch := omega) only [gg, gl75]; exact mT
  · refine L_modF (m1 := fun S1 => mX23_draw S1 _) 1 1 h hc ?_ rfl (by omega) (fun S1 eS => ?_)
    · rw [mX1_draw, chipIn_f hq rx h1]; rfl
    · unfold mX23_draw; rw [m_isChip_f h eS h1 hq]; rfl
end DRAW
