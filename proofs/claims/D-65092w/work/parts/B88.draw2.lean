/-! drawing: columns, vias, all nets (class) -/
section KDRAW2
variable {S : Sto} {L k : Nat} {C : Chp} {l : List Bx5}
theorem up_lt {x y : Nat} (hx : x < kW C) (hy : y < kHn C) : kW C * kHn C + (y * kW C + x) < 2 * kLy C := by
  have := pt_lt hx hy; rw [kLy_wh] at this ⊢; omega
theorem next_pt {W H x y : Nat} : W * H + ((y + 1) * W + x) = W * H + (y * W + x) + W := by rw [Nat.add_mul, Nat.one_mul]; omega
theorem prev_pt {W H x y : Nat} : ((W * H + ((y + 1) * W + x) : Nat) : Int) - (W : Int) = ((W * H + (y * W + x) : Nat) : Int) := by rw [next_pt]; omega
theorem up_gen {W H x y : Nat} : (W : Int) * (H : Int) + (y : Int) * (W : Int) + (x : Int) = ((W * H + (y * W + x) : Nat) : Int) := by
  rw [Int.natCast_add, Int.natCast_add, Int.natCast_mul, Int.natCast_mul, Int.add_assoc]
theorem up_int {x y : Nat} : (kW C : Int) * (kHn C : Int) + (y : Int) * (kW C : Int) + (x : Int) = ((kW C * kHn C + (y * kW C + x) : Nat) : Int) := up_gen
theorem up_next {x y : Nat} (h : kW C * kHn C + (y * kW C + x) + (kS C + 2) < 2 * kLy C) : y + 1 < kHn C := by
  rw [kLy_wh] at h
  by_cases q : y + 1 < kHn C
  · exact q
  · have := Nat.mul_le_mul_right (kW C) (show kHn C ≤ y + 1 by omega)
    rw [Nat.succ_mul, Nat.mul_comm (kHn C)] at this
    have e : kS C + 2 = kW C := rfl
    omega
theorem k_st70 (h : KDr S L C l) (hk : k < 4) (hL : L = 344 + 22 * k) (w : WFC C) (wp : WFP C) (ww : WFW C) (h19 : C 19 0 = 1) {S0 : Sto} (h13 : gI S0 L 13 = (kHn C : Int)) {n x y : Nat} (hx : x < kW C) (hy : y < kHn C) (ho : C 20 (kW C * kHn C + (y * kW C + x)) = (n : Int)) (hb : clB (C 31) (kW C) (kW C * kHn C) x y = y) {T : Sto} {u : Int} :
    WP (lpF (mX16_standing_L70 (u, S) (kW C : Int) S0 L ((x : Int), T)) (y : Int)) (fun z => ∃ y' : Nat, z = (y' : Int) ∧ y ≤ y' ∧ y' < kHn C ∧ clB (C 31) (kW C) (kW C * kHn C) x y' = y ∧ C 31 (kW C * kHn C + (y' * kW C + x)) = 0 ∧ C 20 (kW C * kHn C + (y' * kW C + x)) = (n : Int) ∧ dCl (C 20) (C 31) n (kW C) (kW C * kHn C) x y' = dCl (C 20) (C 31) n (kW C) (kW C * kHn C) x y) := by
  have ly := kLy_le w wp
  have W := ww.2 h19
  have hs := kS_le wp
  have hh := kH_le w wp
  have hH : kHn C ≤ 38 := by show (kH C).toNat ≤ 38; omega
  refine WP_lpF (fun z => ∃ y' : Nat, z = (y' : Int) ∧ y ≤ y' ∧ y' < kHn C ∧ clB (C 31) (kW C) (kW C * kHn C) x y' = y ∧ C 20 (kW C * kHn C + (y' * kW C + x)) = (n : Int) ∧ dCl (C 20) (C 31) n (kW C) (kW C * kHn C) x y' = dCl (C 20) (C 31) n (kW C) (kW C * kHn C) x y) (fun z => (kHn C - z).toNat) ⟨y, rfl, Nat.le_refl _, hy, hb, ho, rfl⟩ (by unfold cFU; omega) (fun z hI => ?_)
  obtain ⟨y', rfl, b1, b2, b3, b4, b5⟩ := hI
  have pl := up_lt hx b2
  have Wp := W.2.1 _ pl
  have e := (h.2.2.2.1 _ pl).2
  have s3 := st3' Wp.2.2.1 Wp.2.2.2.1 Wp.2.2.2.2
  unfold mX16_standing_L70
  dsimp only
  rw [h.1, hL, gk_chip hk, ← hL, h13, up_int, rdI_e (by omega), Int.toNat_natCast, e]
  rcases Wp.2.2.2.1 with q | q
  · rw [if_neg (by rw [s3.2.1]; omega)]
    exact WP_some.2 ⟨y', rfl, b1, b2, b3, q, b4, b5⟩
  · rw [if_pos (by rw [s3.2.1]; omega)]
    have st := W.2.2.2.1 _ pl q
    have st2 := up_next st.2.1
    refine WP_some.2 ⟨⟨y' + 1, by show (y' : Int) + 1 = _; omega, by omega, st2, ?_, ?_, ?_⟩, by show ((kHn C : Int) - ((y' : Int) + 1)).toNat < _; omega⟩
    · show (if C 31 (kW C * kHn C + (y' * kW C + x)) = 1 then clB (C 31) (kW C) (kW C * kHn C) x y' else y' + 1) = y
      rw [if_pos q]; exact b3
    · have e2 : kW C * kHn C + ((y' + 1) * kW C + x) = kW C * kHn C + (y' * kW C + x) + (kS C + 2) := next_pt
      rw [e2, st.2.2.1]; exact b4
    · show dCl (C 20) (C 31) n (kW C) (kW C * kHn C) x y' ++ _ = _
      rw [if_neg (by rw [q]; omega), List.append_nil]; exact b5
theorem k_st30 (hk : k < 4) (hL : L = 344 + 22 * k) (w : WFC C) (wp : WFP C) (ww : WFW C) (h19 : C 19 0 = 1) {n x : Nat} (hn : n < kN C) (hx : x < kW C) {T S0 : Sto} (h13 : gI S0 L 13 = (kHn C : Int)) (h : KDr S L C l) :
    WP (lpF (mX16_standing_L30 (kW C : Int) S0 L ((x : Int), T) (n : Int)) (0, S)) (WE (fun z => KDr z L C (l ++ dCl (C 20) (C 31) n (kW C) (kW C * kHn C) x (kHn C)) ∧ DrF L S z) (fun t => ∃ z, t = .inr (.inr (0, z)) ∧ 2000 < (l ++ dCl (C 20) (C 31) n (kW C) (kW C * kHn C) x (kHn C)).length ∧ DrF L S z)) := by
  have hnn := w.nums
  have ly := kLy_le w wp
  have W := ww.2 h19
  have hs := kS_le wp
  have hh := kH_le w wp
  have hW : kW C ≤ 62 := by show kS C + 2 ≤ 62; omega
  have hH : kHn C ≤ 38 := by show (kH C).toNat ≤ 38; omega
  refine WP_lpF (fun z => ∃ y : Nat, z.1 = (y : Int) ∧ y ≤ kHn C ∧ KDr z.2 L C (l ++ dCl (C 20) (C 31) n (kW C) (kW C * kHn C) x y) ∧ DrF L S z.2 ∧ (y < kHn C → C 20 (kW C * kHn C + (y * kW C + x)) = (n : Int) → clB (C 31) (kW C) (kW C * kHn C) x y = y)) (fun z => ((kHn C : Int) - z.1).toNat) ⟨0, rfl, Nat.zero_le _, by rw [show dCl (C 20) (C 31) n (kW C) (kW C * kHn C) x 0 = [] from rfl, List.append_nil]; exact h, DrF.refl, fun _ _ => rfl⟩ (by unfold cFU; show ((kHn C : Int) - 0).toNat < _; omega) (fun z hI => ?_)
  obtain ⟨z1, z2⟩ := z
  obtain ⟨y, b1, b2, b3, b4, b5⟩ := hI
  dsimp only at b1 b3 b4
  subst b1
  unfold mX16_standing_L30
  dsimp only
  rw [b3.1, hL]
  simp only [gk_chip hk]
  rw [← hL, b3.2.2.1, w32_id (by omega), w32_id (by omega)]
  by_cases q : y < kHn C
  · have pl := up_lt hx q
    have Wp := W.2.1 _ pl
    have e := (b3.2.2.2.1 _ pl).1
    rw [if_pos (by omega), h13, up_int, rdI_e (by omega), Int.toNat_natCast, e, w32_id (by omega), w32_id (by omega)]
    by_cases o : C 20 (kW C * kHn C + (y * kW C + x)) = (n : Int)
    · rw [if_neg (fun g => g o)]
      refine WP_bE.2 (WP_bX.2 ((k_st70 (n := n) (T := T) (u := (y : Int)) b3 hk hL w wp ww h19 h13 hx q o (b5 q o)).mono (fun v hv => ?_)))
      obtain ⟨y', rfl, c1, c2, c3, c4, c5, c6⟩ := hv
      have ev : dCl (C 20) (C 31) n (kW C) (kW C * kHn C) x (y' + 1) = dCl (C 20) (C 31) n (kW C) (kW C * kHn C) x y ++ [(1, 4 * (x : Int) - 1, 4 * (y : Int) - 1, 4 * (x : Int) + 1, 4 * (y' : Int) + 1)] := by
        show dCl (C 20) (C 31) n (kW C) (kW C * kHn C) x y' ++ _ = _
        rw [if_pos ⟨c5, c4⟩, c3, c6]
      have ok : bxOk (1, 4 * (x : Int) - 1, 4 * (y : Int) - 1, 4 * (x : Int) + 1, 4 * (y' : Int) + 1) := by unfold bxOk; dsimp only; omega
      by_cases len : (l ++ dCl (C 20) (C 31) n (kW C) (kW C * kHn C) x y).length < 2000
      · refine WP_bX.2 ((k_put b3 hk hL ok len).mono (fun u hu => ?_))
        obtain ⟨u1, u2, u3⟩ := hu
        rw [u1, if_neg (by decide)]
        refine WP_some.2 (WP_some.2 ⟨⟨y' + 1, by show (y' : Int) + 1 = _; omega, by omega, ?_, b4.tr u3, fun _ _ => ?_⟩, by show ((kHn C : Int) - ((y' : Int) + 1)).toNat < ((kHn C : Int) - (y : Int)).toNat; omega⟩)
        · rw [ev, ← List.append_assoc]; exact u2
        · show (if C 31 (kW C * kHn C + (y' * kW C + x)) = 1 then _ else y' + 1) = _
          rw [if_neg (by omega)]
      · have l2 := b3.2.2.2.2.2.1
        rw [k_put_no b3 (by omega), bX_some, if_pos (by rfl)]
        refine WP_some.2 ⟨z2, rfl, ?_, b4⟩
        obtain ⟨rr, hr⟩ := dCl_pre (own := C 20) (sy := C 31) (n := n) (W := kW C) (l := kW C * kHn C) (x := x) (i := y' + 1) (m := kHn C) (by omega)
        rw [hr, ev, ← List.append_assoc, ← List.append_assoc, List.length_append, lenS]; omega
    · rw [if_pos o, bE_inl]
      have ev : dCl (C 20) (C 31) n (kW C) (kW C * kHn C) x (y + 1) = dCl (C 20) (C 31) n (kW C) (kW C * kHn C) x y := by
        show dCl (C 20) (C 31) n (kW C) (kW C * kHn C) x y ++ _ = _
        rw [if_neg (fun g => o g.1), List.append_nil]
      refine WP_some.2 ⟨⟨y + 1, by show (y : Int) + 1 = _; omega, by omega, by rw [ev]; exact b3, b4, fun g1 g2 => ?_⟩, by show ((kHn C : Int) - ((y : Int) + 1)).toNat < ((kHn C : Int) - (y : Int)).toNat; omega⟩
      show (if C 31 (kW C * kHn C + (y * kW C + x)) = 1 then _ else y + 1) = _
      rw [if_neg]
      intro s1
      have st := W.2.2.2.1 _ pl s1
      have e2 : kW C * kHn C + ((y + 1) * kW C + x) = kW C * kHn C + (y * kW C + x) + (kS C + 2) := next_pt
      rw [e2] at g2
      exact o (st.2.2.1.symm.trans g2)
  · have ex : y = kHn C := by omega
    rw [if_neg (by omega)]
    rw [ex] at b3
    exact WP_some.2 ⟨b3, b4⟩
theorem k_standing (hk : k < 4) (hL : L = 344 + 22 * k) (w : WFC C) (wp : WFP C) (ww : WFW C) (h19 : C 19 0 = 1) {n : Nat} (hn : n < kN C) (h : KDr S L C l) :
    WP (mX16_standing S (n : Int)) (fun z => DrF L S z.2 ∧ ((z.1 = 1 ∧ KDr z.2 L C (l ++ dCls (C 20) (C 31) n (kW C) (kW C * kHn C) (kHn C) (kW C))) ∨ (z.1 = 0 ∧ 2000 < (l ++ dCls (C 20) (C 31) n (kW C) (kW C * kHn C) (kHn C) (kW C)).length))) := by
  have hs := kS_le wp
  have hW : kW C ≤ 62 := by show kS C + 2 ≤ 62; omega
  have h13 := h.2.2.1
  have key : WP (lpF (mX16_standing_L21 (kW C : Int) S L (n : Int)) (0, S)) (WE (fun z => KDr z L C (l ++ dCls (C 20) (C 31) n (kW C) (kW C * kHn C) (kHn C) (kW C)) ∧ DrF L S z) (fun t => t.1 = 0 ∧ 2000 < (l ++ dCls (C 20) (C 31) n (kW C) (kW C * kHn C) (kHn C) (kW C)).length ∧ DrF L S t.2)) := by
    refine WP_cnt (kW C) (fun x z => z.1 = (x : Int) ∧ KDr z.2 L C (l ++ dCls (C 20) (C 31) n (kW C) (kW C * kHn C) (kHn C) x) ∧ DrF L S z.2) (by unfold cFU; omega) ⟨rfl, by rw [show dCls (C 20) (C 31) n (kW C) (kW C * kHn C) (kHn C) 0 = [] from rfl, List.append_nil]; exact h, DrF.refl⟩ (fun x z hx hI => ?_) (fun z hI => ?_)
    · obtain ⟨z1, z2⟩ := z
      obtain ⟨b1, b3, b4⟩ := hI
      dsimp only at b1 b3 b4
      subst b1
      have ev : l ++ dCls (C 20) (C 31) n (kW C) (kW C * kHn C) (kHn C) (x + 1) = (l ++ dCls (C 20) (C 31) n (kW C) (kW C * kHn C) (kHn C) x) ++ dCl (C 20) (C 31) n (kW C) (kW C * kHn C) x (kHn C) := by rw [List.append_assoc]; rfl
      unfold mX16_standing_L21
      dsimp only
      rw [w32_id (by omega), w32_id (by omega), if_pos (by omega)]
      refine WP_bE.2 ((k_st30 (T := z2) (S0 := S) hk hL w wp ww h19 hn hx h13 b3).mono (fun t ht => ?_))
      cases t with
      | inl v => exact WP_some.2 ⟨by show (x : Int) + 1 = _; omega, by rw [ev]; exact ht.1, b4.tr ht.2⟩
      | inr v =>
        obtain ⟨v', rfl, v2, v3⟩ := ht
        obtain ⟨rr, hr⟩ := dCls_pre (own := C 20) (sy := C 31) (n := n) (W := kW C) (l := kW C * kHn C) (H := kHn C) (i := x + 1) (m := kW C) (by omega)
        refine ⟨rfl, ?_, b4.tr v3⟩
        rw [hr, ← List.append_assoc, ev, List.length_append]; omega
    · obtain ⟨b1, b3, b4⟩ := hI
      unfold mX16_standing_L21
      rw [b1, if_neg (by omega)]
      exact WP_some.2 ⟨b3, b4⟩
  unfold mX16_standing mX22_across
  rw [h.1, hL]
  simp only [gk_chip hk]
  rw [← hL, bX_some, h.2.1]
  refine WP_bE.2 (key.mono (fun t ht => ?_))
  cases t with
  | inl v => exact WP_some.2 ⟨ht.2, .inl ⟨rfl, ht.1⟩⟩
  | inr v => exact ⟨ht.2.2, .inr ⟨ht.1, ht.2.1⟩⟩
theorem gnz_nz {τ : Type} {v : Int} {K : Option τ} (h : w32 v ≠ 0) : gnz v K = K := if_neg h
theorem k_vias (hk : k < 4) (hL : L = 344 + 22 * k) (w : WFC C) (wp : WFP C) (ww : WFW C) (h19 : C 19 0 = 1) {n : Nat} (hn : n < kN C) (h : KDr S L C l) :
    WP (mX16_vias S (n : Int)) (fun z => DrF L S z.2 ∧ ((z.1 = 1 ∧ KDr z.2 L C (l ++ dVi (C 20) (C 32) n (kW C) (kW C * kHn C))) ∨ (z.1 = 0 ∧ 2000 < (l ++ dVi (C 20) (C 32) n (kW C) (kW C * kHn C)).length))) := by
  have hnn := w.nums
  have ly := kLy_le w wp
  have lw : kW C * kHn C = kLy C := rfl
  have W := ww.2 h19
  have hs := kS_le wp
  have hh := kH_le w wp
  have hW : kW C ≤ 62 := by show kS C + 2 ≤ 62; omega
  have hW0 : 2 ≤ kW C := by show 2 ≤ kS C + 2; omega
  have hH : kHn C ≤ 38 := by show (kH C).toNat ≤ 38; omega
  have key : WP (lpF (mX16_vias_L10 (kW C : Int) (n : Int)) (0, S)) (WE (fun z => KDr z L C (l ++ dVi (C 20) (C 32) n (kW C) (kW C * kHn C)) ∧ DrF L S z) (fun t => t.1 = 0 ∧ 2000 < (l ++ dVi (C 20) (C 32) n (kW C) (kW C * kHn C)).length ∧ DrF L S t.2)) := by
    refine WP_cnt (kW C * kHn C) (fun p z => z.1 = (p : Int) ∧ KDr z.2 L C (l ++ dVi (C 20) (C 32) n (kW C) p) ∧ DrF L S z.2) (by unfold cFU; omega) ⟨rfl, by rw [show dVi (C 20) (C 32) n (kW C) 0 = [] from rfl, List.append_nil]; exact h, DrF.refl⟩ (fun p z hp hI => ?_) (fun z hI => ?_)
    · obtain ⟨z1, z2⟩ := z
      obtain ⟨b1, b3, b4⟩ := hI
      dsimp only at b1 b3 b4
      subst b1
      have Wp := W.2.1 p (by omega)
      have e := b3.2.2.2.1 p (by omega)
      have s3 := st3' Wp.2.2.1 Wp.2.2.2.1 Wp.2.2.2.2
      have wh : (kW C : Int) * (kHn C : Int) = ((kW C * kHn C : Nat) : Int) := (Int.natCast_mul _ _).symm
      have pm : p % kW C < kW C := Nat.mod_lt _ (by omega)
      have pd : p / kW C < kHn C := Nat.div_lt_of_lt_mul hp
      have ev : dVi (C 20) (C 32) n (kW C) (p + 1) = dVi (C 20) (C 32) n (kW C) p ++ (if C 20 p = (n : Int) ∧ C 32 p = 1 then [(2, 4 * ((p % kW C : Nat) : Int) - 1, 4 * ((p / kW C : Nat) : Int) - 1, 4 * ((p % kW C : Nat) : Int) + 1, 4 * ((p / kW C : Nat) : Int) + 1)] else []) := rfl
      have keep : ¬ (C 20 p = (n : Int) ∧ C 32 p = 1) → WP (some (Sum.inl ((p : Int) + 1, z2)) : Option ((Int × Sto) ⊕ ((Sto) ⊕ (Int × Sto)))) (WE (fun z => z.1 = ((p + 1 : Nat) : Int) ∧ KDr z.2 L C (l ++ dVi (C 20) (C 32) n (kW C) (p + 1)) ∧ DrF L S z.2) (WE (fun z => KDr z L C (l ++ dVi (C 20) (C 32) n (kW C) (kW C * kHn C)) ∧ DrF L S z) (fun t => t.1 = 0 ∧ 2000 < (l ++ dVi (C 20) (C 32) n (kW C) (kW C * kHn C)).length ∧ DrF L S t.2))) := fun g => by
        rw [if_neg g, List.append_nil] at ev
        exact WP_some.2 ⟨by show (p : Int) + 1 = _; omega, by rw [ev]; exact b3, b4⟩
      unfold mX16_vias_L10
      dsimp only
      rw [b3.1, hL]
      simp only [gk_chip hk]
      rw [← hL, b3.2.2.1, wh, w32_id (show -2147483648 ≤ ((kW C * kHn C : Nat) : Int) ∧ _ by omega), w32_id (show -2147483648 ≤ (p : Int) ∧ _ by omega), if_pos (by omega), rdI_e (by omega), Int.toNat_natCast, e.1, rdI_e (by omega), Int.toNat_natCast, e.2, w32_id (show -2147483648 ≤ C 20 p ∧ _ by omega), w32_id (show -2147483648 ≤ (n : Int) ∧ _ by omega)]
      by_cases o : C 20 p = (n : Int)
      · rw [if_pos o]
        rcases Wp.2.2.2.2 with q | q
        · rw [if_pos (by rw [s3.2.2]; omega), bE_inl]
          exact keep (fun g => by omega)
        · rw [if_neg (by rw [s3.2.2]; omega)]
          rw [if_pos ⟨o, q⟩] at ev
          have xr : aRem (p : Int) (kW C : Int) = ((p % kW C : Nat) : Int) := by rw [aRem_nn (by omega) (by omega)]; rfl
          have yr : aDiv (p : Int) (kW C : Int) = ((p / kW C : Nat) : Int) := by rw [aDiv_nn (by omega) (by omega)]; rfl
          rw [gnz_nz (by rw [w32_id (by omega)]; omega), gnz_nz (by rw [w32_id (by omega)]; omega), xr, yr]
          generalize hmx : p % kW C = mx at pm ev ⊢
          generalize hmy : p / kW C = my at pd ev ⊢
          have ok : bxOk (2, 4 * (mx : Int) - 1, 4 * (my : Int) - 1, 4 * (mx : Int) + 1, 4 * (my : Int) + 1) := by unfold bxOk; dsimp only; omega
          by_cases len : (l ++ dVi (C 20) (C 32) n (kW C) p).length < 2000
          · refine WP_bE.2 (WP_bX.2 ((k_put b3 hk hL ok len).mono (fun u hu => ?_)))
            obtain ⟨u1, u2, u3⟩ := hu
            rw [u1, if_neg (by decide)]
            exact WP_some.2 (WP_some.2 ⟨by show (p : Int) + 1 = _; omega, by rw [ev, ← List.append_assoc]; exact u2, b4.tr u3⟩)
          · have l2 := b3.2.2.2.2.2.1
            rw [k_put_no b3 (by omega), bX_some, if_pos (by rfl), bE_inr]
            refine WP_some.2 ⟨rfl, ?_, b4⟩
            obtain ⟨rr, hr⟩ := dVi_pre (own := C 20) (v := C 32) (n := n) (W := kW C) (i := p + 1) (m := kW C * kHn C) (by omega)
            rw [hr, ev, ← List.append_assoc, ← List.append_assoc, List.length_append, lenS]; omega
      · rw [if_neg o, bE_inl]
        exact keep (fun g => o g.1)
    · obtain ⟨b1, b3, b4⟩ := hI
      have wh : (kW C : Int) * (kHn C : Int) = ((kW C * kHn C : Nat) : Int) := (Int.natCast_mul _ _).symm
      unfold mX16_vias_L10
      rw [b3.1, hL]
      simp only [gk_chip hk]
      rw [← hL, b3.2.2.1, wh, b1, if_neg (by omega)]
      exact WP_some.2 ⟨b3, b4⟩
  unfold mX16_vias mX22_across
  rw [h.1, hL, gk_chip hk, ← hL, bX_some, h.2.1]
  refine WP_bE.2 (key.mono (fun t ht => ?_))
  cases t with
  | inl v => exact WP_some.2 ⟨ht.2, .inl ⟨rfl, ht.1⟩⟩
  | inr v => exact ⟨ht.2.2, .inr ⟨ht.1, ht.2.1⟩⟩
theorem dNts_pre {own sx sy v : Nat → Int} {W H i m : Nat} (h : i ≤ m) : ∃ r, dNts own sx sy v W H m = dNts own sx sy v W H i ++ r := by
  induction m with
  | zero => have : i = 0 := by omega
            subst this; exact ⟨[], rfl⟩
  | succ m ih =>
    by_cases e : i = m + 1
    · subst e; exact ⟨[], (List.append_nil _).symm⟩
    · obtain ⟨r, hr⟩ := ih (by omega)
      exact ⟨r ++ _, by show dNts own sx sy v W H m ++ _ = _; rw [hr, List.append_assoc]⟩
theorem RepK.dr {S' : Sto} (hk : k < 4) (hL : L = 344 + 22 * k) (r : RepK S L C) (f : DrF L S S') : RepK S' L C := by
  have cl : ∀ a i, L ≤ a → a ≤ L + 21 → a ≠ L + 15 → gI S' a i = gI S a i := fun a i l1 l2 l3 => f.1 a i l3 (by omega)
  obtain ⟨t1, t2, t3, t4, t5, t6⟩ := r
  refine ⟨?_, fun g hg => ?_, fun g hg => ?_, fun g hg => ?_, fun g hg => ?_, fun g hg => ?_⟩
  · simp (disch := omega) only [cl]; exact t1
  · rw [cl _ _ (by omega) (by omega) (by omega)]; exact t2 g hg
  · rw [cl _ _ (by omega) (by omega) (by omega)]; exact t3 g hg
  · rw [cl _ _ (by omega) (by omega) (by omega)]; exact t4 g hg
  · rw [cl _ _ (by omega) (by omega) (by omega)]; exact t5 g hg
  · simp (disch := omega) only [cl]; exact t6 g hg
theorem k_dr14 (hk : k < 4) (hL : L = 344 + 22 * k) (r : RepK S L C) (w : WFC C) (wp : WFP C) (ww : WFW C) (h19 : C 19 0 = 1) (h : KDr S L C []) :
    WP (lpF mX16_draw_L14 (1, 0, S)) (fun z => DrF L S z.2 ∧ ((z.1 = 1 ∧ KDr z.2 L C (dAll C)) ∨ (z.1 = 0 ∧ 2000 < (dAll C).length))) := by
  have hnn := w.nums
  refine WP_lpF (fun z => ∃ n : Nat, z.2.1 = (n : Int) ∧ n ≤ kN C ∧ DrF L S z.2.2 ∧ ((z.1 = 1 ∧ KDr z.2.2 L C (dNts (C 20) (C 21) (C 31) (C 32) (kW C) (kHn C) n)) ∨ (z.1 = 0 ∧ 2000 < (dAll C).length ∧ gR z.2.2 240 1 = L))) (fun z => ((kN C : Int) - z.2.1 + z.1).toNat) ⟨0, rfl, Nat.zero_le _, DrF.refl, .inl ⟨rfl, h⟩⟩ (by unfold cFU; show ((kN C : Int) - 0 + 1).toNat < _; omega) (fun z hI => ?_)
  obtain ⟨z0, z1, z2⟩ := z
  obtain ⟨n, b1, b2, b3, b4⟩ := hI
  dsimp only at b1 b3 b4
  subst b1
  have rz := r.dr hk hL b3
  have gr : gR z2 240 1 = L := by rcases b4 with b4 | b4; exact b4.2.1; exact b4.2.2
  unfold mX16_draw_L14
  dsimp only
  rw [gr, hL, gk_chip hk, ← hL, k_nets rz w, bX_some, w32_id (by omega), w32_id (by omega)]
  rcases b4 with ⟨rfl, b4⟩ | ⟨rfl, b4, b5⟩
  · by_cases q : n < kN C
    · rw [if_pos (by omega), if_pos (by decide), bX_some, if_pos rfl]
      have ev : dNts (C 20) (C 21) (C 31) (C 32) (kW C) (kHn C) (n + 1) = ((dNts (C 20) (C 21) (C 31) (C 32) (kW C) (kHn C) n ++ dRws (C 20) (C 21) n (kW C) (kHn C)) ++ dCls (C 20) (C 31) n (kW C) (kW C * kHn C) (kHn C) (kW C)) ++ dVi (C 20) (C 32) n (kW C) (kW C * kHn C) := by
        rw [List.append_assoc, List.append_assoc]; rfl
      obtain ⟨rr, hr⟩ := dNts_pre (own := C 20) (sx := C 21) (sy := C 31) (v := C 32) (W := kW C) (H := kHn C) (i := n + 1) (m := kN C) (by omega)
      have al : dAll C = dNts (C 20) (C 21) (C 31) (C 32) (kW C) (kHn C) (n + 1) ++ rr := hr
      refine WP_call (k_lying hk hL w wp ww h19 q b4) (fun x hx => ?_)
      obtain ⟨x1, ⟨x2, x3⟩ | ⟨x2, x3⟩⟩ := hx
      · rw [x2, if_pos (by decide)]
        refine WP_bX.2 (WP_call (k_standing hk hL w wp ww h19 q x3) (fun y hy => ?_))
        obtain ⟨y1, ⟨y2, y3⟩ | ⟨y2, y3⟩⟩ := hy
        · rw [y2, if_pos (by decide)]
          refine WP_bE.2 (WP_call (k_vias hk hL w wp ww h19 q y3) (fun u hu => ?_))
          obtain ⟨u1, ⟨u2, u3⟩ | ⟨u2, u3⟩⟩ := hu
          · rw [u2, if_pos (by decide)]
            refine WP_some.2 (WP_some.2 ⟨⟨n + 1, by show (n : Int) + 1 = _; omega, by omega, (b3.tr x1).tr (y1.tr u1), .inl ⟨rfl, ?_⟩⟩, by show ((kN C : Int) - ((n : Int) + 1) + 1).toNat < ((kN C : Int) - (n : Int) + 1).toNat; omega⟩)
            rw [ev]; exact u3
          · rw [u2, if_neg (by decide)]
            refine WP_some.2 (WP_some.2 (WP_some.2 ⟨⟨n + 1, by show (n : Int) + 1 = _; omega, by omega, (b3.tr x1).tr (y1.tr u1), .inr ⟨rfl, ?_, (u1.2.2.1 _ _).trans ((y1.2.2.1 _ _).trans ((x1.2.2.1 _ _).trans gr))⟩⟩, by show ((kN C : Int) - ((n : Int) + 1) + 0).toNat < ((kN C : Int) - (n : Int) + 1).toNat; omega⟩))
            rw [al, ev, List.length_append]; omega
        · rw [y2, if_neg (by decide), bE_inl]
          refine WP_some.2 (WP_some.2 ⟨⟨n + 1, by show (n : Int) + 1 = _; omega, by omega, (b3.tr x1).tr y1, .inr ⟨rfl, ?_, (y1.2.2.1 _ _).trans ((x1.2.2.1 _ _).trans gr)⟩⟩, by show ((kN C : Int) - ((n : Int) + 1) + 0).toNat < ((kN C : Int) - (n : Int) + 1).toNat; omega⟩)
          rw [al, ev, List.length_append, List.length_append]; omega
      · rw [x2, if_neg (by decide), bX_some]
        refine WP_some.2 ⟨⟨n + 1, by show (n : Int) + 1 = _; omega, by omega, b3.tr x1, .inr ⟨rfl, ?_, (x1.2.2.1 _ _).trans gr⟩⟩, by show ((kN C : Int) - ((n : Int) + 1) + 0).toNat < ((kN C : Int) - (n : Int) + 1).toNat; omega⟩
        rw [al, ev, List.length_append, List.length_append, List.length_append]; omega
    · have e : n = kN C := by omega
      rw [if_neg (by omega), bX_some, if_neg (by decide)]
      rw [e] at b4
      exact WP_some.2 ⟨b3, .inl ⟨rfl, b4⟩⟩
  · have fin : (if (n : Int) < (kN C : Int) then (if ¬ w32 0 = 0 then some true else some false) else some false) = some false := by
      split
      · rfl
      · rfl
    rw [fin, bX_some, if_neg (by decide)]
    exact WP_some.2 ⟨b3, .inr ⟨rfl, b4⟩⟩
theorem k_draw (hk : k < 4) (hL : L = 344 + 22 * k) (r : RepK S L C) (w : WFC C) (wp : WFP C) (ww : WFW C) (h19 : C 19 0 = 1) (rP : RepP S L C) (rW : RepW S L C) :
    WP (mX16_draw S L) (fun z => z.1 = (if (dAll C).length ≤ 2000 then ((dAll C).length : Int) else -1) ∧ gI z.2 L 20 = z.1 ∧ ((dAll C).length ≤ 2000 → DrB z.2 (L + 15) 0 (dAll C)) ∧ (∀ a i, a ≠ L + 15 → ¬ (a = 240 ∧ i = 2) → ¬ (a = L ∧ i = 20) → gI z.2 a i = gI S a i) ∧ (∀ a i, gL z.2 a i = gL S a i) ∧ nC z.2 = nC S ∧ nS z.2 = nS S) := by
  have hh := kH_le w wp
  have p1 := wp.1
  have W := rW.2 h19
  unfold mX16_draw
  rw [wfR_eq, wf_eq]
  obtain ⟨S1, hS⟩ : ∃ S1, sI (sR S 240 1 L) 240 2 0 = S1 := ⟨_, rfl⟩
  have f1 : ∀ a i, ¬ (a = 240 ∧ i = 2) → gI S1 a i = gI S a i := fun a i q => by rw [← hS, hI_sI, if_neg q]; rfl
  have r1 : RepK S1 L C := r.cg (fun a i l1 l2 => f1 a i (by omega))
  have d1 : KDr S1 L C [] := by
    refine ⟨by rw [← hS, gR_sI, gR_sR, if_pos ⟨rfl, rfl⟩], ?_, ?_, fun p hp => ?_, by rw [← hS, gI_set]; rfl, by show 0 ≤ 2000; omega, fun i t h => (nomatch h)⟩
    · rw [f1 _ _ (by omega), rP.1.1]; show _ = ((kS C + 2 : Nat) : Int); unfold kS; omega
    · rw [f1 _ _ (by omega), rP.1.2.2]; show _ = ((kH C).toNat : Int); omega
    · rw [f1 _ _ (by omega), f1 _ _ (by omega)]; exact W.1 p hp
  rw [hS]
  refine WP_call (k_dr14 hk hL r1 w wp ww h19 d1) (fun x hx => ?_)
  obtain ⟨x1, x2⟩ := hx
  have gx : gR x.2 240 1 = L := (x1.2.2.1 _ _).trans d1.1
  have fr : ∀ v, ∀ a i, a ≠ L + 15 → ¬ (a = 240 ∧ i = 2) → ¬ (a = L ∧ i = 20) → gI (sI x.2 L 20 v) a i = gI S a i := fun v a i q1 q2 q3 => by
    rw [hI_sI, if_neg q3, x1.1 a i q1 q2, f1 a i q2]
  have gl : ∀ v, ∀ a i, gL (sI x.2 L 20 v) a i = gL S a i := fun v a i => by
    show gL x.2 a i = _; rw [x1.2.1, ← hS]; rfl
  have n1 : ∀ v, nC (sI x.2 L 20 v) = nC S := fun v => by show nC x.2 = _; rw [x1.2.2.2.1, ← hS]; rfl
  have n2 : ∀ v, nS (sI x.2 L 20 v) = nS S := fun v => by show nS x.2 = _; rw [x1.2.2.2.2, ← hS]; rfl
  rw [gx, hL]
  simp only [gk_chip hk, wf_eq, gR_sI]
  rw [gx, hL]
  simp only [gk_chip hk]
  rw [← hL]
  rcases x2 with ⟨y1, y2⟩ | ⟨y1, y2⟩
  · have len := y2.2.2.2.2.2.1
    rw [y1, if_pos (by decide), y2.2.2.2.2.1, if_pos len, gI_set, w32_id (by omega)]
    refine WP_some.2 ⟨rfl, by dsimp only; rw [gI_set, w32_id (by omega)], fun _ => ?_, fr _, gl _, n1 _, n2 _⟩
    intro i t ht
    have := y2.2.2.2.2.2.2 i t ht
    dsimp only
    rw [hI_sI_a (by omega), hI_sI_a (by omega), hI_sI_a (by omega), hI_sI_a (by omega), hI_sI_a (by omega)]; exact this
  · rw [y1, if_neg (by decide), if_neg (by omega), gI_set]
    exact WP_some.2 ⟨rfl, by dsimp only; rw [gI_set], fun g => absurd g (by omega), fr _, gl _, n1 _, n2 _⟩
end KDRAW2
