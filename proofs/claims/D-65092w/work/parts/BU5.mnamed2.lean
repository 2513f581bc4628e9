/-! the reference tells designs: names -/
def vlD (u : Nat → Int) (n : Nat) (x : Nam) (i j : Nat) (d : Bool) (c : Nat) : RsD := if x.2.1 = 4 then .inr (11, (tkB u n j : Int)) else if d = true then oB (nuT u n 0 (x.2.2.1 - 1) c) (fun e => .inl (e, [(1, (i : Int), 0), (3, tkV u n c, 0)], 1)) else .inl (c, [(1, (i : Int), 0)], x.2.2.1)
def kV (j : Int) (i : Int) (x4 : Int) (z : Sto) : Option Sto := rdI 640 z 2011 ((40 * (gI z 2000 28)) + i) fun v14 => bX (mX23_isValue v14) fun x15 => if w32 x15 = 0 then bX (mX23_flawBefore z 11 j) fun x16 => some x16 else rdI 640 z 2012 ((40 * (gI z 2000 28)) + i) fun v17 => bX (mX23_copyValue z v17 0 (8 * ((40 * (gI z 2000 29)) + i))) fun x18 => bX (if ¬ w32 x4 = 0 then rdI 640 x18 2012 ((40 * (gI z 2000 28)) + i) fun v19 => bX (mX23_bit x18 v19) fun x20 => some x20 else some x18) fun y21 => some y21
theorem named_eq {S : Sto} : mX23_named S = bX (mX23_nameOf S (gI S 2000 28) (gI S 2000 9)) fun x1 => if w32 x1 = (-1) then bX (mX23_flaw S 11 (gI S 2000 9)) fun x2 => some x2 else bX (mX23_go S) fun x3 => bX (mX23_isAt x3 46) fun x4 => bE (if ¬ w32 x4 = 0 then bX (mX23_go x3) fun x5 => rdI 65537 x5 2002 (gI x5 2000 9) fun v6 => bX (if ¬ w32 v6 = 2 then rdI 65537 x5 2002 (gI x5 2000 9) fun v7 => if ¬ w32 v7 = 1 then some true else some false else some false) fun b => if b = true then bX (mX23_flaw x5 2 (gI x5 2000 9)) fun x8 => some (Sum.inr x8) else some (Sum.inl x5) else some (Sum.inl x3)) fun y9 => bX (if ¬ w32 x4 = 0 then rdI 65537 y9 2002 (gI y9 2000 9) fun v10 => if w32 v10 = 1 then some true else some false else some false) fun b => if b = true then rdI 640 y9 2011 ((40 * (gI y9 2000 28)) + x1) fun v11 => if ¬ w32 v11 = 5 then bX (mX23_flawBefore y9 11 (gI S 2000 9)) fun x12 => some x12 else bX (mX23_ofInstance y9 x1) fun x13 => some x13 else kV (gI S 2000 9) x1 x4 y9 := rfl
theorem m_isVal {s : Int} (h : 0 ≤ s ∧ s ≤ 4) : mX23_isValue (s + 1) = some (b2i (decide (s ≠ 4))) := by
  have : s = 0 ∨ s = 1 ∨ s = 2 ∨ s = 3 ∨ s = 4 := by omega
  rcases this with e | e | e | e | e <;> subst e <;> rfl
section MNN
variable {S z y : Sto} {u : Nat → Int} {n N h M sl : Nat} {q : Qq} {ms : List Mdl} {cur : Mdl} {j b i : Nat} {f : Int × Int} {md w : Int} {d : Bool}
theorem RCx.g9 (h' : RCx u n N ms cur M S) (g : ChW PG9 S z) : RCx u n N ms cur M z := h'.ch g (fun a i q => by unfold PG9 at q; omega)
/-- the value of a name -/
theorem m_kV (t : MTk u n N z) (hz : MsQ u n N z q) (hc : RCx u n N ms cur M z) (hi : i < cur.length) (hj : j ≤ N) (h27 : gI z 2000 27 = md) (hmd : md = 0 ∨ md = 1) (h34 : gI z 2000 34 = (h : Int)) (hh : h ≤ 1000) (h29 : md = 1 → gI z 2000 29 = (sl : Int) ∧ sl ≤ 15) :
    WP (kV (j : Int) (i : Int) (b2i d) z) (fun y => ChW (PPl h) z y ∧ mNa u n N h md z sl (oB q (vlD u n (cur.getD i nm0) i j d)) y) := by
  obtain ⟨⟨c1, c2, c3⟩, c4, ⟨c5, c6⟩, c7, c8⟩ := hc
  have hi40 : i < 40 := by have := c5.1; omega
  obtain ⟨o1, o2, o3⟩ := c5.2 i hi
  obtain ⟨r1, r2, r3, r4⟩ := c1.2 i hi
  unfold kV
  rw [c3, show 40 * (M : Int) + (i : Int) = ((40 * M + i : Nat) : Int) by omega, rdI_e (by omega), Int.toNat_natCast, r2, m_isVal o1, bX_some, bIf2]
  by_cases s4 : (cur.getD i nm0).2.1 = 4
  · rw [decide_eq_false (fun q => q s4), if_neg (by decide)]
    refine WP_call (m_flawBefore t hz hj (c := 11) (by omega)) (fun y hy => WP_some.2 ⟨ChW.refl.tr hy.2 (fun a i q => PG9_pl a i (PF10_G9 a i q)), ?_⟩)
    have hy1 := hy.1
    cases q with
    | inr f => exact hy1
    | inl c =>
      rw [oB_l]
      unfold vlD
      rw [if_pos s4]
      exact hy1
  · have hw := o2 s4
    rw [decide_eq_true s4, if_pos rfl, rdI_e (by omega), Int.toNat_natCast, r3]
    refine WP_call (m_copy h27 hmd h34 hh (w := (cur.getD i nm0).2.2.1) (w32_id (by omega)) (p2 := 0) (Or.inl rfl) (kk := 320 * sl + 8 * i) (fun q => ?_)) (fun x hx => ?_)
    · obtain ⟨g1, g2⟩ := h29 q
      rw [g1]
      exact ⟨by omega, Or.inl ⟨rfl, by omega⟩⟩
    · obtain ⟨b1, b2, b3⟩ := hx
      have tx := t.ch b1 (fun a i l1 l2 q => by unfold PCp at q; omega)
      have mx : MsQ u n N x q := hz.ch b1 (fun i l1 l2 q => by unfold PCp at q; omega)
      have cx : ChW (PPl h) z x := ChW.refl.tr b1 PCp_pl
      have x34 : gI x 2000 34 = (h : Int) := (b1.1 _ _ (fun q => by unfold PCp at q; omega)).trans h34
      have x22 : md = 1 → ∀ k, k < 8 → gI x 2022 (8 * h + k) = roB z sl (1, (i : Int), 0) k := fun q k hk => by
        rw [b3 q k hk, if_pos rfl]
        show _ = gI z 2027 (320 * sl + 8 * (i : Int).toNat + k)
        rw [Int.toNat_natCast]
      rw [bIf]
      cases d with
      | false =>
        rw [if_neg (by decide), bX_some]
        refine WP_some.2 ⟨cx, ?_⟩
        cases q with
        | inr f => exact mx
        | inl c =>
          rw [oB_l]
          unfold vlD
          rw [if_neg s4, if_neg (by decide)]
          exact ⟨mx, b2, hw, fun q k hk => x22 q k (by have : (k : Int) < (cur.getD i nm0).2.2.1 := hk; omega)⟩
      | true =>
        have x12 : gI x 2012 (40 * M + i) = (cur.getD i nm0).2.2.1 := (b1.1 _ _ (fun q => by unfold PCp at q; omega)).trans r3
        rw [if_pos rfl, rdI_e (by omega), Int.toNat_natCast, x12]
        cases q with
        | inr f =>
          refine WP_bX.2 (WP_call (m_bitR tx mx) (fun y hy => WP_some.2 (WP_some.2 ⟨cx.tr hy.1 PG9_pl, hy.2⟩)))
        | inl c =>
          rw [oB_l]
          unfold vlD
          rw [if_neg s4, if_pos rfl]
          refine WP_bX.2 (WP_call (m_bit1 tx mx x34 hh hw) (fun y hy => WP_some.2 (WP_some.2 ⟨cx.tr hy.1 (fun _ _ z => z), ?_⟩)))
          have y2 := hy.2
          cases hC : nuT u n 0 ((cur.getD i nm0).2.2.1 - 1) c with
          | inr f => rw [hC] at y2; exact y2
          | inl e =>
            rw [hC] at y2
            obtain ⟨y3, y4, y5⟩ := y2
            obtain ⟨n1, n2, n3, n4, n5⟩ := nuT_ok hC
            refine ⟨y3, y4, ⟨by show (1 : Int) ≤ 1; omega, by show (1 : Int) ≤ 8; omega⟩, fun q k hk => ?_⟩
            have hk : (k : Int) < 1 := hk
            have : k = 0 := by omega
            subst this
            show gI y 2022 (8 * h + 0) = roB z sl (1, (i : Int), 0) (tkV u n c).toNat
            rw [Nat.add_zero, y5]
            exact x22 q _ (by omega)
/-- a name's value -/
theorem m_named (t : MTk u n N S) (hq : MsQ u n N S (.inl j)) (k1 : tkK u n j = 1) (hc : RCx u n N ms cur M S) (h27 : gI S 2000 27 = md) (hmd : md = 0 ∨ md = 1) (h34 : gI S 2000 34 = (h : Int)) (hh : h ≤ 1000) (h29 : md = 1 → gI S 2000 29 = (sl : Int) ∧ sl ≤ 15) :
    WP (mX23_named S) (fun y => ChW (PPl h) S y ∧ mNa u n N h md S sl (namD u n ms cur j) y) := by
  have h9 : gI S 2000 9 = (j : Int) := hq.2.1
  have hj : j ≤ N := hq.2.2.1
  have hlt : j < N := lt1 t.l k1 hj
  rw [named_eq, h9, hc.1.2.2]
  refine WP_call (m_nameOf t hc.1.1 hc.1.2.1 hc.2.2.1.1.1 hc.2.2.1.2 hj k1) (fun x1 hx => ?_)
  subst hx
  unfold namD
  by_cases g : inNm u n (mTk cur) j = true
  · rw [if_pos g, if_pos g]
    obtain ⟨i, hk⟩ : ∃ i, i = fiN u n (mTk cur) j := ⟨_, rfl⟩
    have hi : i < cur.length := by have := (fiN_ok g).1; rw [mTk_len] at this; omega
    have hi40 : i < 40 := by have := hc.2.2.1.1.1; omega
    rw [← hk, w32_id (by omega), if_neg (show ¬ (i : Int) = -1 by omega)]
    refine WP_call (m_go_9 t hq hlt) (fun x3 hx => ?_)
    obtain ⟨a1, a2, a3⟩ := hx
    have fr : ∀ {v : Sto}, ChW PG9 S v → MTk u n N v ∧ RCx u n N ms cur M v ∧ gI v 2000 27 = md ∧ gI v 2000 34 = (h : Int) ∧ (md = 1 → gI v 2000 29 = (sl : Int) ∧ sl ≤ 15) ∧ (∀ a i, a ≠ 2000 → gI v a i = gI S a i) := fun {v} cv =>
      ⟨t.g9 cv, hc.g9 cv, (cv.1 _ _ (fun q => by unfold PG9 at q; omega)).trans h27, (cv.1 _ _ (fun q => by unfold PG9 at q; omega)).trans h34, fun q => ⟨(cv.1 _ _ (fun q => by unfold PG9 at q; omega)).trans (h29 q).1, (h29 q).2⟩, fun a i q => cv.1 _ _ (fun r => by unfold PG9 at r; omega)⟩
    obtain ⟨t3, c3, e27, e34, e29, eo⟩ := fr a2
    rw [m_isAt t3 (show j + 1 ≤ N from hlt) a3 (by omega), bX_some, bIf]
    by_cases gd : isS u n 46 (j + 1) = true
    · have k3 := isS_K gd
      have hA : nxT u n j = .inl (j + 1) := by unfold nxT; rw [if_neg (by omega)]
      rw [hA] at a1
      rw [hA, oB_l, if_pos gd, if_pos gd]
      have hlt2 : j + 1 < N := lt3 t.l k3 hlt
      refine WP_bE.2 (WP_call (m_go_9 t3 a1 hlt2) (fun x5 hx => ?_))
      obtain ⟨d1, d2, d3⟩ := hx
      have c5 : ChW PG9 S x5 := a2.tr d2 (fun _ _ z => z)
      obtain ⟨t5, r5, e27, e34, e29, eo⟩ := fr c5
      rw [d3, t5.k (show j + 1 + 1 ≤ N from hlt2), t5.k (show j + 1 + 1 ≤ N from hlt2), tkK_id]
      unfold dotD
      have wh : ∀ {A : Option Bool} {B : Bool → Option (Sto ⊕ Sto)} {P : Sto ⊕ Sto → Prop} {c : Bool}, A = some c → WP (B c) P → WP (bX A B) P := fun {A B P c} e1 e2 => by rw [e1, bX_some]; exact e2
      by_cases k2 : tkK u n (j + 1 + 1) = 2
      · have hB : nxT u n (j + 1) = .inl (j + 1 + 1) := by unfold nxT; rw [if_neg (by omega)]
        rw [hB] at d1
        rw [hB, oB_l]
        refine wh (c := false) (by rw [if_neg (fun q => q k2)]) ?_
        rw [if_neg (by decide)]
        refine WP_some.2 ?_
        show WP (bX (if ¬ w32 (b2i (isS u n 46 (j + 1))) = 0 then _ else _) _) _
        rw [bIf, if_pos gd, d3, t5.k (show j + 1 + 1 ≤ N from hlt2), tkK_id, if_neg (show ¬ tkK u n (j + 1 + 1) = 1 by omega), bX_some, if_neg (by decide)]
        refine (m_kV t5 d1 r5 hi hj e27 hmd e34 hh e29).mono (fun y hy => ⟨(ChW.refl.tr c5 PG9_pl).tr hy.1 (fun _ _ z => z), ?_⟩)
        have y2 := mNa_cg (S := S) hy.2 (fun i => eo _ _ (by decide)) (fun i => eo _ _ (by decide))
        rw [oB_l] at y2
        unfold vlD at y2
        by_cases s4 : (cur.getD i nm0).2.1 = 4
        · rw [if_pos s4] at y2
          rw [if_pos (Or.inr ⟨k2, s4⟩)]
          exact y2
        · rw [if_neg s4, if_pos gd] at y2
          rw [if_neg (fun q => by rcases q with q | q; exact absurd q.1 (by omega); exact s4 q.2), if_neg (show ¬ tkK u n (j + 1 + 1) = 1 by omega)]
          exact y2
      · by_cases k1' : tkK u n (j + 1 + 1) = 1
        · have hB : nxT u n (j + 1) = .inl (j + 1 + 1) := by unfold nxT; rw [if_neg (by omega)]
          rw [hB] at d1
          rw [hB, oB_l]
          refine wh (c := false) (by rw [if_pos k2, if_neg (fun q => q k1')]) ?_
          rw [if_neg (by decide)]
          refine WP_some.2 ?_
          show WP (bX (if ¬ w32 (b2i (isS u n 46 (j + 1))) = 0 then _ else _) _) _
          obtain ⟨rr1, rr2, rr3, rr4⟩ := r5.1.1.2 i hi
          have hM := hc.1.2.1
          have ox := (hc.2.2.1.1.2 i hi).1
          rw [bIf, if_pos gd, d3, t5.k (show j + 1 + 1 ≤ N from hlt2), tkK_id, if_pos k1', bX_some, if_pos rfl, r5.1.2.2, show 40 * (M : Int) + (i : Int) = ((40 * M + i : Nat) : Int) by omega, rdI_e (by omega), Int.toNat_natCast, rr2, w32_id (by omega)]
          by_cases s4 : (cur.getD i nm0).2.1 = 4
          · rw [if_neg (show ¬ ¬ (cur.getD i nm0).2.1 + 1 = 5 by omega), if_neg (fun q => by rcases q with q | q; exact q.2 s4; exact k2 q.1), if_pos k1']
            refine WP_call (m_of t5 d1 k1' r5 hi s4 e27 hmd e34 hh e29) (fun y hy => WP_some.2 ⟨(ChW.refl.tr c5 PG9_pl).tr hy.1 (fun _ _ z => z), ?_⟩)
            exact mNa_cg (S := S) hy.2 (fun i => eo _ _ (by decide)) (fun i => eo _ _ (by decide))
          · rw [if_pos (show ¬ (cur.getD i nm0).2.1 + 1 = 5 by omega), if_pos (Or.inl ⟨k1', s4⟩)]
            refine WP_call (m_flawBefore t5 d1 hj (c := 11) (by omega)) (fun y hy => WP_some.2 ⟨(ChW.refl.tr c5 PG9_pl).tr hy.2 (fun a i q => PG9_pl a i (PF10_G9 a i q)), hy.1⟩)
        · refine wh (c := true) (by rw [if_pos k2, if_pos k1']) ?_
          rw [if_pos rfl]
          have hf := m_flaw t5 d1 (c := 2) (by omega)
          rw [d3] at hf
          refine WP_call hf (fun y hy => WP_some.2 ?_)
          show ChW (PPl h) S y ∧ _
          refine ⟨ChW.refl.tr (c5.tr hy.2 PF10_G9) PG9_pl, ?_⟩
          have y2 := hy.1
          cases hB : nxT u n (j + 1) with
          | inr e => rw [hB] at y2; exact y2
          | inl b =>
            obtain ⟨rfl, _⟩ := nxT_ok hB
            rw [hB] at y2
            rw [oB_l, if_neg (fun q => by rcases q with q | q; exact k1' q.1; exact k2 q.1), if_neg k1']
            have en : nuT u n 0 ((cur.getD i nm0).2.2.1 - 1) (j + 1 + 1) = .inr (2, (tkB u n (j + 1 + 1) : Int)) := by unfold nuT; rw [if_neg k2]; rfl
            rw [en]
            exact y2
    · rw [if_neg gd]
      refine WP_bE.2 (WP_some.2 ?_)
      show WP (bX (if ¬ w32 (b2i (isS u n 46 (j + 1))) = 0 then _ else _) _) _
      rw [bIf, if_neg gd, bX_some, if_neg (by decide)]
      refine (m_kV t3 a1 c3 hi hj e27 hmd e34 hh e29).mono (fun y hy => ⟨(ChW.refl.tr a2 PG9_pl).tr hy.1 (fun _ _ z => z), ?_⟩)
      have y2 := mNa_cg (S := S) hy.2 (fun i => eo _ _ (by decide)) (fun i => eo _ _ (by decide))
      cases hA : nxT u n j with
      | inr f => rw [hA] at y2; exact y2
      | inl a =>
        obtain ⟨rfl, _⟩ := nxT_ok hA
        rw [hA, oB_l] at y2
        rw [oB_l, if_neg gd]
        unfold vlD at y2
        rw [if_neg gd] at y2
        exact y2
  · rw [if_neg g, if_neg g, if_pos (by decide)]
    have hf := m_flaw t hq (c := 11) (by omega)
    rw [h9] at hf
    exact WP_call hf (fun y hy => WP_some.2 ⟨ChW.refl.tr hy.2 (fun a i q => PG9_pl a i (PF10_G9 a i q)), hy.1⟩)
end MNN
