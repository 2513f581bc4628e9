/-! the class reads operands of a design -/
def OpR (u : Nat → Int) (n : Nat) (k : List Row3) (r : RsD) (y : Int × Sto) : Prop := match r with
  | .inl t => ScQ u n y.2 4 (.inl t.1) ∧ y.1 = t.2.2 ∧ RwK y.2 170 (flat3 (k ++ t.2.1))
  | .inr f => ScQ u n y.2 4 (.inr f) ∧ ∃ e : List Row3, e.length ≤ 2 ∧ RwK y.2 170 (flat3 (k ++ e))
def OpP (u : Nat → Int) (n : Nat) (k : List Row3) (S : Sto) (r : RsD) (y : Int × Sto) : Prop := OpR u n k r y ∧ ChXd S y.2 ∧ gI y.2 4 10 = gI S 4 10
section KDO
variable {S S0 z y : Sto} {u : Nat → Int} {n N : Nat} {ms : List Mdl} {cur m : Mdl} {q : Qq} {j o : Nat} {k : List Row3}
theorem gk_M {τ : Type} {i : Nat} (hi : i ≤ 15) {f : Nat → Option τ} : gk (9 + 10 * i) 7 f = f (9 + 10 * i) := by
  have : ∀ i : Fin 16, kK (9 + 10 * i.val) = 7 := by decide
  exact if_pos (this ⟨i, by omega⟩)
theorem sz_M {i : Nat} (hi : i ≤ 15) : aN (kK (9 + 10 * i + 1 + 1)) = 12 * 40 ∧ aN (kK (9 + 10 * i + 1 + 2)) = 40 := by
  have : ∀ i : Fin 16, aN (kK (9 + 10 * i.val + 1 + 1)) = 12 * 40 ∧ aN (kK (9 + 10 * i.val + 1 + 2)) = 40 := by decide
  exact this ⟨i, by omega⟩
theorem opn {P : Nat → Nat → Prop} (g : ChW P S z) (e : ∀ a i, P a i → i ≠ 10) : gI z 4 10 = gI S 4 10 := g.1 _ _ (fun w => e _ _ w rfl)
theorem opnP (g : ChW (PSc 4) S z) : gI z 4 10 = gI S 4 10 := opn g (fun a i q => by unfold PSc at q; omega)
theorem opnF (g : ChW (PF89 4) S z) : gI z 4 10 = gI S 4 10 := opn g (fun a i q => by unfold PF89 at q; omega)
theorem row1 (p : Row3) : (k ++ [p]).length = k.length + 1 := by rw [List.length_append]; rfl
theorem shr_z {v w : Int} (hv : 0 ≤ v ∧ v < 1000000) (hw : 1 ≤ w ∧ w ≤ 8) : (w32 (aShr v w) = 0) ↔ ¬ (2 : Int) ^ w.toNat ≤ v := by
  obtain ⟨a, rfl⟩ := Int.eq_ofNat_of_zero_le hv.1
  obtain ⟨b, rfl⟩ := Int.eq_ofNat_of_zero_le (show 0 ≤ w by omega)
  have hb : 1 ≤ b ∧ b ≤ 8 := by omega
  have e : aShr (a : Int) (b : Int) = ((a / 2 ^ b : Nat) : Int) := aShr_nat (by omega) (by omega)
  have hd : a / 2 ^ b ≤ a := Nat.div_le_self _ _
  have hd2 : ((a / 2 ^ b : Nat) : Int) ≤ (a : Int) := by omega
  rw [e, w32_id ⟨Int.le_trans (by decide) (Int.natCast_nonneg _), by omega⟩, Int.toNat_natCast]
  have hp : 0 < 2 ^ b := Nat.two_pow_pos b
  have hc : ((2 : Int) ^ b) = ((2 ^ b : Nat) : Int) := by push_cast; rfl
  rw [hc]
  constructor
  · intro h q
    have h : a / 2 ^ b = 0 := by omega
    rcases Nat.div_eq_zero_iff.1 h with h | h
    · omega
    · omega
  · intro h
    have : a < 2 ^ b := by omega
    rw [Nat.div_eq_of_lt this]; rfl
def kCon (v p : Int) (x3 : Int × Sto) : Option (Int × Sto) := bX (mX3_ok x3.2 4) fun x4 => bX (bX (if ¬ w32 x4 = 0 then if ¬ w32 (aShr v x3.1) = 0 then some true else some false else some false) fun b => if b = true then bX (mX3_fail x3.2 4 12 p) fun x5 => some x5 else some x3.2) fun y6 => bX (mX5_put y6 0 v x3.1) fun x7 => some (x3.1, x7)
theorem constant_eq : mX2_constant S = bX (mX3_next S 4) fun x1 => bX (mX3_take x1 4 64) fun x2 => bX (mX2_number x2 1 8) fun x3 => kCon (gI S 4 6) (gI S 4 4) x3 := rfl
/-- a row is put, and the scanner stands where it stood -/
theorem k_putE (c : CtD u n N ms cur S0 S) (cy : ChXd S y) (hk : RwK y 170 (flat3 k)) (hl : k.length ≤ 2700) {p a b : Int} (hr : w3ok (p, a, b)) (hq : ScQ u n y 4 q) (ho : gI y 4 10 = gI S 4 10) : WP (mX5_put y p a b) (fun z => RwK z 170 (flat3 (k ++ [(p, a, b)])) ∧ ChXd S z ∧ ScQ u n z 4 q ∧ gI z 4 10 = gI S 4 10) := by
  refine (k_putD (c.ch cy) hk hl hr).mono (fun z hz => ⟨hz.1, cy.tr (ChXd.g hz.2), hz.2.sc hq, (hz.2.1 _ _ (by omega) (by omega)).trans ho⟩)
theorem k_constant (c : CtD u n N ms cur S0 S) (h : ScQ u n S 4 (.inl j)) (k2 : tkK u n j = 2) (hk : RwK S 170 (flat3 k)) (hl : k.length ≤ 2600) : WP (mX2_constant S) (OpP u n k S (conD u n j)) := by
  have hn := c.t.b
  have hv := (tK_2 (show tK u n (tkB u n j) = 2 from k2)).2
  have hv : 0 ≤ tkV u n j ∧ tkV u n j < 1000000 := hv
  have s6 : gI S 4 6 = tkV u n j := (h.2.2.2.2.2.2.2.2.1 k2).2
  have s4 : gI S 4 4 = (tkB u n j : Int) := h.2.2.1
  have hB := tkB_le (u := u) (n := n) j
  rw [constant_eq, s6, s4]
  refine WP_call (k_next3 c.t h) (fun x1 hx => ?_)
  obtain ⟨a1, a2⟩ := hx
  refine WP_call (k_take3 (c.t.chS a2) a1 (c := 64) (by decide)) (fun x2 hx => ?_)
  obtain ⟨b1, b2⟩ := hx
  refine WP_call (k_numD ((c.t.chS a2).chS b2) b1 (lo := 1) (hi := 8) (by omega)) (fun x3 hx => ?_)
  obtain ⟨d1, d2, d3, d4⟩ := hx
  have cx : ChXd S x3.2 := ((ChXd.refl.p a2).p b2).p d2
  have rx : RwK x3.2 170 (flat3 k) := ((hk.p a2).p b2).p d2
  have ox : gI x3.2 4 10 = gI S 4 10 := (opnP d2).trans ((opnP b2).trans (opnP a2))
  have w3 : w3ok (0, tkV u n j, x3.1) := w3k (by omega) (by omega) d3
  have fin : ∀ {y : Sto} {f : Int × Int}, ChXd S y → RwK y 170 (flat3 k) → gI y 4 10 = gI S 4 10 → ScQ u n y 4 (.inr f) → conD u n j = .inr f → WP (bX (mX5_put y 0 (tkV u n j) x3.1) fun x7 => some (x3.1, x7)) (OpP u n k S (conD u n j)) := fun {y f} y1 y2 y3 y4 y5 => by
    refine WP_call (k_putE c y1 y2 (by omega) w3 y4 y3) (fun z hz => WP_some.2 ⟨?_, hz.2.1, hz.2.2.2⟩)
    rw [y5]
    exact ⟨hz.2.2.1, [(0, tkV u n j, x3.1)], by show 1 ≤ 2; omega, hz.1⟩
  have flt : ∀ f, ScQ u n x3.2 4 (.inr f) → conD u n j = .inr f → WP (kCon (tkV u n j) (tkB u n j : Int) x3) (OpP u n k S (conD u n j)) := fun f e1 e2 => by
    unfold kCon
    rw [k_ok e1, bX_some, bIf, if_neg (fun z => by cases z), bX_some, if_neg (fun z => by cases z), bX_some]
    exact fin cx rx ox e1 e2
  cases hA : nxT u n j with
  | inr f =>
    refine flt f ?_ (by unfold conD; rw [hA]; rfl)
    have e : bq (.inl j) (nxT u n) = .inr f := hA
    rw [e] at d1; exact d1
  | inl a =>
    have eA : bq (.inl j) (nxT u n) = .inl a := hA
    rw [eA] at d1 d4
    cases hB : tkT u n 64 (.inl a) with
    | inr f =>
      rw [hB] at d1
      exact flt f d1 (by unfold conD; rw [hA, oB_l, hB]; rfl)
    | inl b =>
      rw [hB] at d1 d4
      cases hC : nuT u n 1 8 b with
      | inr f =>
        have e : bq (.inl b) (nuT u n 1 8) = .inr f := hC
        rw [e] at d1
        exact flt f d1 (by unfold conD; rw [hA, oB_l, hB, oB_l, hC]; rfl)
      | inl cc =>
        have e : bq (.inl b) (nuT u n 1 8) = .inl cc := hC
        rw [e] at d1
        have e1 := d4 b cc rfl hC
        obtain ⟨n1, n2, n3, n4, n5⟩ := nuT_ok hC
        have hz := shr_z hv (show 1 ≤ tkV u n b ∧ tkV u n b ≤ 8 from ⟨n4, n5⟩)
        unfold kCon
        rw [k_ok d1, bX_some, bIf, show okQ (.inl cc) = true from rfl, if_pos rfl, e1]
        by_cases g : (2 : Int) ^ (tkV u n b).toNat ≤ tkV u n j
        · have ec : conD u n j = .inr (12, (tkB u n j : Int)) := by
            unfold conD
            rw [hA, oB_l, hB, oB_l, hC, oB_l, if_pos g]
          rw [if_pos (fun q => hz.1 q g), bX_some, if_pos rfl]
          refine WP_bX.2 (WP_call (k_failP d1 (c := 12) (by omega) (p := (tkB u n j : Int)) (by omega)) (fun y hy => WP_some.2 ?_))
          have := fin (cx.f hy.2) (rx.f hy.2) ((opnF hy.2).trans ox) hy.1 ec
          rw [e1] at this
          exact this
        · have ec : conD u n j = .inl (cc, [(0, tkV u n j, tkV u n b)], tkV u n b) := by
            unfold conD
            rw [hA, oB_l, hB, oB_l, hC, oB_l, if_neg g]
          rw [if_neg (fun q => q (hz.2 g)), bX_some, if_neg (by decide), bX_some]
          rw [e1] at w3
          refine WP_call (k_putE c cx rx (by omega) w3 d1 ox) (fun z hz => WP_some.2 ⟨?_, hz.2.1, hz.2.2.2⟩)
          rw [ec]
          exact ⟨hz.2.2.1, rfl, hz.1⟩
/-- a bit of a value, or all of it -/
theorem k_bitD (c : CtD u n N ms cur S0 S) (h : ScQ u n S 4 q) {w : Int} (hw : 1 ≤ w ∧ w ≤ 8) (hk : RwK S 170 (flat3 k)) (hl : k.length ≤ 2650) : WP (mX2_bit S w) (fun y => (match oB q (biD u n w) with | .inl t => ScQ u n y.2 4 (.inl t.1) ∧ y.1 = t.2.2 ∧ RwK y.2 170 (flat3 (k ++ t.2.1)) | .inr f => ScQ u n y.2 4 (.inr f) ∧ ∃ e : List Row3, e.length ≤ 1 ∧ RwK y.2 170 (flat3 (k ++ e))) ∧ ChXd S y.2 ∧ gI y.2 4 10 = gI S 4 10) := by
  have hu := c.t.u
  unfold mX2_bit
  rw [k_is h hu (by decide), bX_some, bIf2]
  cases q with
  | inr f =>
    show WP (if false = true then _ else _) _
    rw [if_neg (by decide)]
    exact WP_some.2 ⟨⟨h, [], by show 0 ≤ 1; omega, by rw [List.append_nil]; exact hk⟩, ChXd.refl, rfl⟩
  | inl a =>
    show WP (if isS u n 46 a = true then _ else _) _
    rw [oB_l]
    by_cases g : isS u n 46 a = true
    · rw [if_pos g]
      refine WP_call (k_next3 c.t h) (fun x1 hx => ?_)
      obtain ⟨a1, a2⟩ := hx
      refine WP_call (k_numD (c.t.chS a2) a1 (lo := 0) (hi := w - 1) (by omega)) (fun x3 hx => ?_)
      obtain ⟨d1, d2, d3, d4⟩ := hx
      have cx : ChXd S x3.2 := (ChXd.refl.p a2).p d2
      have rx : RwK x3.2 170 (flat3 k) := (hk.p a2).p d2
      have ox : gI x3.2 4 10 = gI S 4 10 := (opnP d2).trans (opnP a2)
      have w3 : w3ok (3, x3.1, 0) := w3k (by omega) d3 (by omega)
      refine WP_call (k_putE c cx rx (by omega) w3 d1 ox) (fun z hz => WP_some.2 ⟨?_, hz.2.1, hz.2.2.2⟩)
      have hz1 := hz.2.2.1
      have eb : biD u n w a = oB (nxT u n a) fun b => oB (nuT u n 0 (w - 1) b) fun c => .inl (c, [(3, tkV u n b, 0)], 1) := if_pos g
      rw [eb]
      cases hA : nxT u n a with
      | inr f =>
        have e : bq (.inl a) (nxT u n) = .inr f := hA
        rw [e] at hz1
        rw [oB_r]
        exact ⟨hz1, _, by show 1 ≤ 1; omega, hz.1⟩
      | inl b =>
        have e : bq (.inl a) (nxT u n) = .inl b := hA
        rw [e] at hz1 d4
        rw [oB_l]
        cases hC : nuT u n 0 (w - 1) b with
        | inr f =>
          have e : bq (.inl b) (nuT u n 0 (w - 1)) = .inr f := hC
          rw [e] at hz1
          rw [oB_r]
          exact ⟨hz1, _, by show 1 ≤ 1; omega, hz.1⟩
        | inl cc =>
          have e : bq (.inl b) (nuT u n 0 (w - 1)) = .inl cc := hC
          rw [e] at hz1
          rw [oB_l]
          refine ⟨hz1, rfl, ?_⟩
          rw [← d4 b cc rfl hC]; exact hz.1
    · rw [if_neg g]
      have eb : biD u n w a = .inl (a, [], w) := if_neg g
      rw [eb]
      exact WP_some.2 ⟨⟨h, rfl, by rw [List.append_nil]; exact hk⟩, ChXd.refl, rfl⟩
theorem mTk_len : (mTk m).length = m.length := by unfold mTk; rw [List.length_map]
/-- which name it is -/
theorem k_idx {M : Nat} (t : TpK S 4 u n) (h : ScQ u n S 4 (.inl j)) (k1 : tkK u n j = 1) (hM : MdK u n S M m) (hl : m.length ≤ 40) (e : ∃ i, i ≤ 15 ∧ M = 9 + 10 * i) : WP (mX4_find S (M + 1) 4) (fun r => r = if inNm u n (mTk m) j = true then (fiN u n (mTk m) j : Int) else -1) := by
  obtain ⟨i, hi, rfl⟩ := e
  have sz := sz_M hi
  refine (k_findN t h k1 hM.1 (N := 40) (by rw [mTk_len]; exact hl) (by omega) sz.1 sz.2).mono (fun r hr => ?_)
  rcases hr with ⟨r1, r2⟩ | ⟨x, r1, r2, r3, r4⟩
  · rw [r2, if_neg (by decide)]; exact r1
  · obtain ⟨f1, f2⟩ := fiN_eq hM.2.2 r1 r3
    rw [r4, if_pos rfl, f2]; exact r2
theorem fi_lt (h : inNm u n (mTk m) j = true) : fiN u n (mTk m) j < m.length := by
  have := (fiN_ok h).1
  rw [mTk_len] at this; exact this
theorem k_of {i b : Nat} (c : CtD u n N ms cur S0 S) (h : ScQ u n S 4 (.inl b)) (k1 : tkK u n b = 1) (hi : i < cur.length) (x4 : (cur.getD i nm0).2.1 = 4) (hk : RwK S 170 (flat3 k)) (hl : k.length ≤ 2600) : WP (mX2_of S (i : Int)) (OpP u n k S (ofD u n (ms.getD (cur.getD i nm0).2.2.2.toNat []) i b)) := by
  have hn := c.t.b
  obtain ⟨hr, hm15⟩ := c.r
  obtain ⟨hc, hco⟩ := c.m
  obtain ⟨v1, v2, v3⟩ := hc.2.1 i hi
  obtain ⟨o1, o2, o3⟩ := hco.2 i hi
  have e := o3 x4
  have hcl := hco.1
  generalize (cur.getD i nm0).2.2.2 = ev at v3 e ⊢
  obtain ⟨en, rfl⟩ := Int.eq_ofNat_of_zero_le e.1
  have hen : en < ms.length := by omega
  obtain ⟨hM, hMo⟩ := c.o en hen
  rw [Int.toNat_natCast]
  generalize ms.getD en [] = m at hM hMo ⊢
  unfold mX2_of
  rw [hr, gk_M hm15, rdI_e (by omega), Int.toNat_natCast, v3, rdA_n (by omega) (by omega)]
  refine WP_call (k_idx c.t h k1 hM hMo.1 ⟨en, by omega, rfl⟩) (fun x4 hx4 => ?_)
  subst hx4
  rw [k_ok h, bX_some, bIf, show okQ (.inl b) = true from rfl, if_pos rfl]
  have bad : ofD u n m i b = .inr (11, (tkB u n b : Int)) → WP (bX (bX (mX3_fail S 4 11 (gI S 4 4)) fun x7 => some x7) fun y8 => bX (mX3_ok y8 4) fun x9 => if w32 x9 = 0 then some (1, y8) else bX (mX5_put y8 2 (i : Int) (if inNm u n (mTk m) b = true then (fiN u n (mTk m) b : Int) else -1)) fun x10 => bX (mX3_next x10 4) fun x11 => rdI 40 x11 ((9 + 10 * en) + 5) (if inNm u n (mTk m) b = true then (fiN u n (mTk m) b : Int) else -1) fun v12 => bX (mX2_bit x11 v12) fun x13 => some (x13.1, x13.2)) (OpP u n k S (ofD u n m i b)) := fun eo => by
    refine WP_bX.2 (WP_call (k_fail h (c := 11) (by omega) hn) (fun y hy => WP_some.2 ?_))
    have y1 : ScQ u n y 4 (.inr (11, (tkB u n b : Int))) := hy.1
    rw [k_ok y1, bX_some, bIf2, if_neg (fun z => by cases z)]
    refine WP_some.2 ⟨?_, ChXd.refl.f hy.2, opnF hy.2⟩
    rw [eo]
    exact ⟨y1, [], by show 0 ≤ 2; omega, by rw [List.append_nil]; exact hk.f hy.2⟩
  by_cases gi : inNm u n (mTk m) b = true
  · have hf := fi_lt gi
    obtain ⟨w1, w2, w3⟩ := hM.2.1 _ hf
    obtain ⟨p1, p2, p3⟩ := hMo.2 _ hf
    rw [if_pos gi] at bad ⊢
    rw [w32_id (show -2147483648 ≤ ((fiN u n (mTk m) b : Nat) : Int) ∧ ((fiN u n (mTk m) b : Nat) : Int) < 2147483648 by have := hMo.1; omega), if_pos (show ¬ ((fiN u n (mTk m) b : Nat) : Int) = -1 by omega), rdI_e (by have := hMo.1; omega), Int.toNat_natCast, w1, w32_id (by omega)]
    by_cases g1 : (m.getD (fiN u n (mTk m) b) nm0).2.1 = 1
    · rw [if_neg (fun q => q g1), bX_some, if_neg (by decide), bX_some, k_ok h, bX_some, bIf2, show okQ (.inl b) = true from rfl, if_pos rfl]
      have p2 := p2 (by omega)
      have w3k : w3ok (2, (i : Int), (fiN u n (mTk m) b : Int)) := w3k (by omega) (by omega) (by have := hMo.1; omega)
      refine WP_call (k_putE c ChXd.refl hk (by omega) w3k h rfl) (fun z hz => ?_)
      obtain ⟨z1, z2, z3, z4⟩ := hz
      have cz := c.ch z2
      refine WP_call (k_next3 cz.t z3) (fun x11 hx => ?_)
      obtain ⟨a1, a2⟩ := hx
      have cx : ChXd S x11 := z2.p a2
      have w5 : gI x11 (9 + 10 * en + 5) (fiN u n (mTk m) b) = (m.getD (fiN u n (mTk m) b) nm0).2.2.1 := (cx.1 _ _ (by omega) (by omega) (fun w => by unfold PDx at w; omega)).trans w2
      rw [rdI_e (by have := hMo.1; omega), Int.toNat_natCast, w5]
      refine WP_call (k_bitD (c.ch cx) a1 p2 (z1.p a2) (by rw [row1]; omega)) (fun y hy => WP_some.2 ?_)
      obtain ⟨y1, y2, y3⟩ := hy
      have eo : ofD u n m i b = oB (nxT u n b) fun c => oB (biD u n (m.getD (fiN u n (mTk m) b) nm0).2.2.1 c) fun t => .inl (t.1, (2, (i : Int), (fiN u n (mTk m) b : Int)) :: t.2.1, t.2.2) := if_pos ⟨gi, g1⟩
      refine ⟨?_, cx.tr y2, y3.trans ((opnP a2).trans z4)⟩
      rw [eo]
      have eb : oB (bq (.inl b) (nxT u n)) (biD u n (m.getD (fiN u n (mTk m) b) nm0).2.2.1) = oB (nxT u n b) (biD u n (m.getD (fiN u n (mTk m) b) nm0).2.2.1) := rfl
      rw [eb] at y1
      cases hA : nxT u n b with
      | inr f =>
        rw [hA, oB_r] at y1
        obtain ⟨q1, l, q2, q3⟩ := y1
        rw [oB_r]
        exact ⟨q1, (2, (i : Int), (fiN u n (mTk m) b : Int)) :: l, by show l.length + 1 ≤ 2; omega, by rw [List.append_assoc] at q3; exact q3⟩
      | inl a =>
        rw [hA, oB_l] at y1
        rw [oB_l]
        cases hB : biD u n (m.getD (fiN u n (mTk m) b) nm0).2.2.1 a with
        | inr f =>
          rw [hB] at y1
          obtain ⟨q1, l, q2, q3⟩ := y1
          rw [oB_r]
          exact ⟨q1, (2, (i : Int), (fiN u n (mTk m) b : Int)) :: l, by show l.length + 1 ≤ 2; omega, by rw [List.append_assoc] at q3; exact q3⟩
        | inl t =>
          rw [hB] at y1
          obtain ⟨q1, q2, q3⟩ := y1
          rw [oB_l]
          exact ⟨q1, q2, by rw [List.append_assoc] at q3; exact q3⟩
    · rw [if_pos g1, bX_some, if_pos rfl]
      exact bad (if_neg (fun q => g1 q.2))
  · rw [if_neg gi] at bad ⊢
    rw [if_neg (by decide), bX_some, if_pos rfl]
    exact bad (if_neg (fun q => gi q.1))
end KDO
