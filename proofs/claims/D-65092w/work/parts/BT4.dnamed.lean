/-! the class reads operands: names, dots, whole operands -/
section KDN
variable {S S0 z y : Sto} {u : Nat → Int} {n N : Nat} {ms : List Mdl} {cur m : Mdl} {q : Qq} {j o : Nat} {k : List Row3}
theorem dot_c {p q : Bool} {g : Prop} [Decidable g] : (if ¬ w32 (b2i p) = w32 (if g then 1 else 0) then bX (some (b2i p)) fun x5 => if w32 x5 = 0 then bX (some (b2i q)) fun x6 => if ¬ w32 x6 = 0 then some true else some false else some true else some false) = some ((p && !decide g) || (!p && decide g && q)) := by
  by_cases h : g
  · rw [if_pos h, decide_eq_true h]; cases p <;> cases q <;> rfl
  · rw [if_neg h, decide_eq_false h]; cases p <;> cases q <;> rfl
theorem k_dotted {i a : Nat} (c : CtD u n N ms cur S0 S) (h : ScQ u n S 4 (.inl a)) (hi : i < cur.length) (hj : tkB u n j ≤ n) (hk : RwK S 170 (flat3 k)) (hl : k.length ≤ 2500) : WP (mX2_dotted S (i : Int) (tkB u n j : Int)) (OpP u n k S (dotD u n ms (cur.getD i nm0) i j a)) := by
  have hn := c.t.b
  have hu := c.t.u
  have hcl := c.m.2.1
  unfold mX2_dotted
  refine WP_call (k_next3 c.t h) (fun x1 hx => ?_)
  obtain ⟨a1, a2⟩ := hx
  have cx : ChXd S x1 := ChXd.refl.p a2
  have c1 := c.ch cx
  have rx := hk.p a2
  have ox := opnP a2
  obtain ⟨hr, hm15⟩ := c1.r
  obtain ⟨hc, hco⟩ := c1.m
  obtain ⟨v1, v2, v3⟩ := hc.2.1 i hi
  obtain ⟨o1, o2, o3⟩ := hco.2 i hi
  have a1 : ScQ u n x1 4 (nxT u n a) := a1
  unfold dotD
  rw [hr, gk_M hm15, rdI_e (by omega), Int.toNat_natCast, v1, k_isName a1, bX_some, w32_id (x := (cur.getD i nm0).2.1) (by omega)]
  cases hA : nxT u n a with
  | inr f =>
    rw [hA] at a1
    rw [k_isNumber a1, dot_c]
    have hcond : ((isK u n 1 (.inr f) && !decide ((cur.getD i nm0).2.1 = 4)) || (!isK u n 1 (.inr f) && decide ((cur.getD i nm0).2.1 = 4) && isK u n 2 (.inr f))) = false := by
      show ((false && _) || (!false && _ && false)) = false
      rw [Bool.and_false]; rfl
    rw [hcond, bX_some, if_neg (by decide), bX_some, k_ok a1, bX_some, bIf2, if_neg (fun z => by cases z)]
    exact WP_some.2 ⟨⟨a1, [], by show 0 ≤ 2; omega, by rw [List.append_nil]; exact rx⟩, cx, ox⟩
  | inl b =>
    rw [hA] at a1
    rw [oB_l]
    rw [k_isNumber a1, dot_c]
    have hcond : ((isK u n 1 (.inl b) && !decide ((cur.getD i nm0).2.1 = 4)) || (!isK u n 1 (.inl b) && decide ((cur.getD i nm0).2.1 = 4) && isK u n 2 (.inl b))) = decide ((tkK u n b = 1 ∧ (cur.getD i nm0).2.1 ≠ 4) ∨ (tkK u n b = 2 ∧ (cur.getD i nm0).2.1 = 4)) := by
      show ((decide (tkK u n b = 1) && !decide ((cur.getD i nm0).2.1 = 4)) || (!decide (tkK u n b = 1) && decide ((cur.getD i nm0).2.1 = 4) && decide (tkK u n b = 2))) = _
      by_cases g1 : tkK u n b = 1
      · have g2 : tkK u n b ≠ 2 := by omega
        by_cases g4 : (cur.getD i nm0).2.1 = 4
        · rw [decide_eq_true g1, decide_eq_true g4, decide_eq_false (show ¬ ((tkK u n b = 1 ∧ (cur.getD i nm0).2.1 ≠ 4) ∨ (tkK u n b = 2 ∧ (cur.getD i nm0).2.1 = 4)) by omega)]; rfl
        · rw [decide_eq_true g1, decide_eq_false g4, decide_eq_true (show ((tkK u n b = 1 ∧ (cur.getD i nm0).2.1 ≠ 4) ∨ (tkK u n b = 2 ∧ (cur.getD i nm0).2.1 = 4)) from Or.inl ⟨g1, g4⟩)]; rfl
      · by_cases g2 : tkK u n b = 2
        · by_cases g4 : (cur.getD i nm0).2.1 = 4
          · rw [decide_eq_false g1, decide_eq_true g2, decide_eq_true g4, decide_eq_true (show ((tkK u n b = 1 ∧ (cur.getD i nm0).2.1 ≠ 4) ∨ (tkK u n b = 2 ∧ (cur.getD i nm0).2.1 = 4)) from Or.inr ⟨g2, g4⟩)]; rfl
          · rw [decide_eq_false g1, decide_eq_false g4, decide_eq_false (show ¬ ((tkK u n b = 1 ∧ (cur.getD i nm0).2.1 ≠ 4) ∨ (tkK u n b = 2 ∧ (cur.getD i nm0).2.1 = 4)) by omega)]; rfl
        · rw [decide_eq_false g1, decide_eq_false g2, decide_eq_false (show ¬ ((tkK u n b = 1 ∧ (cur.getD i nm0).2.1 ≠ 4) ∨ (tkK u n b = 2 ∧ (cur.getD i nm0).2.1 = 4)) by omega), Bool.and_false]; rfl
    rw [hcond, bX_some]
    by_cases gc : (tkK u n b = 1 ∧ (cur.getD i nm0).2.1 ≠ 4) ∨ (tkK u n b = 2 ∧ (cur.getD i nm0).2.1 = 4)
    · rw [decide_eq_true gc, if_pos rfl, if_pos gc]
      refine WP_bX.2 (WP_call (k_failP a1 (c := 11) (by omega) (p := (tkB u n j : Int)) (by omega)) (fun y hy => WP_some.2 ?_))
      have y1 : ScQ u n y 4 (.inr (11, (tkB u n j : Int))) := hy.1
      rw [k_ok y1, bX_some, bIf2, if_neg (fun z => by cases z)]
      exact WP_some.2 ⟨⟨y1, [], by show 0 ≤ 2; omega, by rw [List.append_nil]; exact rx.f hy.2⟩, cx.f hy.2, (opnF hy.2).trans ox⟩
    · rw [decide_eq_false gc, if_neg (by decide), if_neg gc, bX_some, k_ok a1, bX_some, bIf2, show okQ (.inl b) = true from rfl, if_pos rfl, k_isName a1, bX_some, bIf]
      by_cases g1 : tkK u n b = 1
      · have g4 : (cur.getD i nm0).2.1 = 4 := Classical.byContradiction (fun q => gc (Or.inl ⟨g1, q⟩))
        have e1 : isK u n 1 (.inl b) = true := decide_eq_true g1
        rw [e1, if_pos rfl, if_pos g1]
        refine WP_call (k_of c1 a1 g1 hi g4 rx (by omega)) (fun y hy => WP_some.2 ⟨hy.1, cx.tr hy.2.1, hy.2.2.trans ox⟩)
      · have e1 : isK u n 1 (.inl b) = false := decide_eq_false g1
        rw [e1, if_neg (by decide), if_neg g1]
        have w3 : ∀ (x : Int), (-2147483648 ≤ x ∧ x < 2147483648) → w3ok (3, x, 0) := fun x hx => w3k (by omega) hx (by omega)
        by_cases g4 : (cur.getD i nm0).2.1 = 4
        · have hk2 : tkK u n b ≠ 2 := fun q => gc (Or.inr ⟨q, g4⟩)
          rw [if_pos g4, if_neg (by decide), bX_some, if_pos (by decide), bX_some]
          refine WP_call (k_numD c1.t a1 (lo := 0) (hi := 0) (by omega)) (fun x hx => ?_)
          obtain ⟨d1, d2, d3, d4⟩ := hx
          have e0 : ∀ lo hi, nuT u n lo hi b = flT u n 2 b := fun lo hi => if_neg hk2
          have d1 : ScQ u n x.2 4 (nuT u n 0 0 b) := d1
          rw [e0] at d1 ⊢
          refine WP_call (k_putE c (cx.p d2) (rx.p d2) (by omega) (w3 _ d3) d1 ((opnP d2).trans ox)) (fun z hz => WP_some.2 ⟨⟨hz.2.2.1, _, by show 1 ≤ 2; omega, hz.1⟩, hz.2.1, hz.2.2.2⟩)
        · have hw := o2 g4
          rw [if_neg g4, if_pos (by decide)]
          have wi : w3ok (1, (i : Int), 0) := w3k (by omega) (by omega) (by omega)
          refine WP_bX.2 (WP_call (k_putE c cx rx (by omega) wi a1 ox) (fun z hz => WP_some.2 ?_))
          obtain ⟨z1, z2, z3, z4⟩ := hz
          have cz := c.ch z2
          rw [if_neg (by decide), cz.r.1, gk_M hm15, rdI_e (by omega), Int.toNat_natCast, (cz.m.1.2.1 i hi).2.1, bX_some]
          refine WP_call (k_numD cz.t z3 (lo := 0) (hi := (cur.getD i nm0).2.2.1 - 1) (by omega)) (fun x hx => ?_)
          obtain ⟨d1, d2, d3, d4⟩ := hx
          refine WP_call (k_putE c (z2.p d2) (z1.p d2) (by rw [row1]; omega) (w3 _ d3) d1 ((opnP d2).trans z4)) (fun z hz => WP_some.2 ⟨?_, hz.2.1, hz.2.2.2⟩)
          have h1 : ScQ u n z 4 (nuT u n 0 ((cur.getD i nm0).2.2.1 - 1) b) := hz.2.2.1
          have h2 := hz.1
          rw [List.append_assoc] at h2
          cases hC : nuT u n 0 ((cur.getD i nm0).2.2.1 - 1) b with
          | inr f =>
            rw [hC] at h1
            exact ⟨h1, _, by show 2 ≤ 2; omega, h2⟩
          | inl cc =>
            rw [hC] at h1
            rw [oB_l]
            refine ⟨h1, rfl, ?_⟩
            rw [← d4 b cc rfl hC]; exact h2
theorem k_named (c : CtD u n N ms cur S0 S) (h : ScQ u n S 4 (.inl j)) (k1 : tkK u n j = 1) (hk : RwK S 170 (flat3 k)) (hl : k.length ≤ 2400) : WP (mX2_named S) (OpP u n k S (namD u n ms cur j)) := by
  have hn := c.t.b
  have hu := c.t.u
  have s4 : gI S 4 4 = (tkB u n j : Int) := h.2.2.1
  have hB := tkB_le (u := u) (n := n) j
  obtain ⟨hr, hm15⟩ := c.r
  obtain ⟨hc, hco⟩ := c.m
  have hcl := hco.1
  unfold mX2_named
  rw [hr, gk_M hm15]
  refine WP_call (k_idx c.t h k1 hc hcl ⟨ms.length, hm15, rfl⟩) (fun x2 hx => ?_)
  subst hx
  by_cases gi : inNm u n (mTk cur) j = true
  · have hf := fi_lt gi
    have en : namD u n ms cur j = oB (nxT u n j) fun a => if isS u n 46 a = true then dotD u n ms (cur.getD (fiN u n (mTk cur) j) nm0) (fiN u n (mTk cur) j) j a else if (cur.getD (fiN u n (mTk cur) j) nm0).2.1 = 4 then .inr (11, (tkB u n j : Int)) else .inl (a, [(1, (fiN u n (mTk cur) j : Int), 0)], (cur.getD (fiN u n (mTk cur) j) nm0).2.2.1) := if_pos gi
    rw [en, if_pos gi]
    generalize fiN u n (mTk cur) j = i at hf ⊢
    rw [w32_id (show -2147483648 ≤ (i : Int) ∧ (i : Int) < 2147483648 by omega), if_neg (show ¬ (i : Int) = -1 by omega), bX_some, k_ok h, bX_some, bIf2, show okQ (.inl j) = true from rfl, if_pos rfl, s4]
    refine WP_call (k_next3 c.t h) (fun x6 hx => ?_)
    obtain ⟨a1, a2⟩ := hx
    have cx : ChXd S x6 := ChXd.refl.p a2
    have c1 := c.ch cx
    have rx := hk.p a2
    have ox := opnP a2
    have a1 : ScQ u n x6 4 (nxT u n j) := a1
    rw [k_is a1 hu (by decide), bX_some, bIf]
    cases hA : nxT u n j with
    | inr f =>
      rw [hA] at a1
      show WP (if false = true then _ else _) _
      rw [if_neg (by decide), k_ok a1, bX_some, bIf, if_neg (fun z => by cases z), bX_some, if_neg (by decide), bX_some, k_ok a1, bX_some, bIf2, if_neg (fun z => by cases z)]
      exact WP_some.2 ⟨⟨a1, [], by show 0 ≤ 2; omega, by rw [List.append_nil]; exact rx⟩, cx, ox⟩
    | inl a =>
      rw [hA] at a1
      rw [oB_l]
      show WP (if isS u n 46 a = true then _ else _) _
      by_cases g : isS u n 46 a = true
      · rw [if_pos g, if_pos g]
        refine WP_call (k_dotted c1 a1 hf hB rx (by omega)) (fun y hy => WP_some.2 ⟨hy.1, cx.tr hy.2.1, hy.2.2.trans ox⟩)
      · obtain ⟨v1, v2, v3⟩ := c1.m.1.2.1 i hf
        obtain ⟨o1, o2, o3⟩ := hco.2 i hf
        rw [if_neg g, if_neg g, k_ok a1, bX_some, bIf, show okQ (.inl a) = true from rfl, if_pos rfl, c1.r.1, gk_M hm15, rdI_e (by omega), Int.toNat_natCast, v1, w32_id (by omega)]
        by_cases g4 : (cur.getD i nm0).2.1 = 4
        · rw [if_pos g4, if_pos g4, bX_some, if_pos rfl]
          refine WP_bX.2 (WP_call (k_failP a1 (c := 11) (by omega) (p := (tkB u n j : Int)) (by omega)) (fun y hy => WP_some.2 ?_))
          have y1 : ScQ u n y 4 (.inr (11, (tkB u n j : Int))) := hy.1
          rw [k_ok y1, bX_some, bIf2, if_neg (fun z => by cases z)]
          exact WP_some.2 ⟨⟨y1, [], by show 0 ≤ 2; omega, by rw [List.append_nil]; exact rx.f hy.2⟩, cx.f hy.2, (opnF hy.2).trans ox⟩
        · rw [if_neg g4, if_neg g4, bX_some, if_neg (by decide), bX_some, k_ok a1, bX_some, bIf2, show okQ (.inl a) = true from rfl, if_pos rfl]
          have wi : w3ok (1, (i : Int), 0) := w3k (by omega) (by omega) (by omega)
          refine WP_call (k_putE c cx rx (by omega) wi a1 ox) (fun z hz => ?_)
          obtain ⟨z1, z2, z3, z4⟩ := hz
          have cz := c.ch z2
          rw [cz.r.1, gk_M hm15, rdI_e (by omega), Int.toNat_natCast, (cz.m.1.2.1 i hf).2.1]
          exact WP_some.2 ⟨⟨z3, rfl, z1⟩, z2, z4⟩
  · have en : namD u n ms cur j = .inr (11, (tkB u n j : Int)) := if_neg gi
    rw [en, if_neg gi, if_pos (by decide)]
    refine WP_bX.2 (WP_call (k_fail h (c := 11) (by omega) hn) (fun y hy => WP_some.2 ?_))
    have y1 : ScQ u n y 4 (.inr (11, (tkB u n j : Int))) := hy.1
    rw [k_ok y1, bX_some, bIf2, if_neg (fun z => by cases z)]
    exact WP_some.2 ⟨⟨y1, [], by show 0 ≤ 2; omega, by rw [List.append_nil]; exact hk.f hy.2⟩, ChXd.refl.f hy.2, opnF hy.2⟩
/-- the operand part of a primary -/
def kMid (S : Sto) : Option (Int × Sto) := bX (mX3_isNumber S 4) fun x7 => if ¬ w32 x7 = 0 then bX (mX2_constant S) fun x8 => some (x8.1, x8.2) else bX (mX3_isName S 4) fun x9 => bX (mX3_must S 4 x9) fun x10 => bX (mX3_ok x10 4) fun x11 => bX (if ¬ w32 x11 = 0 then bX (mX2_named x10) fun x12 => some (x12.1, x12.2) else some (1, x10)) fun y13 => some (y13.1, y13.2)
theorem k_mid (c : CtD u n N ms cur S0 S) (h : ScQ u n S 4 (.inl j)) (hk : RwK S 170 (flat3 k)) (hl : k.length ≤ 2400) : WP (kMid S) (OpP u n k S (opD u n ms cur j)) := by
  have hn := c.t.b
  unfold kMid
  rw [k_isNumber h, bX_some, bIf]
  by_cases g2 : tkK u n j = 2
  · have e : isK u n 2 (.inl j) = true := decide_eq_true g2
    have eo : opD u n ms cur j = conD u n j := if_pos g2
    rw [e, if_pos rfl, eo]
    exact WP_call (k_constant c h g2 hk (by omega)) (fun y hy => WP_some.2 hy)
  · have e : isK u n 2 (.inl j) = false := decide_eq_false g2
    rw [e, if_neg (by decide), k_isName h, bX_some]
    refine WP_call (k_must h hn) (fun y hy => ?_)
    obtain ⟨y1, y2⟩ := hy
    by_cases g1 : tkK u n j = 1
    · have em : muT u n (isK u n 1 (.inl j)) (.inl j) = .inl j := by unfold muT bq isK; dsimp only; rw [if_pos (decide_eq_true g1)]
      rw [em] at y1
      have eo : opD u n ms cur j = namD u n ms cur j := by unfold opD; rw [if_neg g2, if_pos g1]
      rw [k_ok y1, bX_some, bIf, show okQ (.inl j) = true from rfl, if_pos rfl, eo]
      have cy : ChXd S y := ChXd.refl.f y2
      refine WP_bX.2 (WP_call (k_named (c.ch cy) y1 g1 (hk.f y2) hl) (fun x hx => WP_some.2 (WP_some.2 ⟨hx.1, cy.tr hx.2.1, hx.2.2.trans (opnF y2)⟩)))
    · have em : muT u n (isK u n 1 (.inl j)) (.inl j) = .inr (2, (tkB u n j : Int)) := by unfold muT bq isK; dsimp only; rw [if_neg (fun q => g1 (of_decide_eq_true q))]; rfl
      rw [em] at y1
      have eo : opD u n ms cur j = .inr (2, (tkB u n j : Int)) := by unfold opD; rw [if_neg g2, if_neg g1]
      rw [k_ok y1, bX_some, bIf, if_neg (fun z => by cases z), bX_some, eo]
      exact WP_some.2 ⟨⟨y1, [], by show 0 ≤ 2; omega, by rw [List.append_nil]; exact hk.f y2⟩, ChXd.refl.f y2, opnF y2⟩
end KDN
