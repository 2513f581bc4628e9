/-! the class reads items: next values -/
def kNc (S : Sto) (x2 : Int) : Option Bool := if ¬ w32 x2 = (-1) then gk (gR S 3 5) 7 fun g3 => rdI 40 S (g3 + 4) x2 fun v4 => if w32 v4 = 3 then gk (gR S 3 5) 7 fun g5 => rdZ 40 S (g5 + 7) x2 fun v6 => if ¬ w32 v6 = 0 then some true else some false else some true else some true
def kNt (x2 v : Int) (z : Sto) : Option Sto := bX (mX3_take z 4 59) fun x19 => bX (mX3_ok x19 4) fun x20 => if w32 x20 = 0 then some x19 else gk (gR x19 3 5) 7 fun g21 => wrI 40 x19 (g21 + 7) x2 1 fun S22 => gk (gR S22 3 5) 7 fun g23 => bX (mX7_item S22 g23 ((-1) - x2) v (gI S22 170 1)) fun x24 => some x24
def kNm (x2 : Int) (y13 : Sto) : Option Sto := bX (mX3_ok y13 4) fun x14 => bX (if ¬ w32 x14 = 0 then gk (gR y13 3 5) 7 fun g15 => rdI 40 y13 (g15 + 5) x2 fun v16 => bX (mX2_given y13 v16) fun x17 => some (x17.1, x17.2) else some (0, y13)) fun y18 => kNt x2 y18.1 y18.2
section KNV
variable {S S0 x z y : Sto} {u : Nat → Int} {n N M : Nat} {fs : List Fin0} {ms : List Mdl} {cur m : Mdl} {gv : List Nat} {its its' : List Itm} {k k' : List Row3} {j b jn kl fi : Nat} {s w v fr : Int}
theorem next_eq2 : mX2_nextValue S = gk (gR S 3 5) 7 fun g1 => bX (mX4_find S (g1 + 1) 4) fun x2 => bX (bX (kNc S x2) fun b => if b = true then bX (mX3_fail S 4 11 (gI S 4 4)) fun x7 => some x7 else some S) fun y8 => bX (mX3_ok y8 4) fun x9 => if w32 x9 = 0 then some y8 else bX (mX3_next y8 4) fun x10 => bX (mX3_ok x10 4) fun x11 => bX (bX (if ¬ w32 x11 = 0 then if ¬ w32 (gI x10 4 3) = 4 then some true else some false else some false) fun b => if b = true then bX (mX3_fail x10 4 2 (gI x10 4 4)) fun x12 => some x12 else some x10) fun y13 => kNm x2 y13 := rfl
theorem nkD_ok (h : nkD u n cur gv j = true) : inNm u n (mTk cur) j = true ∧ (cur.getD (fiN u n (mTk cur) j) nm0).2.1 = 3 ∧ gv.contains (fiN u n (mTk cur) j) = false := by
  unfold nkD at h
  rw [Bool.and_eq_true, Bool.and_eq_true, decide_eq_true_iff] at h
  refine ⟨h.1.1, h.1.2, ?_⟩
  cases e : gv.contains (fiN u n (mTk cur) j) with
  | false => rfl
  | true => rw [e] at h; exact absurd h.2 (by decide)
theorem ct_app {g i : Nat} : (gv ++ [g]).contains i = true ↔ gv.contains i = true ∨ i = g := by
  rw [List.contains_iff_mem, List.mem_append, List.mem_singleton, List.contains_iff_mem]
theorem gvC_up (h1 : fi < cur.length) (h2 : gv.contains fi = false) : smN (gvC (gv ++ [fi])) cur.length = smN (gvC gv) cur.length + 1 := by
  refine smN_up h1 ?_ (fun x hx hne => ?_)
  · unfold gvC
    rw [if_pos (ct_app.2 (Or.inr rfl)), h2, if_neg (by decide)]
  · unfold gvC
    by_cases e : gv.contains x = true
    · rw [if_pos e, if_pos (ct_app.2 (Or.inl e))]
    · rw [if_neg e, if_neg (fun q => by rcases ct_app.1 q with q | q; exact e q; exact hne q)]
theorem k_kind4 (h : ScQ u n S 4 (.inl j)) : gI S 4 3 = 4 ↔ isS u n 256 j = true := by
  obtain ⟨h1, h2, h3, h4, h5, h6⟩ := h
  obtain ⟨f5, f1, f6, f2, f3⟩ := h6
  unfold isS tkK tkV
  rw [decide_eq_true_eq]
  rcases tK_rng (u := u) (n := n) (p := tkB u n j) with k | k | k | k | k | k
  · rw [(f1 k).1, k]; omega
  · rw [(f2 k).1, k]; omega
  · obtain ⟨g1, g2, g3⟩ := f3 k
    rw [k]
    by_cases e : tV u n (tkB u n j) < 256
    · rw [(g1 e).1]; omega
    · by_cases e4 : tV u n (tkB u n j) = 256
      · rw [g2 e4]; omega
      · by_cases e5 : tV u n (tkB u n j) = 257
        · rw [g3 e5]; omega
        · have := tV_le k e; omega
  · exact absurd k h5
  · rw [f5 k, k]; omega
  · rw [(f6 k).1, k]; omega
theorem kNc_e (hC : CtI u n N fs cur gv its S0 S) : kNc S (if inNm u n (mTk cur) j = true then (fiN u n (mTk cur) j : Int) else -1) = some (!(nkD u n cur gv j)) := by
  have hfs := hC.b
  have hlen := hC.d.m.2.1
  have hM := hC.d.m.1
  rw [fMs_len] at hM
  have hG := hC.2.1.2.1
  unfold kNc nkD
  by_cases e : inNm u n (mTk cur) j = true
  · have hl := fi_lt e
    obtain ⟨s1, s2, s3⟩ := hM.2.1 _ hl
    rw [if_pos e, e, w32_id (by omega), if_pos (by omega), hC.d.r.1, fMs_len, gk_M hfs, rdI_e (by omega), Int.toNat_natCast, s1, w32_id (by have := hC.d.m.2.2 _ hl; unfold NmOk at this; omega)]
    by_cases e3 : (cur.getD (fiN u n (mTk cur) j) nm0).2.1 = 3
    · rw [if_pos e3, gk_M hfs, rdZ_e (by omega), Int.toNat_natCast, hG _ hl, decide_eq_true e3]
      cases gv.contains (fiN u n (mTk cur) j) <;> rfl
    · rw [if_neg e3, decide_eq_false e3]; rfl
  · rw [if_neg e, bool_f e]; rfl
theorem kNt_f {f : Int × Int} {x2 : Int} (t : TpK z 4 u n) (hq : ScQ u n z 4 (.inr f)) (hc : okCap (gI z 170 2)) : WP (kNt x2 v z) (fun y => ChIt M z y ∧ ScQ u n y 4 (.inr f) ∧ okCap (gI y 170 2)) := by
  unfold kNt
  refine WP_call (k_take3 t hq (by decide)) (fun y hy => ?_)
  obtain ⟨y1, y2⟩ := hy
  have y1 : ScQ u n y 4 (.inr f) := y1
  rw [k_ok y1, bX_some, bIf2, okQ_f, if_neg (by decide)]
  refine WP_some.2 ⟨(ChXd.refl.p y2).i, y1, ?_⟩
  rw [y2.1 _ _ (fun q => by unfold PSc at q; omega)]; exact hc
theorem kNm_f {f : Int × Int} {x2 : Int} (t : TpK z 4 u n) (hq : ScQ u n z 4 (.inr f)) (hc : okCap (gI z 170 2)) : WP (kNm x2 z) (fun y => ChIt M z y ∧ ScQ u n y 4 (.inr f) ∧ okCap (gI y 170 2)) := by
  unfold kNm
  rw [k_ok hq, bX_some, bIf, okQ_f, if_neg (by decide), bX_some]
  exact kNt_f t hq hc
/-- the end of a next value -/
theorem kNt_ok (hC : CtI u n N fs cur gv its S0 z) (hq : ScQ u n z 4 (.inl b)) (hb : b ≤ N) (hfi : fi < cur.length) (hnot : gv.contains fi = false) (hR : RwK z 170 (flat3 k')) (hl : k'.length ≤ b) (h10 : gI z 4 10 = 0) (hv : v = ((3 * kl : Nat) : Int)) (hkl : kl ≤ 10000) (hN : N ≤ 1500) :
    WP (kNt (fi : Int) v z) (fun y => ChIt (9 + 10 * fs.length) z y ∧ IOut u n N fs its S0 kl (oB (tkT u n 59 (.inl b)) (fun e => .inl (e, k', cur, gv ++ [fi], [-1 - (fi : Int)]))) y) := by
  have hfs := hC.b
  have hlen := hC.d.m.2.1
  unfold kNt
  refine WP_call (k_take3 hC.d.t hq (by decide)) (fun x hx => ?_)
  obtain ⟨a1, a2⟩ := hx
  have kx := hR.p a2
  cases hA : tkT u n 59 (.inl b) with
  | inr f =>
    rw [hA] at a1
    rw [k_ok a1, bX_some, bIf2, okQ_f, if_neg (by decide)]
    exact WP_some.2 ⟨(ChXd.refl.p a2).i, a1, kx.2.2.1⟩
  | inl e =>
    rw [hA] at a1
    obtain ⟨e1, e2, e3⟩ := tkT_ok hA
    have hlt : b < N := lt3 hC.d.l e3 hb
    have cx := hC.x (ChXd.refl.p a2)
    obtain ⟨c1, ⟨c2, c3, c4, c5⟩, c6⟩ := cx
    rw [k_ok a1, bX_some, bIf2, show okQ (.inl e) = true from rfl, if_pos rfl, c1.r.1, fMs_len, gk_M hfs, wrI_e (by omega), Int.toNat_natCast]
    generalize hx' : sI x (9 + 10 * fs.length + 7) fi 1 = x'
    have cx' : ChW (fun a i => a = 9 + 10 * fs.length + 7 ∧ i = fi) x x' := by rw [← hx']; exact ChW.refl.sI ⟨rfl, rfl⟩
    have ix' : ChIt (9 + 10 * fs.length) x x' := cx'.i (fun a i w => by omega)
    have d' : CtD u n N (fMs fs) cur S0 x' := c1.cgM (by rw [fMs_len]; exact ix') (fun a i q1 q2 => cx'.1 _ _ (fun w => by rw [fMs_len] at q2; omega))
    have k170 : gI x' 170 1 = ((3 * k'.length : Nat) : Int) := by rw [cx'.1 _ _ (fun w => by omega), kx.1, flat3_len]
    have hX' : MdX x' (9 + 10 * fs.length) cur its _ _ := c2.n cx' (fun a i w q1 q2 => by omega)
    rw [d'.r.1, fMs_len, gk_M hfs, k170, hv]
    have b1 : smN (gvC gv) cur.length ≤ cur.length * 1 := smN_le (fun _ _ => gvC_le)
    have b2 := c5.1
    refine WP_bX.2 ((k_item7 hX'.1 (by omega) (x := -1 - (fi : Int)) (a := kl) (b := k'.length) (by omega) (by omega) (by omega)).mono (fun g hg => WP_some.2 ?_))
    obtain ⟨g1, g2⟩ := hg
    have eg : ChIt (9 + 10 * fs.length) x' g := g2.i (PIm_i (by omega))
    have all : ChIt (9 + 10 * fs.length) z g := ((ChXd.refl.p a2).i.tr ix').tr eg
    refine ⟨all, ⟨?_, ⟨?_, ?_, c4, ?_, ?_⟩, hC.oth all⟩, ?_, ?_, ?_, by show e ≤ N; omega, by show k'.length ≤ e; omega⟩
    · exact d'.cgM (by rw [fMs_len]; exact eg) (fun a i q1 q2 => g2.1 _ _ (fun w => by unfold PIm at w; rw [fMs_len] at q2; omega))
    · exact hX'.item g1 g2
    · intro i hi
      show gI g (9 + 10 * fs.length + 7) i = if (gv ++ [fi]).contains i = true then 1 else 0
      rw [g2.1 _ _ (fun w => by unfold PIm at w; omega), ← hx', hI_sI]
      by_cases q : i = fi
      · rw [if_pos ⟨rfl, q⟩, if_pos (ct_app.2 (Or.inr q))]; rfl
      · rw [if_neg (fun w => q w.2), c3 i hi]
        by_cases q2 : gv.contains i = true
        · rw [if_pos q2, if_pos (ct_app.2 (Or.inl q2))]
        · rw [if_neg q2, if_neg (fun w => by rcases ct_app.1 w with w | w; exact q2 w; exact q w)]
    · show (its ++ [_]).length ≤ cur.length + smN (gvC (gv ++ [fi])) cur.length
      rw [gvC_up hfi hnot, List.length_append]
      show its.length + 1 ≤ _
      omega
    · intro i hi
      rcases ct_app.1 hi with q | q
      · exact c5.2 i q
      · rw [q]; exact hfi
    · exact (a1.ch cx' (fun i q1 q2 w => by omega)).ch g2 (fun i q1 q2 w => by unfold PIm at w; omega)
    · exact (kx.i cx' (fun a i w => by omega)).i g2 (fun a i w => by unfold PIm at w; omega)
    · show gI g 4 10 = 0
      rw [g2.1 _ _ (fun w => by unfold PIm at w; omega), cx'.1 _ _ (fun w => by omega), opnP a2]; exact h10
/-- a next value -/
theorem k_next7 (hC : CtI u n N fs cur gv its S0 S) (hq : ScQ u n S 4 (.inl j)) (k1 : tkK u n j = 1) (hj : j < N) (hR : RwK S 170 (flat3 k)) (hl : k.length ≤ j) (h10 : gI S 4 10 = 0) (hN : N ≤ 1500) :
    WP (mX2_nextValue S) (fun y => ChIt (9 + 10 * fs.length) S y ∧ ∃ r, neR u n (fMs fs) cur gv j k r ∧ IOut u n N fs its S0 k.length (oB r (fun t => .inl (t.1, t.2, cur, gv ++ [fiN u n (mTk cur) j], [-1 - (fiN u n (mTk cur) j : Int)]))) y) := by
  have hfs := hC.b
  have hlen := hC.d.m.2.1
  have hb := hC.d.t.b
  rw [next_eq2, hC.d.r.1, fMs_len, gk_M hfs]
  have hM := hC.d.m.1
  rw [fMs_len] at hM
  refine WP_call (k_idx hC.d.t hq k1 hM hlen ⟨fs.length, hfs, rfl⟩) (fun x2 hx2 => ?_)
  subst hx2
  rw [kNc_e hC, bX_some]
  by_cases g : nkD u n cur gv j = true
  · obtain ⟨hin, h3, hnot⟩ := nkD_ok g
    have hfi := fi_lt hin
    have eH : neH u n cur gv j = nxT u n j := by unfold neH; rw [if_pos k1, if_pos g]
    rw [g, if_pos hin]
    show WP (bX (if false = true then _ else some S) _) _
    rw [if_neg (by decide), bX_some, k_ok hq, bX_some, bIf2, show okQ (.inl j) = true from rfl, if_pos rfl]
    refine WP_call (k_next3 hC.d.t hq) (fun x hx => ?_)
    obtain ⟨x1, x3⟩ := hx
    have x1 : ScQ u n x 4 (nxT u n j) := x1
    have cx := hC.x (ChXd.refl.p x3)
    have kx := hR.p x3
    cases hA : nxT u n j with
    | inr f =>
      rw [hA] at x1
      rw [k_ok x1, bX_some, bIf, okQ_f, if_neg (by decide), bX_some, if_neg (by decide), bX_some]
      exact (kNm_f cx.d.t x1 kx.2.2.1).mono (fun v hv => ⟨(ChXd.refl.p x3).i.tr hv.1, .inr f, Or.inl ⟨f, eH.trans hA, rfl⟩, hv.2⟩)
    | inl b =>
      rw [hA] at x1
      obtain ⟨b1, b2⟩ := nxT_ok hA
      have k4 := k_kind4 x1
      rw [k_ok x1, bX_some, bIf, show okQ (.inl b) = true from rfl, if_pos rfl, w32_gI]
      have h10x : gI x 4 10 = 0 := (opnP x3).trans h10
      by_cases e : isS u n 256 b = true
      · rw [if_neg (fun q => q (k4.2 e)), bX_some, if_neg (by decide), bX_some]
        obtain ⟨s1, s2, s3⟩ := hM.2.1 _ hfi
        have hw8 : 1 ≤ (cur.getD (fiN u n (mTk cur) j) nm0).2.2.1 ∧ (cur.getD (fiN u n (mTk cur) j) nm0).2.2.1 ≤ 8 := (hC.d.m.2.2 _ hfi).2.1 (by rw [h3]; decide)
        have e5 : gI x (9 + 10 * fs.length + 5) (fiN u n (mTk cur) j) = (cur.getD (fiN u n (mTk cur) j) nm0).2.2.1 := by rw [x3.1 _ _ (fun q => by unfold PSc at q; omega)]; exact s2
        unfold kNm
        rw [k_ok x1, bX_some, bIf, show okQ (.inl b) = true from rfl, if_pos rfl, cx.d.r.1, fMs_len, gk_M hfs, rdI_e (by omega), Int.toNat_natCast, e5]
        refine WP_bX.2 (WP_call (k_given hN cx.d e x1 (by omega) h10x kx (by omega) hw8) (fun z hz => WP_some.2 ?_))
        obtain ⟨z1, z2, r, z3, z4⟩ := hz
        have cI : ChIt (9 + 10 * fs.length) S z.2 := (ChXd.refl.p x3).i.tr z1.i
        cases r with
        | inr f =>
          obtain ⟨z5, z6⟩ := z4
          exact (kNt_f (cx.x z1).d.t z5 z6).mono (fun v hv => ⟨cI.tr hv.1, .inr f, Or.inr ⟨b, eH.trans hA, .inr f, z3, rfl⟩, hv.2⟩)
        | inl dk =>
          obtain ⟨d, k'⟩ := dk
          obtain ⟨z5, z6, z7, z8, z9⟩ := z4
          refine (kNt_ok (cx.x z1) z5 z8 hfi hnot z6 z9 z7 (v := z.1) (kl := k.length) (by rw [z2]; omega) (by omega) hN).mono (fun v hv => ⟨cI.tr hv.1, oB (tkT u n 59 (.inl d)) (fun e => .inl (e, k')), Or.inr ⟨b, eH.trans hA, .inl (d, k'), z3, rfl⟩, ?_⟩)
          have hv2 := hv.2
          cases hT : tkT u n 59 (.inl d) with
          | inr f => rw [hT] at hv2; exact hv2
          | inl e => rw [hT] at hv2; exact hv2
      · rw [if_pos (fun q => e (k4.1 q)), bX_some, if_pos rfl]
        refine WP_bX.2 (WP_call (k_fail x1 (c := 2) (by omega) hb) (fun z hz => WP_some.2 ?_))
        obtain ⟨z1, z2⟩ := hz
        have z1 : ScQ u n z 4 (.inr (2, (tkB u n b : Int))) := z1
        have eT : tkT u n 256 (.inl b) = .inr (2, (tkB u n b : Int)) := by unfold tkT bq; dsimp only; rw [if_neg e]; rfl
        exact (kNm_f (cx.x (ChXd.refl.f z2)).d.t z1 (kx.f z2).2.2.1).mono (fun v hv => ⟨((ChXd.refl.p x3).i.tr (ChXd.refl.f z2).i).tr hv.1, .inr (2, (tkB u n b : Int)), Or.inr ⟨b, eH.trans hA, .inr (2, (tkB u n b : Int)), Or.inl ⟨_, eT, rfl⟩, rfl⟩, hv.2⟩)
  · rw [bool_f g]
    show WP (bX (if true = true then _ else some S) _) _
    rw [if_pos rfl]
    refine WP_bX.2 (WP_call (k_fail hq (c := 11) (by omega) hb) (fun z hz => WP_some.2 ?_))
    obtain ⟨z1, z2⟩ := hz
    have z1 : ScQ u n z 4 (.inr (11, (tkB u n j : Int))) := z1
    rw [k_ok z1, bX_some, bIf2, okQ_f, if_neg (by decide)]
    refine WP_some.2 ⟨(ChXd.refl.f z2).i, .inr (11, (tkB u n j : Int)), Or.inl ⟨_, ?_, rfl⟩, z1, (hR.f z2).2.2.1⟩
    unfold neH
    rw [if_pos k1, if_neg g]; rfl
end KNV
