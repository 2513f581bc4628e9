/-! the class reads items: instances -/
def kUw (i12 : Nat) (y7 fr : Int) (x24 : Sto) : Option Sto := gk (gR x24 3 5) 7 fun g26 => bX (mX7_tell x24 g26 4 0 y7) fun x27 => gk (gR x27.2 3 5) 7 fun g28 => bX (mX7_item x27.2 g28 x27.1 fr (gI x27.2 170 1)) fun x29 => gk (gR x29 3 5) 7 fun g30 => gk (gR x29 3 5) 7 fun g31 => bX (mJ9_min 1000000 (((gI x29 g31 7) + 1) + (gI x29 (9 + 10 * i12) 7))) fun x32 => wf x29 g30 7 x32 fun S33 => gk (gR S33 3 5) 7 fun g34 => gk (gR S33 3 5) 7 fun g35 => bX (mJ9_min 1000000 ((gI S33 g35 10) + (gI S33 (9 + 10 * i12) 10))) fun x36 => wf S33 g34 10 x36 fun S37 => some S37
def kUt (i12 : Nat) (y7 fr own : Int) (y17 : Int × Sto) : Option Sto := bX (mX3_is y17.2 4 41) fun x18 => bX (mX3_must y17.2 4 x18) fun x19 => bX (mX3_ok x19 4) fun x20 => bX (bX (if ¬ w32 x20 = 0 then if ¬ w32 y17.1 = w32 (gI x19 (9 + 10 * i12) 6) then some true else some false else some false) fun b => if b = true then bX (mX3_fail x19 4 14 own) fun x21 => some x21 else some x19) fun y22 => bX (mX3_next y22 4) fun x23 => bX (mX3_take x23 4 59) fun x24 => bX (mX3_ok x24 4) fun x25 => if w32 x25 = 0 then some x24 else kUw i12 y7 fr x24
def kUm (i12 : Nat) (y7 own : Int) (y10 : Sto) : Option Sto := bX (mX3_next y10 4) fun x13 => bX (mX3_take x13 4 40) fun x14 => bX (mX3_ok x14 4) fun x15 => bX (if ¬ w32 x15 = 0 then bX (mX2_arguments x14 (9 + 10 * i12) own) fun x16 => some (x16.1, x16.2) else some (0, x14)) fun y17 => kUt i12 y7 (gI x14 170 1) own y17
def kUc (x4 : Sto) (own : Int) (y7 : Int) : Option Sto := bX (mX3_ok x4 4) fun x8 => bX (bX (if ¬ w32 x8 = 0 then if ¬ w32 y7 = (-1) then if w32 (gI x4 3 4) ≤ w32 y7 then some true else some false else some true else some false) fun b => if b = true then bX (mX3_fail x4 4 11 (gI x4 4 4)) fun x9 => some x9 else some x4) fun y10 => bX (mX3_ok y10 4) fun x11 => if w32 x11 = 0 then some y10 else rdA 16 y7 fun i12 => kUm i12 y7 own y10
section KUS
variable {S S0 x z y : Sto} {u : Nat → Int} {n N M : Nat} {fs : List Fin0} {ms : List Mdl} {cur m : Mdl} {gv : List Nat} {its its' : List Itm} {k k' : List Row3} {j b jn kl si own : Nat} {s w v fr : Int}
theorem inst_eq2 : mX2_instance S = bX (mX3_next S 4) fun x1 => bX (mX2_newName x1) fun x2 => bX (mX3_isName x2 4) fun x3 => bX (mX3_must x2 4 x3) fun x4 => bX (mX3_isName x4 4) fun x5 => bX (if ¬ w32 x5 = 0 then bX (mX4_find x4 5 4) fun x6 => some x6 else some (-1)) fun y7 => kUc x4 (gI x1 4 4) y7 := rfl
theorem kUc_f {f : Int × Int} {o y7 : Int} (hq : ScQ u n z 4 (.inr f)) : kUc z o y7 = some z := by
  unfold kUc
  rw [k_ok hq, bX_some, bIf, okQ_f, if_neg (by decide), bX_some, if_neg (by decide), bX_some, k_ok hq, bX_some, bIf2, okQ_f, if_neg (by decide)]
theorem kUt_f {f : Int × Int} {y7 o : Int} {i12 : Nat} (t : TpK z 4 u n) (hq : ScQ u n z 4 (.inr f)) (hc : okCap (gI z 170 2)) : WP (kUt i12 y7 fr o (v, z)) (fun y => ChIt M z y ∧ ScQ u n y 4 (.inr f) ∧ okCap (gI y 170 2)) := by
  have hb := t.b
  unfold kUt
  dsimp only
  rw [k_is hq t.u (by decide), bX_some]
  refine WP_call (k_must hq hb) (fun x hx => ?_)
  obtain ⟨x1, x2⟩ := hx
  have x1 : ScQ u n x 4 (.inr f) := x1
  rw [k_ok x1, bX_some, bIf, okQ_f, if_neg (by decide), bX_some, if_neg (by decide), bX_some]
  have tx := t.ch x2 (fun q => by unfold PF89 at q; omega) (fun i q => by unfold PF89 at q; omega)
  refine WP_call (k_next3 tx x1) (fun y hy => ?_)
  refine WP_call (k_take3 (tx.chS hy.2) hy.1 (by decide)) (fun r hr => ?_)
  have r1 : ScQ u n r 4 (.inr f) := hr.1
  rw [k_ok r1, bX_some, bIf2, okQ_f, if_neg (by decide)]
  have c : ChXd z r := ((ChXd.refl.f x2).p hy.2).p hr.2
  exact WP_some.2 ⟨c.i, r1, by rw [hr.2.1 170 2 (fun w => by unfold PSc at w; omega), hy.2.1 170 2 (fun w => by unfold PSc at w; omega), x2.1 170 2 (fun w => by unfold PF89 at w; omega)]; exact hc⟩
/-- an instance is told -/
theorem kUw_ok (hC : CtI u n N fs cur gv its S0 z) (hsi : si < fs.length) (hq : ScQ u n z 4 (.inl b)) (hb : b ≤ N) (hE : NmE u n z (9 + 10 * fs.length + 1) cur.length jn) (hk1 : tkK u n jn = 1) (hin : inNm u n (mTk cur) jn = false) (hc : cur.length < 40) (hR : RwK z 170 (flat3 k')) (hl : k'.length ≤ b) (h10 : gI z 4 10 = 0) (hfr : fr = ((3 * kl : Nat) : Int)) (hkl : kl ≤ 10000) (hN : N ≤ 1500) :
    WP (kUw si (si : Int) fr z) (fun y => ChIt (9 + 10 * fs.length) z y ∧ IOut u n N fs its S0 kl (.inl (b, k', cur ++ [(jn, 4, 0, (si : Int))], gv, [(cur.length : Int)])) y) := by
  have hfs := hC.b
  have eM : 9 + 10 * fs.length = 9 + 10 * (fMs fs).length := by rw [fMs_len]
  obtain ⟨c1, ⟨c2, c3, c4, c5⟩, c6⟩ := hC
  have hC : CtI u n N fs cur gv its S0 z := ⟨c1, ⟨c2, c3, c4, c5⟩, c6⟩
  unfold kUw
  rw [c1.r.1, fMs_len, gk_M hfs]
  refine WP_call (k_told7 (by rw [fMs_len]; exact hfs) eM c1 c2 c3 c4 c5 hE hk1 hin hc (s := 4) (w := 0) (v := (si : Int)) ⟨by show (0 : Int) ≤ 4 ∧ (4 : Int) ≤ 4; omega, fun q => absurd rfl q, fun _ => ⟨by show (0 : Int) ≤ (si : Int); omega, by show (si : Int) < ((fMs fs).length : Int); rw [fMs_len]; omega⟩⟩ (by omega) (by omega)) (fun y hy => ?_)
  obtain ⟨y1, y2, y3, y4, y5, y6, y7, y8⟩ := hy
  rw [if_neg (show ¬ (4 : Int) = 3 by decide), Int.add_zero] at y4
  have ey : ChIt (9 + 10 * fs.length) z y.2 := y2.i (PTl_i (by omega))
  have ky : RwK y.2 170 (flat3 k') := hR.i y2 (fun a i w => by unfold PTl at w; omega)
  have kl3 : gI y.2 170 1 = ((3 * k'.length : Nat) : Int) := by rw [ky.1, flat3_len]
  rw [y3.r.1, fMs_len, gk_M hfs, y1, hfr, kl3]
  have b1 : smN (gvC gv) (cur ++ [(jn, 4, 0, (si : Int))]).length ≤ 40 := by
    have h1 := smN_le (f := gvC gv) (n := (cur ++ [(jn, 4, 0, (si : Int))]).length) (b := 1) (fun _ _ => gvC_le)
    rw [List.length_append] at h1 ⊢
    have h2 : ([(jn, 4, 0, (si : Int))] : Mdl).length = 1 := rfl
    omega
  refine WP_call (k_item7 y4.1 (by omega) (x := (cur.length : Int)) (a := kl) (b := k'.length) (by omega) (by omega) (by omega)) (fun g hg => ?_)
  obtain ⟨g1, g2⟩ := hg
  have eg : ChIt (9 + 10 * fs.length) y.2 g := g2.i (PIm_i (by omega))
  have dg : CtD u n N (fMs fs) (cur ++ [(jn, 4, 0, (si : Int))]) S0 g := y3.cgM (by rw [fMs_len]; exact eg) (fun a i q1 q2 => g2.1 _ _ (fun w => by unfold PIm at w; rw [fMs_len] at q2; omega))
  have mg := y4.item g1 g2
  have og := hC.oth (ey.tr eg)
  obtain ⟨s1, s2, s3, s4, s5, s6⟩ := og.1 si hsi
  have hcb : capB (cur ++ [(jn, 4, 0, (si : Int))]) = 1000000 + 8 * ((cur.length + 1 : Nat) : Int) := by unfold capB; rw [List.length_append]; rfl
  have hsb : capB (fs.getD si (0, 0, [], [])).2.2.1 = 1000000 + 8 * ((fs.getD si (0, 0, [], [])).2.2.1.length : Int) := rfl
  have hsl : (fs.getD si (0, 0, [], [])).2.2.1.length ≤ 40 := by
    have := (c1.o si (by rw [fMs_len]; exact hsi)).2.1
    rw [fMs_d hsi] at this; exact this
  have r7 := mg.2.2.2.2.2.rng
  have r10 := mg.2.2.2.2.1.rng
  have q7 := s6.rng
  have q10 := s5.rng
  rw [dg.r.1, fMs_len, gk_M hfs, gk_M hfs, min_e (by omega) (by omega), bX_some, wf_eq]
  generalize hA : sI g (9 + 10 * fs.length) 7 (min 1000000 (gI g (9 + 10 * fs.length) 7 + 1 + gI g (9 + 10 * si) 7)) = A
  have cA : ChW (fun a i => a = 9 + 10 * fs.length ∧ i = 7) g A := by rw [← hA]; exact ChW.refl.sI ⟨rfl, rfl⟩
  have A10 : gI A (9 + 10 * fs.length) 10 = gI g (9 + 10 * fs.length) 10 := cA.1 _ _ (fun w => by omega)
  have A10s : gI A (9 + 10 * si) 10 = gI g (9 + 10 * si) 10 := cA.1 _ _ (fun w => by omega)
  rw [cA.2.2.1, dg.r.1, fMs_len, gk_M hfs, gk_M hfs, A10, A10s, min_e (by omega) (by omega), bX_some, wf_eq]
  generalize hB : sI A (9 + 10 * fs.length) 10 (min 1000000 (gI g (9 + 10 * fs.length) 10 + gI g (9 + 10 * si) 10)) = B
  have cB : ChW (fun a i => a = 9 + 10 * fs.length ∧ (i = 7 ∨ i = 10)) g B := by rw [← hB]; exact (ChW.refl.tr cA (fun a i w => ⟨w.1, Or.inl w.2⟩)).sI ⟨rfl, Or.inr rfl⟩
  have eB : ChIt (9 + 10 * fs.length) g B := cB.i (fun a i w => by omega)
  have all : ChIt (9 + 10 * fs.length) z B := (ey.tr eg).tr eB
  have m7 := Int.min_def 1000000 (gI g (9 + 10 * fs.length) 7 + 1 + gI g (9 + 10 * si) 7)
  have m10 := Int.min_def 1000000 (gI g (9 + 10 * fs.length) 10 + gI g (9 + 10 * si) 10)
  have B7 : gI B (9 + 10 * fs.length) 7 = min 1000000 (gI g (9 + 10 * fs.length) 7 + 1 + gI g (9 + 10 * si) 7) := by
    rw [← hB, hI_sI_i (by decide), ← hA, gI_sI_eq, w32_id (by split at m7 <;> omega)]
  have B10 : gI B (9 + 10 * fs.length) 10 = min 1000000 (gI g (9 + 10 * fs.length) 10 + gI g (9 + 10 * si) 10) := by
    rw [← hB, gI_sI_eq, w32_id (by split at m10 <;> omega)]
  refine WP_some.2 ⟨all, ⟨?_, ⟨?_, ?_, y6, ?_⟩, hC.oth all⟩, ?_, ?_, ?_, by show b ≤ N; omega, by show k'.length ≤ b; omega⟩
  · exact dg.cgM (by rw [fMs_len]; exact eB) (fun a i q1 q2 => cB.1 _ _ (fun w => by rw [fMs_len] at q1; omega))
  · show MdX B (9 + 10 * fs.length) (cur ++ [(jn, 4, 0, (si : Int))]) (its ++ [((cur.length : Int), kl, k'.length)]) _ _
    have erg : rgT (totS [] (fMs fs)) (cur ++ [(jn, 4, 0, (si : Int))]) = rgT (totS [] (fMs fs)) cur + ((totS [] (fMs fs)).getD si (0, 0)).1 := by
      rw [rgT_app]
      show _ + (if (4 : Int) = 3 then _ else if (4 : Int) = 4 then ((totS [] (fMs fs)).getD (si : Int).toNat (0, 0)).1 else 0) = _
      rw [if_neg (by decide), if_pos rfl, Int.toNat_natCast]
    have ein : inT (totS [] (fMs fs)) (cur ++ [(jn, 4, 0, (si : Int))]) = inT (totS [] (fMs fs)) cur + (1 + ((totS [] (fMs fs)).getD si (0, 0)).2) := by
      rw [inT_app]
      show _ + (if (4 : Int) = 4 then 1 + ((totS [] (fMs fs)).getD (si : Int).toNat (0, 0)).2 else 0) = _
      rw [if_pos rfl, Int.toNat_natCast]
    obtain ⟨p1, p2, p3, p4, p5, p6⟩ := mg
    have pB : ∀ a i, ¬ (a = 9 + 10 * fs.length ∧ (i = 7 ∨ i = 10)) → gI B a i = gI g a i := cB.1
    refine ⟨p1.x (pB _ _ (by omega)) (pB _ _ (by omega)) (fun i => pB _ _ (by omega)), ?_, ?_, ?_, ?_, ?_⟩
    · rw [pB _ _ (by omega)]; exact p2
    · rw [pB _ _ (by omega)]; exact p3
    · rw [pB _ _ (by omega)]; exact p4
    · rw [B10, erg]
      have := p5.cap s5 (d := 0) (by omega) (by omega)
      rw [Int.add_zero, Int.add_zero] at this
      exact this
    · rw [B7, ein, show ∀ a b : Int, a + (1 + b) = a + 1 + b from fun a b => by omega]
      exact p6.cap s6 (d := 1) (by omega) (by omega)
  · refine y5.cg (fun i => ?_)
    rw [cB.1 _ _ (fun w => by omega), g2.1 _ _ (fun w => by unfold PIm at w; omega)]
  · show ItN _ gv (its ++ [((cur.length : Int), kl, k'.length)])
    refine ⟨?_, fun g hg => ?_⟩
    · rw [List.length_append (as := its), List.length_append (as := cur)]
      rw [List.length_append] at y7
      have : ([(jn, 4, 0, (si : Int))] : Mdl).length = 1 := rfl
      show its.length + 1 ≤ _
      omega
    · have := y8 g hg
      show g < (cur ++ [(jn, 4, 0, (si : Int))]).length
      rw [List.length_append]; omega
  · exact ((hq.ch y2 (fun i q1 q2 w => by unfold PTl at w; omega)).ch g2 (fun i q1 q2 w => by unfold PIm at w; omega)).ch cB (fun i q1 q2 w => by omega)
  · exact (ky.i g2 (fun a i w => by unfold PIm at w; omega)).i cB (fun a i w => by omega)
  · show gI B 4 10 = 0
    rw [cB.1 _ _ (fun w => by omega), g2.1 _ _ (fun w => by unfold PIm at w; omega), y2.1 _ _ (fun w => by unfold PTl at w; omega)]; exact h10
/-- behind the arguments -/
theorem kUt_ok {e c : Nat} (hC : CtI u n N fs cur gv its S0 z) (hsi : si < fs.length) (hq : ScQ u n z 4 (.inl e)) (hb : e ≤ N) (hv : v = (c : Int)) (hc41 : c ≤ 41) (ho : own ≤ N) (hE : NmE u n z (9 + 10 * fs.length + 1) cur.length jn) (hk1 : tkK u n jn = 1) (hin : inNm u n (mTk cur) jn = false) (hc : cur.length < 40) (hR : RwK z 170 (flat3 k')) (hl : k'.length ≤ e) (h10 : gI z 4 10 = 0) (hfr : fr = ((3 * kl : Nat) : Int)) (hkl : kl ≤ 10000) (hN : N ≤ 1500) :
    WP (kUt si (si : Int) fr (tkB u n own : Int) (v, z)) (fun y => ChIt (9 + 10 * fs.length) z y ∧ IOut u n N fs its S0 kl (oB (usT u n ((fMs fs).getD si []) own e c) (fun g => .inl (g, k', cur ++ [(jn, 4, 0, (si : Int))], gv, [(cur.length : Int)]))) y) := by
  have hfs := hC.b
  have hbn := hC.d.t.b
  have hBo := tkB_le (u := u) (n := n) own
  have hR2 := hR
  have bad : ∀ {r : Sto} {f : Int × Int}, ScQ u n r 4 (.inr f) → ChXd z r → okCap (gI r 170 2) → WP (bX (mX3_next r 4) fun x23 => bX (mX3_take x23 4 59) fun x24 => bX (mX3_ok x24 4) fun x25 => if w32 x25 = 0 then some x24 else kUw si (si : Int) fr x24) (fun y => ChIt (9 + 10 * fs.length) z y ∧ ScQ u n y 4 (.inr f) ∧ okCap (gI y 170 2)) := fun {r f} r1 r2 r3 => by
    have tr := (hC.x r2).d.t
    refine WP_call (k_next3 tr r1) (fun y hy => ?_)
    refine WP_call (k_take3 (tr.chS hy.2) hy.1 (by decide)) (fun q hq2 => ?_)
    have q1 : ScQ u n q 4 (.inr f) := hq2.1
    rw [k_ok q1, bX_some, bIf2, okQ_f, if_neg (by decide)]
    have c2 : ChXd z q := (r2.p hy.2).p hq2.2
    refine WP_some.2 ⟨c2.i, q1, ?_⟩
    rw [hq2.2.1 _ _ (fun w => by unfold PSc at w; omega), hy.2.1 _ _ (fun w => by unfold PSc at w; omega)]; exact r3
  unfold kUt
  dsimp only
  rw [k_is hq hC.d.t.u (by decide), bX_some]
  refine WP_call (k_must hq hbn) (fun x hx => ?_)
  obtain ⟨x1, x2⟩ := hx
  have cx := hC.x (ChXd.refl.f x2)
  have kx := hR.f x2
  obtain ⟨s1, s2, _⟩ := cx.2.2.1 si hsi
  rw [← fMs_d hsi] at s2
  have hsl : ((fMs fs).getD si []).length ≤ 40 := (hC.d.o si (by rw [fMs_len]; exact hsi)).2.1
  have hil := insL_le (m := (fMs fs).getD si [])
  unfold usT
  by_cases g : isS u n 41 e = true
  · have x1 : ScQ u n x 4 (.inl e) := by
      have : muT u n (isSq u n 41 (.inl e)) (.inl e) = .inl e := by unfold muT bq isSq; dsimp only; rw [if_pos g]
      rw [this] at x1; exact x1
    have hlt : e < N := lt3 hC.d.l (isS_K g) hb
    rw [k_ok x1, bX_some, bIf, show okQ (.inl e) = true from rfl, if_pos rfl, if_pos g, s2, hv, w32_id (by omega), w32_id (by omega)]
    by_cases q : c = (insL ((fMs fs).getD si [])).length
    · rw [if_neg (fun w => w (by omega)), bX_some, if_neg (by decide), bX_some, if_pos q]
      refine WP_call (k_next3 cx.d.t x1) (fun y hy => ?_)
      refine WP_call (k_take3 (cx.d.t.chS hy.2) hy.1 (by decide)) (fun r hr => ?_)
      have r1 : ScQ u n r 4 (tkT u n 59 (nxT u n e)) := hr.1
      have cr : ChXd z r := ((ChXd.refl.f x2).p hy.2).p hr.2
      have kr := (kx.p hy.2).p hr.2
      cases hT : tkT u n 59 (nxT u n e) with
      | inr f =>
        rw [hT] at r1
        rw [k_ok r1, bX_some, bIf2, okQ_f, if_neg (by decide)]
        exact WP_some.2 ⟨cr.i, r1, kr.2.2.1⟩
      | inl d =>
        rw [hT] at r1
        obtain ⟨a, q1, q2, q3⟩ := tkT_inq hT
        obtain ⟨n1, n2⟩ := nxT_ok q1
        subst n1
        have hlt2 : e + 1 < N := lt3 hC.d.l (isS_K q2) (by omega)
        rw [k_ok r1, bX_some, bIf2, show okQ (.inl d) = true from rfl, if_pos rfl]
        have hEr : NmE u n r (9 + 10 * fs.length + 1) cur.length jn := hE.cg (cr.1 _ _ (by omega) (by omega) (fun w => by unfold PDx at w; omega)) (fun t => cr.1 _ _ (by omega) (by omega) (fun w => by unfold PDx at w; omega))
        have h10r : gI r 4 10 = 0 := by rw [opnP hr.2, opnP hy.2, opnF x2]; exact h10
        exact (kUw_ok (hC.x cr) hsi r1 (by omega) hEr hk1 hin hc kr (by omega) h10r hfr hkl hN).mono (fun y hy => ⟨cr.i.tr hy.1, hy.2⟩)
    · rw [if_pos (fun w => q (by omega)), bX_some, if_pos rfl, if_neg q]
      refine WP_bX.2 (WP_call (k_failP x1 (c := 14) (by omega) (p := (tkB u n own : Int)) (by omega)) (fun r hr => WP_some.2 ?_))
      have r1 : ScQ u n r 4 (.inr (14, (tkB u n own : Int))) := hr.1
      exact bad r1 ((ChXd.refl.f x2).f hr.2) (kx.f hr.2).2.2.1
  · have em : muT u n (isSq u n 41 (.inl e)) (.inl e) = flT u n 2 e := by unfold muT bq isSq; dsimp only; rw [if_neg g]
    rw [em] at x1
    have x1 : ScQ u n x 4 (.inr (2, (tkB u n e : Int))) := x1
    rw [k_ok x1, bX_some, bIf, okQ_f, if_neg (by decide), bX_some, if_neg (by decide), bX_some, if_neg g]
    exact bad x1 (ChXd.refl.f x2) kx.2.2.1
/-- an instance -/
theorem k_inst7 (hC : CtI u n N fs cur gv its S0 S) (hq : ScQ u n S 4 (.inl j)) (hj : j < N) (hR : RwK S 170 (flat3 k)) (hl : k.length ≤ j) (h10 : gI S 4 10 = 0) (hN : N ≤ 1500) :
    WP (mX2_instance S) (fun y => ChIt (9 + 10 * fs.length) S y ∧ ∃ r, usR u n (fMt fs) (fMs fs) cur j k r ∧ IOut u n N fs its S0 k.length (oB r (fun t => .inl (t.1, t.2.1, cur ++ [(j + 1, 4, 0, (t.2.2 : Int))], gv, [(cur.length : Int)]))) y) := by
  have hfs := hC.b
  have hbn := hC.d.t.b
  have hlen := hC.d.m.2.1
  have eM : 9 + 10 * (fMs fs).length = 9 + 10 * fs.length := by rw [fMs_len]
  rw [inst_eq2]
  refine WP_call (k_next3 hC.d.t hq) (fun x1 hx => ?_)
  obtain ⟨a1, a2⟩ := hx
  have a1 : ScQ u n x1 4 (nxT u n j) := a1
  have cx := hC.x (ChXd.refl.p a2)
  refine WP_call (k_newD cx.d a1) (fun x2 hz => ?_)
  obtain ⟨z1, z2, z3, z4⟩ := hz
  rw [eM] at z2 z4
  have i2 : ChIt (9 + 10 * fs.length) S x2 := (ChXd.refl.p a2).i.tr (z2.i (PNn_i (by omega)))
  have c2 := cx.n z2 z3
  have k2 : RwK x2 170 (flat3 k) := (hR.p a2).i z2 (fun a i w => by unfold PNn PSc at w; omega)
  have h102 : gI x2 4 10 = 0 := by rw [z2.1 _ _ (fun w => by unfold PNn PSc at w; omega), opnP a2]; exact h10
  have out : ∀ {y : Sto} {f : Int × Int}, usH u n (fMt fs) cur j = .inr f → ChIt (9 + 10 * fs.length) S y → ScQ u n y 4 (.inr f) → okCap (gI y 170 2) → (ChIt (9 + 10 * fs.length) S y ∧ ∃ r, usR u n (fMt fs) (fMs fs) cur j k r ∧ IOut u n N fs its S0 k.length (oB r (fun t => .inl (t.1, t.2.1, cur ++ [(j + 1, 4, 0, (t.2.2 : Int))], gv, [(cur.length : Int)]))) y) := fun {y f} e1 e2 e3 e4 => ⟨e2, .inr f, Or.inl ⟨f, e1, rfl⟩, e3, e4⟩
  rw [k_isName z1, bX_some]
  refine WP_call (k_must z1 hbn) (fun x4 hx4 => ?_)
  obtain ⟨m1, m2⟩ := hx4
  have i4 : ChIt (9 + 10 * fs.length) S x4 := i2.tr (ChXd.refl.f m2).i
  have c4 := c2.x (ChXd.refl.f m2)
  have k4 := k2.f m2
  rw [k_isName m1, bX_some, bIf]
  cases hA : newT u n 40 (mTk cur) (nxT u n j) with
  | inr f =>
    rw [hA] at m1
    have m1 : ScQ u n x4 4 (.inr f) := m1
    have e0 : isK u n 1 (muT u n (isK u n 1 (.inr f)) (.inr f)) = false := rfl
    rw [e0, if_neg (by decide), bX_some, kUc_f m1]
    refine WP_some.2 (out ?_ i4 m1 k4.2.2.1)
    unfold usH
    rw [hA]; rfl
  | inl b =>
    rw [hA] at m1
    obtain ⟨jn, g1, g2, g3, g4, g5⟩ := newT_inl hA
    obtain ⟨n1, n2⟩ := nxT_ok g1
    subst n1
    subst g2
    rw [mTk_len] at g5
    have l1 : j + 1 < N := lt1 hC.d.l g3 (by omega)
    by_cases kb : tkK u n (j + 1 + 1) = 1
    · have em : muT u n (isK u n 1 (.inl (j + 1 + 1))) (.inl (j + 1 + 1)) = .inl (j + 1 + 1) := by unfold muT bq isK; dsimp only; rw [if_pos (decide_eq_true kb)]
      rw [em] at m1 ⊢
      have l2 : j + 1 + 1 < N := lt1 hC.d.l kb (by omega)
      have ek : isK u n 1 (.inl (j + 1 + 1)) = true := decide_eq_true kb
      rw [ek, if_pos rfl]
      refine WP_bX.2 (WP_call (k_findN c4.d.t m1 kb c4.2.2.2.1.1 (N := 17) (by rw [fMt_len]; omega) (by omega) (by decide) (by decide)) (fun r hr => WP_some.2 ?_))
      have p14 : gI x1 4 4 = (tkB u n (j + 1) : Nat) := by
        have : ScQ u n x1 4 (.inl (j + 1)) := by rw [g1] at a1; exact a1
        exact this.2.2.1
      rw [p14]
      unfold kUc
      rw [k_ok m1, bX_some, bIf, show okQ (.inl (j + 1 + 1)) = true from rfl, if_pos rfl]
      rcases hr with ⟨r1, r2⟩ | ⟨si, r1, r2, r3, r4⟩
      · subst r1
        rw [if_neg (by decide), bX_some, if_pos rfl]
        refine WP_bX.2 (WP_call (k_fail m1 (c := 11) (by omega) hbn) (fun y hy => WP_some.2 ?_))
        obtain ⟨y1, y2⟩ := hy
        have y1 : ScQ u n y 4 (.inr (11, (tkB u n (j + 1 + 1) : Int))) := y1
        rw [k_ok y1, bX_some, bIf2, okQ_f, if_neg (by decide)]
        refine WP_some.2 (out ?_ (i4.tr (ChXd.refl.f y2).i) y1 (k4.f y2).2.2.1)
        unfold usH
        rw [hA, oB_l, if_pos kb, r2, if_neg (by decide)]
      · rw [fMt_len] at r1
        subst r2
        have efi : fiN u n (fMt fs) (j + 1 + 1) = si := (fiN_eq c4.2.2.2.1.2 (by rw [fMt_len]; exact r1) r3).2
        have hcnt : gI x4 3 4 = (fs.length : Int) := c4.2.2.2.2
        rw [hcnt, w32_id (x := (si : Int)) (by omega), w32_id (x := (fs.length : Int)) (by omega), if_pos (by omega), if_neg (by omega), bX_some, if_neg (by decide), bX_some, k_ok m1, bX_some, bIf2, show okQ (.inl (j + 1 + 1)) = true from rfl, if_pos rfl]
        have eA : rdA 16 (si : Int) (fun i12 => kUm i12 (si : Int) (tkB u n (j + 1) : Int) x4) = kUm si (si : Int) (tkB u n (j + 1) : Int) x4 := by
          unfold rdA ixn
          rw [w32_id (by omega), if_pos (by omega), Int.toNat_natCast]
        rw [eA]
        unfold kUm
        refine WP_call (k_next3 c4.d.t m1) (fun x13 h13 => ?_)
        refine WP_call (k_take3 (c4.d.t.chS h13.2) h13.1 (by decide)) (fun x14 h14 => ?_)
        have s14 : ScQ u n x14 4 (tkT u n 40 (nxT u n (j + 1 + 1))) := h14.1
        have x14x : ChXd x4 x14 := (ChXd.refl.p h13.2).p h14.2
        have c14 := c4.x x14x
        have k14 := (k4.p h13.2).p h14.2
        have i14 := i4.tr x14x.i (M := 9 + 10 * fs.length)
        have e170 : gI x14 170 1 = ((3 * k.length : Nat) : Int) := by rw [k14.1, flat3_len]
        have eH : usH u n (fMt fs) cur j = oB (tkT u n 40 (nxT u n (j + 1 + 1))) (fun d => .inl (d, si)) := by
          unfold usH
          rw [hA, oB_l, if_pos kb, if_pos r4, efi]
        rw [e170]
        cases hT : tkT u n 40 (nxT u n (j + 1 + 1)) with
        | inr f =>
          rw [hT] at s14
          rw [k_ok s14, bX_some, bIf, okQ_f, if_neg (by decide), bX_some]
          refine (kUt_f c14.d.t s14 k14.2.2.1).mono (fun y hy => out ?_ (i14.tr hy.1) hy.2.1 hy.2.2)
          rw [eH, hT]; rfl
        | inl d =>
          rw [hT] at s14
          obtain ⟨a, q1, q2, q3⟩ := tkT_inq hT
          obtain ⟨b1, b2⟩ := nxT_ok q1
          subst b1
          have l3 : j + 1 + 1 + 1 < N := lt3 hC.d.l (isS_K q2) (by omega)
          rw [k_ok s14, bX_some, bIf, show okQ (.inl d) = true from rfl, if_pos rfl]
          have h10d : gI x14 4 10 = 0 := by rw [opnP h14.2, opnP h13.2, opnF m2]; exact h102
          have h6 : gI x14 (9 + 10 * si) 6 = ((insL ((fMs fs).getD si [])).length : Int) := by rw [fMs_d r1]; exact (c14.2.2.1 si r1).2.1
          refine WP_bX.2 (WP_call (k_args (own := j + 1) (sub := (fMs fs).getD si []) hN (by rw [fMs_len]; exact hfs) rfl (by rw [fMs_len]; exact r1) rfl c14.d h6 s14 (by omega) k14 (by omega) h10d) (fun y hy => WP_some.2 ?_))
          obtain ⟨y1, res, y2, y3⟩ := hy
          have eH2 : usH u n (fMt fs) cur j = .inl (d, si) := by rw [eH, hT]; rfl
          have cy := c14.x y1
          cases res with
          | inr f =>
            obtain ⟨y4, y5⟩ := y3
            refine (kUt_f cy.d.t y4 y5).mono (fun v hv => ⟨(i14.tr y1.i).tr hv.1, .inr f, Or.inr ⟨(d, si), eH2, .inr f, y2, rfl⟩, hv.2⟩)
          | inl ek =>
            obtain ⟨e, c, k'⟩ := ek
            obtain ⟨y4, y5, y6, y7, y8, y9, y10⟩ := y3
            have hE : NmE u n y.2 (9 + 10 * fs.length + 1) cur.length (j + 1) := by
              have h0 := z4 (j + 1) (j + 2) g1 (by rw [g1] at hA ⊢; exact hA)
              refine ((h0.cg (m2.1 _ _ (fun q => by unfold PF89 at q; omega)) (fun t => m2.1 _ _ (fun q => by unfold PF89 at q; omega))).cg (x14x.1 _ _ (by omega) (by omega) (fun w => by unfold PDx at w; omega)) (fun t => x14x.1 _ _ (by omega) (by omega) (fun w => by unfold PDx at w; omega))).cg (y1.1 _ _ (by omega) (by omega) (fun w => by unfold PDx at w; omega)) (fun t => y1.1 _ _ (by omega) (by omega) (fun w => by unfold PDx at w; omega))
            refine (kUt_ok (c := c) cy r1 y5 y8 y4 y10 (own := j + 1) (by omega) hE g3 g4 (by omega) y6 y9 y7 (kl := k.length) rfl (by omega) hN).mono (fun v hv => ⟨(i14.tr y1.i).tr hv.1, oB (usT u n ((fMs fs).getD si []) (j + 1) e c) (fun g => .inl (g, k', si)), Or.inr ⟨(d, si), eH2, .inl (e, c, k'), y2, rfl⟩, ?_⟩)
            have hv2 := hv.2
            cases hU : usT u n ((fMs fs).getD si []) (j + 1) e c with
            | inr f => rw [hU] at hv2; exact hv2
            | inl g => rw [hU] at hv2; exact hv2
    · have em : muT u n (isK u n 1 (.inl (j + 1 + 1))) (.inl (j + 1 + 1)) = flT u n 2 (j + 1 + 1) := by unfold muT bq isK; dsimp only; rw [if_neg (fun q => kb (of_decide_eq_true q))]
      rw [em] at m1 ⊢
      have m1 : ScQ u n x4 4 (.inr (2, (tkB u n (j + 1 + 1) : Int))) := m1
      have e0 : isK u n 1 (flT u n 2 (j + 1 + 1)) = false := rfl
      rw [e0, if_neg (by decide), bX_some, kUc_f m1]
      refine WP_some.2 (out ?_ i4 m1 k4.2.2.1)
      unfold usH
      rw [hA, oB_l, if_neg kb]
end KUS
