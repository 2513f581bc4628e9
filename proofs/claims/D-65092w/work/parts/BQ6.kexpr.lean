/-! expressions of a cell: the class -/
def PEx (a i : Nat) : Prop := a = 185 ∧ 2 ≤ i ∧ i ≤ 10
def CtE (u : Nat → Int) (n N : Nat) (ps : List Nat) (S : Sto) : Prop := TpK S 185 u n ∧ NmK u n S 189 ps ∧ ps.length ≤ 3 ∧ LstT u n N
theorem CtE.t {u : Nat → Int} {n N : Nat} {ps : List Nat} {S : Sto} (h : CtE u n N ps S) : TpK S 185 u n := h.1
theorem CtE.m {u : Nat → Int} {n N : Nat} {ps : List Nat} {S : Sto} (h : CtE u n N ps S) : NmK u n S 189 ps := h.2.1
theorem CtE.l {u : Nat → Int} {n N : Nat} {ps : List Nat} {S : Sto} (h : CtE u n N ps S) : ps.length ≤ 3 := h.2.2.1
theorem CtE.z {u : Nat → Int} {n N : Nat} {ps : List Nat} {S : Sto} (h : CtE u n N ps S) : LstT u n N := h.2.2.2
def RsE (u : Nat → Int) (n o : Nat) (y : Int × Sto) : Rsv → Prop
  | .inl (j, v) => ScQ u n y.2 185 (.inl j) ∧ y.1 = v ∧ gI y.2 185 10 = (o : Int)
  | .inr f => ScQ u n y.2 185 (.inr f)
def PsE (u : Nat → Int) (n : Nat) (ps : List Nat) (S : Sto) (lx : Lx) (j o : Nat) (y : Int × Sto) : Prop := ∃ res, LE u n ps lx j o res ∧ RsE u n o y res ∧ ChW PEx S y.2
section KEX
variable {S S' : Sto} {u : Nat → Int} {n N o : Nat} {ps : List Nat}
theorem CtE.ch (h : CtE u n N ps S) (g : ChW PEx S S') : CtE u n N ps S' :=
  ⟨h.t.ch g (fun q => by unfold PEx at q; omega) (fun i q => by unfold PEx at q; omega), h.m.ch g (fun q => by unfold PEx at q; omega) (fun i q => by unfold PEx at q; omega) (fun i q => by unfold PEx at q; omega), h.l, h.z⟩
theorem PSc_PEx : ∀ a i, PSc 185 a i → PEx a i := fun a i q => by unfold PSc at q; unfold PEx; omega
theorem P89_PEx : ∀ a i, PF89 185 a i → PEx a i := fun a i q => by unfold PF89 at q; unfold PEx; omega
theorem ite_lt {c : Prop} [Decidable c] {a b k : Nat} (h1 : a < k) (h2 : b < k) : (if c then a else b) < k := by split <;> assumption
theorem bIf {σ : Type} {b : Bool} {A B : Option σ} : (if ¬ w32 (b2i b) = 0 then A else B) = if b = true then A else B := by cases b <;> rfl
theorem bIf2 {σ : Type} {b : Bool} {A B : Option σ} : (if w32 (b2i b) = 0 then A else B) = if b = true then B else A := by cases b <;> rfl
/-- one level of the descent, whatever its sign -/
def gLp (c : Int) (op : Int → Int → Int) (sub : Sto → Option (Int × Sto)) (s2 : Int × Sto) : Option ((Int × Sto) ⊕ (Int × Sto)) := bX (mX3_is s2.2 185 c) fun x3 => if ¬ w32 x3 = 0 then bX (mX3_next s2.2 185) fun x4 => bX (sub x4) fun x5 => some (Sum.inl (op s2.1 x5.1, x5.2)) else some (Sum.inr (s2.1, s2.2))
def gEp (c : Int) (op : Int → Int → Int) (sub : Sto → Option (Int × Sto)) (S : Sto) : Option (Int × Sto) := bX (sub S) fun x1 => bX (lpF (gLp c op sub) (x1.1, x1.2)) fun y6 => some (y6.1, y6.2)
/-- nothing is done behind a fault -/
def FltK (u : Nat → Int) (n : Nat) (sub : Sto → Option (Int × Sto)) : Prop := ∀ S f, (∀ i, i < n → 0 ≤ u i ∧ u i < 256) → ScQ u n S 185 (.inr f) → WP (sub S) (fun y => y.2 = S)
def OkK (u : Nat → Int) (n N : Nat) (ps : List Nat) (o : Nat) (lx : Lx) (sub : Sto → Option (Int × Sto)) : Prop := ∀ S j, CtE u n N ps S → ScQ u n S 185 (.inl j) → j ≤ N → gI S 185 10 = (o : Int) → WP (sub S) (PsE u n ps S lx j o)
theorem gEp_f {c : Int} {op : Int → Int → Int} {sub : Sto → Option (Int × Sto)} (hc : 0 ≤ c ∧ c < 256) (h : FltK u n sub) : FltK u n (gEp c op sub) := by
  intro S f hu hS
  unfold gEp
  refine WP_call (h S f hu hS) (fun x hx => ?_)
  refine WP_call (R := fun y => y.2 = S) ?_ (fun y hy => WP_some.2 hy)
  refine WP_lpF (fun s => s.2 = S) (fun _ => 0) hx (by decide) (fun s hs => ?_)
  unfold gLp
  rw [hs, k_is hS hu hc, bX_some]
  exact WP_some.2 rfl
theorem gEp_ok {r : Nat} {sub : Sto → Option (Int × Sto)} (hr : opc r = 124 ∨ opc r = 94 ∨ opc r = 38) (hf : FltK u n sub) (h : OkK u n N ps o (sbL r) sub) : OkK u n N ps o (lxE r) (gEp (opc r) (cmb r) sub) := by
  intro S j hC hS hj ho
  have hu := hC.t.u
  unfold gEp
  refine WP_call (h S j hC hS hj ho) (fun x hx => ?_)
  obtain ⟨res, h1, h2, h3⟩ := hx
  refine WP_call (R := fun y => PsE u n ps S (lxE r) j o y) ?_ (fun y hy => WP_some.2 hy)
  cases res with
  | inr f =>
    have h2 : ScQ u n x.2 185 (.inr f) := h2
    refine WP_lpF (fun s => s.2 = x.2) (fun _ => 0) rfl (by decide) (fun s hs => ?_)
    unfold gLp
    rw [hs, k_is h2 hu (by omega), bX_some]
    exact WP_some.2 ⟨.inr f, .ef h1, h2, h3⟩
  | inl jv =>
    obtain ⟨j1, v⟩ := jv
    obtain ⟨h2, h4, h5⟩ := h2
    have le1 := h1.le hC.z hj _ _ rfl
    refine WP_lpF (fun s => ChW PEx S s.2 ∧ ((∃ j' w, ScQ u n s.2 185 (.inl j') ∧ s.1 = w ∧ gI s.2 185 10 = (o : Int) ∧ j' ≤ N ∧ ∀ res, LE u n ps (lxL r w) j' o res → LE u n ps (lxL r v) j1 o res) ∨ ∃ f, ScQ u n s.2 185 (.inr f) ∧ LE u n ps (lxL r v) j1 o (.inr f))) (fun s => if gI s.2 185 8 = 0 then 1 + (n - (gI s.2 185 4).toNat) else 0) ⟨h3, Or.inl ⟨j1, v, h2, h4, h5, le1.2.1, fun _ q => q⟩⟩ ?_ (fun s hs => ?_)
    · have := hC.t.b
      exact ite_lt (show 1 + (n - _) < 1000000000000 by omega) (show 0 < 1000000000000 by omega)
    obtain ⟨sv, s⟩ := s
    obtain ⟨s1, s2⟩ := hs
    dsimp only at s1 s2 ⊢
    have Cs := hC.ch s1
    unfold gLp
    dsimp only
    rcases s2 with ⟨j', w, a1, a2, a3, a4, a5⟩ | ⟨f, a1, a2⟩
    · subst a2
      rw [k_is a1 hu (by omega), bX_some]
      show WP (if ¬ w32 (b2i (isS u n (opc r) j')) = 0 then _ else _) _
      rw [bIf]
      cases e : isS u n (opc r) j' with
      | false =>
        rw [if_neg (by decide)]
        exact WP_some.2 ⟨.inl (j', sv), .el h1 (a5 _ (.ls e)), ⟨a1, rfl, a3⟩, s1⟩
      | true =>
        rw [if_pos rfl]
        have hlt := hC.z.le (i := j') (by rw [isS_K e]; decide) a4
        have hBl := hC.z.lt hlt
        have m8 : gI s 185 8 = 0 := a1.1
        have m4 : gI s 185 4 = (tkB u n j' : Nat) := a1.2.2.1
        refine WP_call (k_next3 Cs.t a1) (fun y hy => ?_)
        obtain ⟨y1, y2⟩ := hy
        have cy : ChW PEx S y := s1.tr y2 PSc_PEx
        have y1 : ScQ u n y 185 (nxT u n j') := y1
        cases eN : nxT u n j' with
        | inr f =>
          rw [eN] at y1
          refine WP_call (hf y f hu y1) (fun z hz => WP_some.2 ⟨⟨?_, Or.inr ⟨f, ?_, a5 _ (.lf e eN)⟩⟩, ?_⟩)
          · show ChW PEx S z.2; rw [hz]; exact cy
          · show ScQ u n z.2 185 _; rw [hz]; exact y1
          · dsimp only; rw [hz, m8, m4, if_pos rfl, if_neg (by rw [y1.1]; exact y1.2.1)]; omega
        | inl j2 =>
          rw [eN] at y1
          have e2 := nxT_inl eN
          refine WP_call (h y j2 (hC.ch cy) y1 (by omega) (by rw [y2.1 _ _ (fun q => by unfold PSc at q; omega)]; exact a3)) (fun z hz => WP_some.2 ?_)
          obtain ⟨res, z1, z2, z3⟩ := hz
          have cz : ChW PEx S z.2 := cy.tr z3 (fun _ _ q => q)
          cases res with
          | inr f =>
            have z2 : ScQ u n z.2 185 (.inr f) := z2
            refine ⟨⟨cz, Or.inr ⟨f, z2, a5 _ (.lg e eN z1)⟩⟩, ?_⟩
            dsimp only; rw [m8, m4, if_pos rfl, if_neg (by rw [z2.1]; exact z2.2.1)]; omega
          | inl jw =>
            obtain ⟨j3, w⟩ := jw
            obtain ⟨z4, z5, z6⟩ := z2
            have le2 := z1.le hC.z (by omega) _ _ rfl
            refine ⟨⟨cz, Or.inl ⟨j3, cmb r sv w, z4, ?_, z6, le2.2.1, fun res q => a5 _ (.lc e eN z1 q)⟩⟩, ?_⟩
            · dsimp only; rw [z5]
            · have z4' : gI z.2 185 4 = (tkB u n j3 : Nat) := z4.2.2.1
              have z48 : gI z.2 185 8 = 0 := z4.1
              have := tkB_slt (j := j3) hBl (by omega)
              have := tkB_le (u := u) (n := n) j3
              dsimp only; rw [m8, m4, z48, z4', if_pos rfl, if_pos rfl, Int.toNat_natCast, Int.toNat_natCast]; omega
    · rw [k_is a1 hu (by omega), bX_some]
      exact WP_some.2 ⟨.inr f, .el h1 a2, a1, s1⟩
theorem not_f {rc : Sto → Option (Int × Sto)} : FltK u n (mX10_not rc) := by
  intro S f hu hS
  unfold mX10_not
  refine WP_call (R := fun y => y = (0, S)) ?_ (fun y hy => ?_)
  · refine WP_lpF (fun s => s = (0, S)) (fun _ => 0) rfl (by decide) (fun s hs => ?_)
    subst hs
    unfold mX10_not_L2
    rw [k_is hS hu (by decide), bX_some]
    exact WP_some.2 rfl
  · subst hy
    rw [k_ok hS, bX_some]
    exact WP_some.2 rfl
theorem trn_eq : ∀ v : Fin 256, aAnd (aXor (v.val : Int) (-1)) 255 = aXor (v.val : Int) 255 := by decide +kernel
theorem trn_v {v : Int} (hv : 0 ≤ v ∧ v < 256) : aAnd (aXor v (-1)) 255 = aXor v 255 := by
  obtain ⟨a, rfl⟩ := Int.eq_ofNat_of_zero_le hv.1
  exact trn_eq ⟨a, by omega⟩
theorem prim_ok {rc : Sto → Option (Int × Sto)} (ho : o ≤ 60) (hf : FltK u n rc) (h : o < 60 → OkK u n N ps (o + 1) (lxE 1) rc) : OkK u n N ps o lxP (mX10_primary rc) := by
  intro S j hC hS hj h10
  have hu := hC.t.u
  have hn := hC.t.b
  unfold mX10_primary
  rw [k_is hS hu (by decide), bX_some]
  show WP (if ¬ w32 (b2i (isS u n 40 j)) = 0 then _ else _) _
  rw [bIf]
  cases e : isS u n 40 j with
  | true =>
    rw [if_pos rfl]
    unfold mX3_opens
    rw [k_ok hS, bX_some]
    show WP (bX (bX (bX (if ¬ w32 (b2i true) = 0 then _ else _) _) _) _) _
    rw [if_pos (by decide), h10, w32_id (by omega)]
    by_cases e60 : o = 60
    · rw [if_pos (by omega), bX_some, if_pos rfl]
      refine WP_bX.2 (WP_call (R := fun y => ScQ u n y 185 (flT u n 3 j) ∧ ChW (PF89 185) S y) ?_ (fun y hy => ?_))
      · exact WP_call (k_fail hS (by omega) hn) (fun y hy => WP_some.2 hy)
      obtain ⟨y1, y2⟩ := hy
      rw [wf_eq]
      refine WP_some.2 ?_
      generalize hz : sI y 185 10 (gI y 185 10 + 1) = z
      have cz : ChW PEx S z := by rw [← hz]; exact (ChW.refl.tr y2 P89_PEx).sI ⟨rfl, by omega, by omega⟩
      have sz : ScQ u n z 185 (flT u n 3 j) := by rw [← hz]; exact y1.cg (fun i _ _ => hI_sI_i (by omega))
      refine WP_call (k_next3 (hC.ch cz).t sz) (fun w hw => ?_)
      have cw : ChW PEx S w := cz.tr hw.2 PSc_PEx
      have sw : ScQ u n w 185 (flT u n 3 j) := hw.1
      refine WP_call (hf w _ hu sw) (fun x hx => ?_)
      rw [hx]
      refine WP_call (k_take3 (hC.ch cw).t sw (by decide)) (fun v hv => ?_)
      have cv : ChW PEx S v := cw.tr hv.2 PSc_PEx
      rw [wf_eq]
      exact WP_some.2 ⟨flV u n 3 j, .po e e60, hv.1.cg (fun i _ _ => hI_sI_i (by omega)), cv.sI ⟨rfl, by omega, by omega⟩⟩
    · rw [if_neg (by omega), bX_some, if_neg (by decide), bX_some, wf_eq, bX_some]
      generalize hz : sI S 185 10 (gI S 185 10 + 1) = z
      have cz : ChW PEx S z := by rw [← hz]; exact ChW.refl.sI ⟨rfl, by omega, by omega⟩
      have sz : ScQ u n z 185 (.inl j) := by rw [← hz]; exact hS.cg (fun i _ _ => hI_sI_i (by omega))
      have z10 : gI z 185 10 = ((o + 1 : Nat) : Int) := by rw [← hz, gI_sI_eq, h10, w32_id (by omega)]; omega
      refine WP_call (k_next3 (hC.ch cz).t sz) (fun w hw => ?_)
      have cw : ChW PEx S w := cz.tr hw.2 PSc_PEx
      have sw : ScQ u n w 185 (nxT u n j) := hw.1
      have w10 : gI w 185 10 = ((o + 1 : Nat) : Int) := by rw [hw.2.1 _ _ (fun q => by unfold PSc at q; omega)]; exact z10
      cases eN : nxT u n j with
      | inr f =>
        rw [eN] at sw
        refine WP_call (hf w _ hu sw) (fun x hx => ?_)
        rw [hx]
        refine WP_call (k_take3 (hC.ch cw).t sw (by decide)) (fun v hv => ?_)
        have cv : ChW PEx S v := cw.tr hv.2 PSc_PEx
        rw [wf_eq]
        exact WP_some.2 ⟨.inr f, .pf e e60 eN, (show ScQ u n v 185 (.inr f) from hv.1).cg (fun i _ _ => hI_sI_i (by omega)), cv.sI ⟨rfl, by omega, by omega⟩⟩
      | inl j1 =>
        rw [eN] at sw
        have e1 := nxT_inl eN
        have hlt := hC.z.le (i := j) (by rw [isS_K e]; decide) hj
        refine WP_call (h (by omega) w j1 (hC.ch cw) sw (by omega) w10) (fun x hx => ?_)
        obtain ⟨res, x1, x2, x3⟩ := hx
        have cx : ChW PEx S x.2 := cw.tr x3 (fun _ _ q => q)
        cases res with
        | inr f =>
          have x2 : ScQ u n x.2 185 (.inr f) := x2
          refine WP_call (k_take3 (hC.ch cx).t x2 (by decide)) (fun v hv => ?_)
          have cv : ChW PEx S v := cx.tr hv.2 PSc_PEx
          rw [wf_eq]
          exact WP_some.2 ⟨.inr f, .pg e e60 eN x1, (show ScQ u n v 185 (.inr f) from hv.1).cg (fun i _ _ => hI_sI_i (by omega)), cv.sI ⟨rfl, by omega, by omega⟩⟩
        | inl jv =>
          obtain ⟨j2, vv⟩ := jv
          obtain ⟨x4, x5, x6⟩ := x2
          refine WP_call (k_take3 (hC.ch cx).t x4 (by decide)) (fun v hv => ?_)
          have cv : ChW PEx S v := cx.tr hv.2 PSc_PEx
          have v10 : gI v 185 10 = ((o + 1 : Nat) : Int) := by rw [hv.2.1 _ _ (fun q => by unfold PSc at q; omega)]; exact x6
          rw [wf_eq]
          refine WP_some.2 ⟨rsQ (tkT u n 41 (.inl j2)) vv, .pc e e60 eN x1, ?_, cv.sI ⟨rfl, by omega, by omega⟩⟩
          have sv := hv.1
          cases eT : tkT u n 41 (.inl j2) with
          | inr f => rw [eT] at sv; exact sv.cg (fun i _ _ => hI_sI_i (by omega))
          | inl j3 =>
            rw [eT] at sv
            exact ⟨sv.cg (fun i _ _ => hI_sI_i (by omega)), x5, by show gI (sI v 185 10 _) 185 10 = _; rw [gI_sI_eq, v10, w32_id (by omega)]; omega⟩
  | false =>
    rw [if_neg (by decide), k_isName hS, bX_some]
    refine WP_call (k_must hS hn) (fun y hy => ?_)
    obtain ⟨y1, y2⟩ := hy
    have cy : ChW PEx S y := ChW.refl.tr y2 P89_PEx
    have y10 : gI y 185 10 = (o : Int) := by rw [y2.1 _ _ (fun q => by unfold PF89 at q; omega)]; exact h10
    rw [k_isName y1, bX_some, bIf]
    by_cases eK : tkK u n j = 1
    · have y1 : ScQ u n y 185 (.inl j) := by
        have q : muT u n (isK u n 1 (.inl j)) (.inl j) = .inl j := by unfold muT bq isK; dsimp only; rw [if_pos (decide_eq_true eK)]
        rw [q] at y1; exact y1
      have q1 : isK u n 1 (muT u n (isK u n 1 (.inl j)) (.inl j)) = true := by unfold muT bq isK; dsimp only; rw [if_pos (decide_eq_true eK)]; exact decide_eq_true eK
      rw [if_pos q1]
      refine WP_call (R := FdN u n ps j) ?_ (fun r hr => ?_)
      · exact WP_call (k_findN (hC.ch cy).t y1 eK (hC.ch cy).m (N := 4) (Nat.le_succ_of_le hC.l) (by omega) (by decide) (by decide)) (fun r hr => WP_some.2 hr)
      rcases hr with ⟨hr, hi⟩ | ⟨i, hi, hr, hs, _⟩
      · subst hr
        rw [if_pos (by decide)]
        refine WP_call (R := fun z => ScQ u n z 185 (flT u n 11 j) ∧ ChW (PF89 185) y z) ?_ (fun z hz => ?_)
        · exact WP_call (k_fail y1 (by omega) hn) (fun z hz => WP_some.2 hz)
        have cz : ChW PEx S z := cy.tr hz.2 P89_PEx
        refine WP_call (k_next3 (hC.ch cz).t hz.1) (fun w hw => ?_)
        rw [if_pos (by decide), bX_some]
        exact WP_some.2 ⟨flV u n 11 j, .pm e eK hi, hw.1, cz.tr hw.2 PSc_PEx⟩
      · subst hr
        have h3 := hC.l
        rw [if_neg (by rw [w32_id (by omega)]; omega), bX_some]
        refine WP_call (k_next3 (hC.ch cy).t y1) (fun w hw => ?_)
        have cw : ChW PEx S w := cy.tr hw.2 PSc_PEx
        have w10 : gI w 185 10 = (o : Int) := by rw [hw.2.1 _ _ (fun q => by unfold PSc at q; omega)]; exact y10
        rw [if_neg (by rw [w32_id (by omega)]; omega), rdC_e (by simp only [List.length]; omega), Int.toNat_natCast, bX_some]
        refine WP_some.2 ⟨rsQ (nxT u n j) (vlI i), .pk e eK hi hs, ?_, cw⟩
        have sw : ScQ u n w 185 (nxT u n j) := hw.1
        cases eN : nxT u n j with
        | inr f => rw [eN] at sw; exact sw
        | inl j1 => rw [eN] at sw; exact ⟨sw, rfl, w10⟩
    · have y1 : ScQ u n y 185 (flT u n 2 j) := by
        have q : muT u n (isK u n 1 (.inl j)) (.inl j) = flT u n 2 j := by unfold muT bq isK; dsimp only; rw [if_neg (fun q => eK (of_decide_eq_true q))]
        rw [q] at y1; exact y1
      have q1 : ¬ isK u n 1 (muT u n (isK u n 1 (.inl j)) (.inl j)) = true := by unfold muT bq isK flT; dsimp only; rw [if_neg (fun q => eK (of_decide_eq_true q))]; exact fun h => by cases h
      rw [if_neg q1, bX_some, if_pos (by decide)]
      refine WP_call (R := fun z => ScQ u n z 185 (flT u n 2 j) ∧ ChW (PF89 185) y z) ?_ (fun z hz => ?_)
      · exact WP_call (k_fail y1 (by omega) hn) (fun z hz => WP_some.2 hz)
      have cz : ChW PEx S z := cy.tr hz.2 P89_PEx
      refine WP_call (k_next3 (hC.ch cz).t hz.1) (fun w hw => ?_)
      rw [if_pos (by decide), bX_some]
      exact WP_some.2 ⟨flV u n 2 j, .pn e eK, hw.1, cz.tr hw.2 PSc_PEx⟩
theorem not_ok {rc : Sto → Option (Int × Sto)} (ho : o ≤ 60) (hf : FltK u n rc) (h : o < 60 → OkK u n N ps (o + 1) (lxE 1) rc) : OkK u n N ps o (lxN false) (mX10_not rc) := by
  intro S j hC hS hj h10
  have hu := hC.t.u
  unfold mX10_not
  refine WP_call (R := fun y => ChW PEx S y.2 ∧ ((∃ j' par, y.1 = b2i par ∧ ScQ u n y.2 185 (.inl j') ∧ gI y.2 185 10 = (o : Int) ∧ j' ≤ N ∧ isS u n 33 j' = false ∧ ∀ res, LE u n ps (lxN par) j' o res → LE u n ps (lxN false) j o res) ∨ ∃ f, ScQ u n y.2 185 (.inr f) ∧ LE u n ps (lxN false) j o (.inr f))) ?_ (fun y hy => ?_)
  · refine WP_lpF (fun y => ChW PEx S y.2 ∧ ((∃ j' par, y.1 = b2i par ∧ ScQ u n y.2 185 (.inl j') ∧ gI y.2 185 10 = (o : Int) ∧ j' ≤ N ∧ ∀ res, LE u n ps (lxN par) j' o res → LE u n ps (lxN false) j o res) ∨ ∃ f, ScQ u n y.2 185 (.inr f) ∧ LE u n ps (lxN false) j o (.inr f))) (fun s => if gI s.2 185 8 = 0 then 1 + (n - (gI s.2 185 4).toNat) else 0) ⟨ChW.refl, Or.inl ⟨j, false, rfl, hS, h10, hj, fun _ q => q⟩⟩ ?_ (fun s hs => ?_)
    · have := hC.t.b
      exact ite_lt (show 1 + (n - _) < 1000000000000 by omega) (show 0 < 1000000000000 by omega)
    obtain ⟨sv, s⟩ := s
    obtain ⟨s1, s2⟩ := hs
    dsimp only at s1 s2 ⊢
    have Cs := hC.ch s1
    unfold mX10_not_L2
    dsimp only
    rcases s2 with ⟨j', par, a2, a1, a3, a4, a5⟩ | ⟨f, a1, a2⟩
    · subst a2
      rw [k_is a1 hu (by decide), bX_some]
      show WP (if ¬ w32 (b2i (isS u n 33 j')) = 0 then _ else _) _
      rw [bIf]
      cases e : isS u n 33 j' with
      | false =>
        rw [if_neg (by decide)]
        exact WP_some.2 ⟨s1, Or.inl ⟨j', par, rfl, a1, a3, a4, e, a5⟩⟩
      | true =>
        rw [if_pos rfl]
        have hlt := hC.z.le (i := j') (by rw [isS_K e]; decide) a4
        have hBl := hC.z.lt hlt
        have m8 : gI s 185 8 = 0 := a1.1
        have m4 : gI s 185 4 = (tkB u n j' : Nat) := a1.2.2.1
        have ep : (if w32 (b2i par) = 0 then (1 : Int) else 0) = b2i (!par) := by cases par <;> rfl
        refine WP_call (k_next3 Cs.t a1) (fun y hy => WP_some.2 ?_)
        obtain ⟨y1, y2⟩ := hy
        have cy : ChW PEx S y := s1.tr y2 PSc_PEx
        have y1 : ScQ u n y 185 (nxT u n j') := y1
        cases eN : nxT u n j' with
        | inr f =>
          rw [eN] at y1
          refine ⟨⟨cy, Or.inr ⟨f, y1, a5 _ (.nf e eN)⟩⟩, ?_⟩
          dsimp only; rw [m8, m4, if_pos rfl, if_neg (by rw [y1.1]; exact y1.2.1)]; omega
        | inl j2 =>
          rw [eN] at y1
          have e2 := nxT_inl eN
          refine ⟨⟨cy, Or.inl ⟨j2, !par, ep, y1, ?_, by omega, fun res q => a5 _ (.nc e eN q)⟩⟩, ?_⟩
          · dsimp only; rw [y2.1 _ _ (fun q => by unfold PSc at q; omega)]; exact a3
          · have z4' : gI y 185 4 = (tkB u n j2 : Nat) := y1.2.2.1
            have z48 : gI y 185 8 = 0 := y1.1
            have := tkB_slt (j := j2) hBl (by omega)
            have := tkB_le (u := u) (n := n) j2
            dsimp only; rw [m8, m4, z48, z4', if_pos rfl, if_pos rfl, Int.toNat_natCast, Int.toNat_natCast]; omega
    · rw [k_is a1 hu (by decide), bX_some]
      exact WP_some.2 ⟨s1, Or.inr ⟨f, a1, a2⟩⟩
  · obtain ⟨yv, y⟩ := y
    obtain ⟨s1, s2⟩ := hy
    dsimp only at s1 s2 ⊢
    rcases s2 with ⟨j', par, a2, a1, a3, a4, e, a5⟩ | ⟨f, a1, a2⟩
    · subst a2
      rw [k_ok a1, bX_some]
      show WP (bX (if ¬ w32 (b2i true) = 0 then _ else _) _) _
      rw [if_pos (by decide)]
      refine WP_bX.2 (WP_call (prim_ok ho hf h y j' (hC.ch s1) a1 a4 a3) (fun x hx => WP_some.2 (WP_some.2 ?_)))
      obtain ⟨res, x1, x2, x3⟩ := hx
      have cx : ChW PEx S x.2 := s1.tr x3 (fun _ _ q => q)
      cases res with
      | inr f => exact ⟨.inr f, a5 _ (.ng e x1), x2, cx⟩
      | inl jv =>
        obtain ⟨j1, v⟩ := jv
        obtain ⟨x4, x5, x6⟩ := x2
        have hv := x1.rng (fun _ _ q => by cases q) _ _ rfl
        refine ⟨.inl (j1, trnB par v), a5 _ (.np e x1), ⟨x4, ?_, x6⟩, cx⟩
        dsimp only
        rw [x5]
        cases par with
        | false => rw [if_neg (by decide)]; unfold trnB; rw [if_neg (by decide)]
        | true =>
          rw [if_pos (by decide)]; unfold trnB; rw [if_pos rfl]
          exact trn_v hv
    · rw [k_ok a1, bX_some]
      exact WP_some.2 ⟨.inr f, a2, a1, s1⟩
theorem and_e {rc : Sto → Option (Int × Sto)} : mX10_and rc = gEp (opc 3) (cmb 3) (mX10_not rc) := rfl
theorem xor_e {rc : Sto → Option (Int × Sto)} : mX10_xor rc = gEp (opc 2) (cmb 2) (mX10_and rc) := rfl
theorem or_e {rc : Sto → Option (Int × Sto)} : bX10_or rc = gEp (opc 1) (cmb 1) (mX10_xor rc) := rfl
theorem and_f {rc : Sto → Option (Int × Sto)} : FltK u n (mX10_and rc) := by rw [and_e]; exact gEp_f (by decide) not_f
theorem xor_f {rc : Sto → Option (Int × Sto)} : FltK u n (mX10_xor rc) := by rw [xor_e]; exact gEp_f (by decide) and_f
theorem or_f {m : Nat} : FltK u n (mX10_or (m + 1)) := by
  show FltK u n (bX10_or (mX10_or m))
  rw [or_e]; exact gEp_f (by decide) xor_f
theorem k_or : ∀ m o, 62 ≤ m + o → o ≤ 60 → OkK u n N ps o (lxE 1) (mX10_or m) := by
  intro m
  induction m with
  | zero => intro o h1 h2; omega
  | succ m ih =>
    intro o h1 h2
    obtain ⟨m', hm'⟩ : ∃ m', m = m' + 1 := ⟨m - 1, by omega⟩
    have hf : FltK u n (mX10_or m) := by rw [hm']; exact or_f
    have hn : OkK u n N ps o (lxN false) (mX10_not (mX10_or m)) := not_ok h2 hf (fun h => ih (o + 1) (by omega) (by omega))
    have ha : OkK u n N ps o (lxE 3) (mX10_and (mX10_or m)) := by rw [and_e]; exact gEp_ok (by decide) not_f hn
    have hx : OkK u n N ps o (lxE 2) (mX10_xor (mX10_or m)) := by rw [xor_e]; exact gEp_ok (by decide) and_f ha
    show OkK u n N ps o (lxE 1) (bX10_or (mX10_or m))
    rw [or_e]; exact gEp_ok (by decide) xor_f hx
end KEX
