/-! the reference's loop, second part: settleAll, behind, expression -/
def mBa (p1 : Int) (x6 : Sto) : Option (Int × Sto) := bX (mX23_settleAll x6) fun x23 => bX (mX23_isRight x23) fun x24 => bX (if ¬ w32 x24 = 0 then if w32 (gI x23 2000 32) = w32 p1 then some true else some false else some true) fun b => if b = true then some (2, x23) else bX (if w32 (gI x23 2000 27) < 2 then bX (mX23_top x23) fun x25 => if w32 x25 = 63 then some true else some false else some false) fun b => if b = true then bX (mX23_isAt x23 58) fun x26 => bX (if ¬ w32 x26 = 0 then wrI 1024 x23 2019 ((gI x23 2000 32) - 1) 58 fun S27 => some S27 else some x23) fun y28 => bX (mX23_sign y28 58) fun x29 => some (0, x29) else bX (mX23_sign x23 41) fun x30 => bX (mX23_isRight x30) fun x31 => bX (if ¬ w32 x31 = 0 then wf x30 2000 32 ((gI x30 2000 32) - 1) fun S32 => wf S32 2000 33 ((gI S32 2000 33) - 1) fun S33 => bX (mX23_turn S33) fun x34 => some x34 else some x30) fun y35 => some (1, y35)
def mBq (x6 : Sto) : Option (Int × Sto) := bX (mX23_settle x6 1) fun x12 => bX (mX23_isRight x12) fun x13 => bX (bX (if ¬ w32 x13 = 0 then if w32 (gI x12 2000 33) = 60 then some true else some false else some false) fun b => if b = true then bX (mX23_flaw x12 3 (gI x12 2000 9)) fun x14 => some x14 else some x12) fun y15 => bX (mX23_isRight y15) fun x16 => bX (bX (if ¬ w32 x16 = 0 then rdI 1024 y15 2021 ((gI y15 2000 34) - 1) fun v17 => if ¬ w32 v17 = 1 then some true else some false else some false) fun b => if b = true then bX (mX23_flaw y15 13 (gI y15 2000 9)) fun x18 => some x18 else some y15) fun y19 => bX (mX23_isRight y19) fun x20 => bX (if ¬ w32 x20 = 0 then bX (mX23_open y19 63) fun x21 => some x21 else some y19) fun y22 => some (0, y22)
def mBe (p1 : Int) (x6 : Sto) (y4 : Int) : Option (Int × Sto) := bX (if 0 < w32 y4 then if w32 y4 = 4 then bX (mX23_top x6) fun x7 => if ¬ w32 x7 = 257 then some true else some false else some true else some false) fun b => if b = true then rdI 65537 x6 2004 (gI x6 2000 9) fun v8 => bX (mX23_hold x6 v8 (gI x6 2000 9)) fun x9 => bX (mX23_go x9) fun x10 => some (0, x10) else bX (if w32 (gI x6 2000 27) < 2 then bX (mX23_isAt x6 63) fun x11 => if ¬ w32 x11 = 0 then some true else some false else some false) fun b => if b = true then mBq x6 else mBa p1 x6
theorem n00 : (0 : Int) ≤ 0 := by decide
theorem n01 : (0 : Int) ≤ 1 := by decide
theorem n02 : (0 : Int) ≤ 2 := by decide
theorem n12 : (1 : Int) ≤ 2 := by decide
theorem n22 : (2 : Int) ≤ 2 := by decide
theorem behind_eq {S : Sto} {p1 : Int} : mX23_behind S p1 = bX (mX23_isOperator S) fun x1 => bX (if ¬ w32 x1 = 0 then rdI 65537 S 2004 (gI S 2000 9) fun v2 => bX (mX23_rank v2) fun x3 => some x3 else some 0) fun y4 => bX (if w32 y4 = 4 then some 5 else if 0 < w32 y4 then some y4 else some 6) fun y5 => bX (mX23_settle S y5) fun x6 => mBe p1 x6 y4 := rfl
section MS2
variable {V : Type} {X : OM V} {N : Nat} {md : Int} {Q : Nat → Nat → Prop} {Rp : V → Sto → Prop} {S z : Sto} {ops : List (Int × Nat)} {j o : Nat} {v : V} {f : Int × Int}
theorem oAll_stl : ∀ {ops : List (Int × Nat)} {v : V}, oAll X ops o v = oB (oStl X 1 ops v) (fun t => oAll X t.1 o t.2)
  | [], _ => rfl
  | (c, p) :: l, v => by
    by_cases g : 1 ≤ oR c
    · rw [oAll_cons g, oStl_cons g g]
      cases X.ap c p v with
      | inr f => rfl
      | inl w => exact oAll_stl
    · rw [oStl_stop (by omega)]; rfl
theorem oStl_len {y : Nat} : ∀ {ops : List (Int × Nat)} {v : V} {t : List (Int × Nat) × V}, oStl X y ops v = .inl t → t.1.length ≤ ops.length
  | [], v, t, e => by
    have e : (Sum.inl ([], v) : (List (Int × Nat) × V) ⊕ (Int × Int)) = .inl t := e
    injection e with e; subst e; exact Nat.le_refl _
  | (c, p) :: l, v, t, e => by
    by_cases g : 1 ≤ oR c ∧ y ≤ oR c
    · rw [oStl_cons g.1 g.2] at e
      cases ha : X.ap c p v with
      | inr f => rw [ha, oB_r] at e; cases e
      | inl w => rw [ha, oB_l] at e; exact Nat.le_succ_of_le (oStl_len e)
    · unfold oStl at e
      rw [if_neg g] at e
      injection e with e; subst e; exact Nat.le_refl _
theorem OIn.ch (hI : OIn X N md Q Rp) (hX : OX X N) {p : Nat} {l : List (Int × Nat)} (t : MTk X.u X.n N S) (h27 : gI S 2000 27 = md) (hq : MsQ X.u X.n N S (.inl j)) (hs : oSt X N o ((58, p) :: l) v) (ho : o ≤ 60) (hm : OMS X Rp ((58, p) :: l) o v S) : WP (mX23_choose S) (fun z => ChW (PAq Q) S z ∧ OMr X N Rp j (o - 1) (oB (X.ch p v) (fun w => .inl (l, w))) z) := by
  obtain ⟨m1, ⟨s1, s2, s3⟩, m3, m4, m5⟩ := hm
  have hlen := hs.len ho
  have hl : l.length + 1 ≤ 425 := hlen.1
  obtain ⟨w1, w2, w3, w4⟩ := hs
  have e2 : oMk l + 1 = o := w2
  have e3 : X.hv v = oCn l + 2 + 1 := w3
  have hcl : p ≤ N ∧ X.m = false := by
    rcases w1.1 with ⟨a1, a2, a3⟩ | ⟨a1, a2, a3, a4⟩ | ⟨a1, a2⟩ | ⟨a1, a2, a4, a3⟩
    · omega
    · exact absurd a1 (by decide)
    · omega
    · exact ⟨a2, a4⟩
  have m1' : gI S 2000 32 = ((l.length + 1 : Nat) : Int) := m1
  refine (hI.2.2.2.2.2.2.1 j p l.length (o - 1) v S hcl.2 t h27 hq (by omega) (by omega) s2 hcl.1 (by omega) (by omega) m4 (by omega) (by omega) m5).mono (fun z hz => ?_)
  obtain ⟨z1, z2, z33, z3⟩ := hz
  have hQ := hI.q
  refine ⟨ChW.refl.tr z1 (fun a i q => ?_), ?_⟩
  · rcases q with q | q
    · exact Or.inl (by omega)
    · exact Or.inr (Or.inr (Or.inr q))
  · cases ha : X.ch p v with
    | inr f => rw [ha] at z3; exact ⟨z3, by omega, by omega⟩
    | inl w =>
      rw [ha] at z3
      obtain ⟨y1, y2, y3⟩ := z3
      exact ⟨y1, z2, s3.cg (fun i _ => ⟨z1.1 _ _ (fun q => by rcases q with q | q; omega; exact (hQ _ _ q).1 rfl), z1.1 _ _ (fun q => by rcases q with q | q; omega; exact (hQ _ _ q).2.1 rfl)⟩), z33, y2, y3⟩
theorem sim_all (hI : OIn X N md Q Rp) (hX : OX X N) (t : MTk X.u X.n N S) (h27 : gI S 2000 27 = md) (hq : MsQ X.u X.n N S (.inl j)) (hs : oSt X N o ops v) (ho : o ≤ 60) (hm : OMS X Rp ops o v S) :
    WP (mX23_settleAll S) (fun z => ChW (PAq Q) S z ∧ OMa X N Rp j (oAll X ops o v) z) := by
  unfold mX23_settleAll
  have st1 : ∀ {T : Sto} {ops' : List (Int × Nat)} {o' : Nat} {v' : V}, ChW (PAq Q) S T → MsQ X.u X.n N T (.inl j) → oSt X N o' ops' v' → o' ≤ 60 → OMS X Rp ops' o' v' T → WP (mX23_settle T 1) (fun z => ChW (PAq Q) T z ∧ OMr X N Rp j o' (oStl X 1 ops' v') z) := fun c q s ho' m => sim_settle hI hX (y := 1) ⟨by omega, by omega⟩ (t.pa hI c) (pa_27 hI h27 c) q s ho' m
  refine WP_call (st1 ChW.refl hq hs ho hm) (fun x hx => ?_)
  obtain ⟨cx, hx⟩ := hx
  refine WP_call (R := fun z => ChW (PAq Q) S z ∧ OMa X N Rp j (oAll X ops o v) z) ?_ (fun z hz => WP_some.2 hz)
  have hstart : (∃ ops' o' v', oSt X N o' ops' v' ∧ o' ≤ 60 ∧ oR (oTop ops') = 0 ∧ OMS X Rp ops' o' v' x ∧ MsQ X.u X.n N x (.inl j) ∧ oAll X ops' o' v' = oAll X ops o v) ∨ (∃ f, oAll X ops o v = .inr f ∧ MsQ X.u X.n N x (.inr f) ∧ 0 ≤ gI x 2000 32 ∧ gI x 2000 32 ≤ 1000) := by
    have hal := oAll_stl (X := X) (o := o) (ops := ops) (v := v)
    cases e : oStl X 1 ops v with
    | inr f => rw [e] at hx hal; exact Or.inr ⟨f, hal, hx⟩
    | inl r =>
      rw [e] at hx hal
      obtain ⟨s1, s2⟩ := oStl_ok hX hs e
      exact Or.inl ⟨r.1, o, r.2, s1, ho, by omega, hx.2, hx.1, hal.symm⟩
  refine WP_lpF (fun z => ChW (PAq Q) S z ∧ ((∃ ops' o' v', oSt X N o' ops' v' ∧ o' ≤ 60 ∧ oR (oTop ops') = 0 ∧ OMS X Rp ops' o' v' z ∧ MsQ X.u X.n N z (.inl j) ∧ oAll X ops' o' v' = oAll X ops o v) ∨ (∃ f, oAll X ops o v = .inr f ∧ MsQ X.u X.n N z (.inr f) ∧ 0 ≤ gI z 2000 32 ∧ gI z 2000 32 ≤ 1000))) (fun z => if gI z 2000 10 = 0 then (gI z 2000 32).toNat + 1 else 0) ⟨cx, hstart⟩ ?_ (fun z hz => ?_)
  · show (if gI x 2000 10 = 0 then (gI x 2000 32).toNat + 1 else 0) < 1000000000000
    rcases hstart with ⟨ops', o', v', a1, a2, a3, a4, a5, a6⟩ | ⟨f, a1, a2, a3, a4⟩
    · have := (a1.len a2).1
      rw [a4.1]; split <;> omega
    · split <;> omega
  · obtain ⟨cz, hz⟩ := hz
    rcases hz with ⟨ops', o', v', s', ho', r0, m', q', e'⟩ | ⟨f, e', q', b1, b2⟩
    · have tz := t.pa hI cz
      have z27 := pa_27 hI h27 cz
      have z10 : gI z 2000 10 = 0 := q'.1
      obtain ⟨p1, p2⟩ := sim_top m'.1 (by have := (s'.len ho').1; omega) m'.2.1
      unfold mX23_settleAll_L5
      rw [m_isRight q', bX_some, bIf]
      show WP (bX (if true = true then _ else some false) _) _
      rw [if_pos rfl, p1, bX_some, p2]
      by_cases g : oTop ops' = 58
      · rw [if_pos g, bX_some, if_pos rfl]
        cases ops' with
        | nil => have : (0 : Int) = 58 := g; omega
        | cons a l =>
          obtain ⟨c, p⟩ := a
          have g : c = 58 := g
          subst g
          have m32 : gI z 2000 32 = ((l.length + 1 : Nat) : Int) := m'.1
          rw [oAll_58] at e'
          refine WP_call (hI.ch hX tz z27 q' s' ho' m') (fun y hy => ?_)
          obtain ⟨y1, y2⟩ := hy
          cases ha : X.ch p v' with
          | inr f =>
            rw [ha, oB_r] at y2 e'
            have yq : MsQ X.u X.n N y (.inr f) := y2.1
            rw [settle_f yq, bX_some]
            refine WP_some.2 ⟨⟨cz.pp y1, Or.inr ⟨f, e'.symm, y2⟩⟩, ?_⟩
            have x10 : gI y 2000 10 = f.1 := yq.1
            have f0 : f.1 ≠ 0 := yq.2.1
            rw [if_neg (by omega), if_pos z10]; omega
          | inl w =>
            rw [ha, oB_l] at y2 e'
            have hsc := s'.ch hX ha
            refine WP_call (st1 (cz.pp y1) y2.1 hsc.2 (by omega) y2.2) (fun x6 hx6 => WP_some.2 ?_)
            obtain ⟨k1, k2⟩ := hx6
            rw [oAll_stl] at e'
            cases hst : oStl X 1 l w with
            | inr f =>
              rw [hst] at k2 e'
              have yq : MsQ X.u X.n N x6 (.inr f) := k2.1
              refine ⟨⟨(cz.pp y1).pp k1, Or.inr ⟨f, e'.symm, k2⟩⟩, ?_⟩
              have x10 : gI x6 2000 10 = f.1 := yq.1
              have f0 : f.1 ≠ 0 := yq.2.1
              rw [if_neg (by omega), if_pos z10]; omega
            | inl r =>
              rw [hst] at k2 e'
              obtain ⟨s1, s2⟩ := oStl_ok hX hsc.2 hst
              have hll := oStl_len hst
              refine ⟨⟨(cz.pp y1).pp k1, Or.inl ⟨r.1, o' - 1, r.2, s1, by omega, by omega, k2.2, k2.1, e'⟩⟩, ?_⟩
              have x10 : gI x6 2000 10 = 0 := k2.1.1
              have x32 : gI x6 2000 32 = (r.1.length : Int) := k2.2.1
              rw [if_pos x10, if_pos z10, x32, m32]; omega
      · rw [if_neg g, bX_some, if_neg (by decide)]
        refine WP_some.2 ⟨cz, ?_⟩
        have : oAll X ops' o' v' = .inl (ops', o', v') := by
          cases ops' with
          | nil => rfl
          | cons a l => obtain ⟨c, p⟩ := a; exact oAll_stop r0 g
        rw [← e', this]
        exact ⟨q', m'⟩
    · unfold mX23_settleAll_L5
      rw [m_isRight q', bX_some, bIf]
      show WP (bX (if false = true then _ else some false) _) _
      rw [if_neg (by decide), bX_some, if_neg (by decide)]
      refine WP_some.2 ⟨cz, ?_⟩
      rw [e']
      exact ⟨q', b1, b2⟩
theorem all_f (h : MsQ X.u X.n N S (.inr f)) : mX23_settleAll S = some S := by
  have : WP (mX23_settleAll S) (fun z => z = S) := by
    unfold mX23_settleAll
    rw [settle_f h, bX_some]
    refine WP_call (R := fun z => z = S) (WP_lpF (fun z => z = S) (fun _ => 1) rfl (by show 1 < 1000000000000; omega) (fun z hz => ?_)) (fun z hz => WP_some.2 hz)
    subst hz
    unfold mX23_settleAll_L5
    rw [m_isRight h, bX_some, bIf]
    show WP (bX (if false = true then _ else some false) _) _
    rw [if_neg (by decide), bX_some, if_neg (by decide)]
    exact WP_some.2 rfl
  obtain ⟨z, h1, h2⟩ := this
  rw [h1, h2]
theorem hold_any {c p : Int} (h : 0 ≤ gI S 2000 32 ∧ gI S 2000 32 ≤ 1000) : WP (mX23_hold S c p) (fun z => ChW (fun a i => (a = 2000 ∧ i = 32) ∨ a = 2019 ∨ a = 2020) S z) := by
  unfold mX23_hold
  rw [wrI_e (by omega), hI_sI_a (by decide), wrI_e (by omega), wf_eq]
  exact WP_some.2 (((ChW.refl.sI (Or.inr (Or.inl rfl))).sI (Or.inr (Or.inr rfl))).sI (Or.inl ⟨rfl, rfl⟩))
theorem top_any (h : 0 ≤ gI S 2000 32 ∧ gI S 2000 32 ≤ 1000) : ∃ x, mX23_top S = some x := by
  unfold mX23_top
  rw [w32_gI]
  by_cases g : 0 < gI S 2000 32
  · rw [if_pos g, rdI_e (by omega), bX_some]; exact ⟨_, rfl⟩
  · rw [if_neg g, bX_some]; exact ⟨_, rfl⟩
theorem MsQ.hdf (h : MsQ X.u X.n N S (.inr f)) (g : ChW (fun a i => (a = 2000 ∧ i = 32) ∨ a = 2019 ∨ a = 2020) S z) : MsQ X.u X.n N z (.inr f) := h.ch g (fun i h1 h2 q => by omega)
/-- after a fault nothing more happens -/
theorem sim_beF (hI : OIn X N md Q Rp) (t : MTk X.u X.n N S) (h : MsQ X.u X.n N S (.inr f)) (h32 : 0 ≤ gI S 2000 32 ∧ gI S 2000 32 ≤ 1000) (r : Int) : WP (mBe 0 S r) (fun y => ChW (PAq Q) S y.2 ∧ OMc X N Rp (.inr f) y.1 y.2) := by
  have hb := t.b; have he := t.e
  obtain ⟨i, i1, i2, _⟩ := h.ix
  unfold mBe
  have hc : ∃ b : Bool, (if 0 < w32 r then if w32 r = 4 then bX (mX23_top S) fun x7 => if ¬ w32 x7 = 257 then some true else some false else some true else some false) = some b := by
    by_cases g1 : 0 < w32 r
    · rw [if_pos g1]
      by_cases g2 : w32 r = 4
      · rw [if_pos g2]
        obtain ⟨x, hx⟩ := top_any h32
        rw [hx, bX_some]
        by_cases g3 : w32 x = 257
        · exact ⟨false, if_neg (fun q => q g3)⟩
        · exact ⟨true, if_pos g3⟩
      · rw [if_neg g2]; exact ⟨true, rfl⟩
    · rw [if_neg g1]; exact ⟨false, rfl⟩
  obtain ⟨b, hb1⟩ := hc
  rw [hb1, bX_some]
  cases b with
  | true =>
    rw [if_pos rfl, i2, rdI_e (by omega)]
    refine WP_call (hold_any h32) (fun y hy => ?_)
    have cy : ChW (PAq Q) S y := hd_pa hy (fun a i q => by omega)
    refine WP_call (m_go (t.pa hI cy) (h.hdf hy) (fun i e => by cases e)) (fun x hx => WP_some.2 ⟨cy.pp (ChW.refl.tr hx.2 (fun a i q => Or.inl ⟨q.1, Or.inl q.2⟩)), hx.1, (by first | exact n00 | exact n01 | exact n02), (by first | exact n02 | exact n12 | exact n22)⟩)
  | false =>
    rw [if_neg (by decide)]
    have hc2 : ∃ b : Bool, (if w32 (gI S 2000 27) < 2 then bX (mX23_isAt S 63) fun x11 => if ¬ w32 x11 = 0 then some true else some false else some false) = some b := by
      by_cases g1 : w32 (gI S 2000 27) < 2
      · rw [if_pos g1, m_isAt t i1 i2 (by omega), bX_some, bIf]
        by_cases g2 : isS X.u X.n 63 i = true
        · exact ⟨true, if_pos g2⟩
        · exact ⟨false, if_neg g2⟩
      · rw [if_neg g1]; exact ⟨false, rfl⟩
    obtain ⟨b, hb2⟩ := hc2
    rw [hb2, bX_some]
    cases b with
    | true =>
      rw [if_pos rfl]
      unfold mBq
      rw [settle_f h, bX_some, m_isRight h, bX_some, bIf]
      show WP (bX (bX (if false = true then _ else some false) _) _) _
      rw [if_neg (by decide), bX_some, if_neg (by decide), bX_some, m_isRight h, bX_some, bIf]
      show WP (bX (bX (if false = true then _ else some false) _) _) _
      rw [if_neg (by decide), bX_some, if_neg (by decide), bX_some, m_isRight h, bX_some, bIf]
      show WP (bX (if false = true then _ else some S) _) _
      rw [if_neg (by decide), bX_some]
      exact WP_some.2 ⟨ChW.refl, h, (by first | exact n00 | exact n01 | exact n02), (by first | exact n02 | exact n12 | exact n22)⟩
    | false =>
      rw [if_neg (by decide)]
      unfold mBa
      rw [all_f h, bX_some, m_isRight h, bX_some, bIf]
      show WP (bX (if false = true then _ else some true) _) _
      rw [if_neg (by decide), bX_some, if_pos rfl]
      exact WP_some.2 ⟨ChW.refl, h, (by first | exact n00 | exact n01 | exact n02), (by first | exact n02 | exact n12 | exact n22)⟩
/-- '?' -/
theorem sim_bq (hI : OIn X N md Q Rp) (hX : OX X N) (t : MTk X.u X.n N S) (h27 : gI S 2000 27 = md) (hq : MsQ X.u X.n N S (.inl j)) (hqj : X.q j = true) (hs : oSt X N o ops v) (ho : o ≤ 60) (hm : OMS X Rp ops o v S) :
    WP (mBq S) (fun y => ChW (PAq Q) S y.2 ∧ OMc X N Rp (oB (oStl X 1 ops v) (fun s => if o = 60 then .inr (3, (tkB X.u X.n j : Int)) else if X.ts s.2 = false then .inr (13, (tkB X.u X.n j : Int)) else oB (nxT X.u X.n j) (fun j1 => .inl (0, j1, (63, j) :: s.1, o + 1, s.2)))) y.1 y.2) := by
  have hset : WP (mX23_settle S 1) (fun z => ChW (PAq Q) S z ∧ OMr X N Rp j o (oStl X 1 ops v) z) := sim_settle hI hX (y := 1) ⟨by omega, by omega⟩ t h27 hq hs ho hm
  have pf : ∀ {y z : Sto}, ChW PF10 y z → ChW (PAq Q) y z := fun g => ChW.refl.tr g (fun a i q => Or.inl ⟨q.1, Or.inl (by have := q.2; omega)⟩)
  unfold mBq
  refine WP_call hset (fun x hx => ?_)
  obtain ⟨cx, hx⟩ := hx
  have tx := t.pa hI cx
  cases e : oStl X 1 ops v with
  | inr f =>
    rw [e] at hx
    have h : MsQ X.u X.n N x (.inr f) := hx.1
    rw [m_isRight h, bX_some, bIf]
    show WP (bX (bX (if false = true then _ else some false) _) _) _
    rw [if_neg (by decide), bX_some, if_neg (by decide), bX_some, m_isRight h, bX_some, bIf]
    show WP (bX (bX (if false = true then _ else some false) _) _) _
    rw [if_neg (by decide), bX_some, if_neg (by decide), bX_some, m_isRight h, bX_some, bIf]
    show WP (bX (if false = true then _ else some x) _) _
    rw [if_neg (by decide), bX_some]
    exact WP_some.2 ⟨cx, h, (by first | exact n00 | exact n01 | exact n02), (by first | exact n02 | exact n12 | exact n22)⟩
  | inl r =>
    rw [e] at hx
    obtain ⟨q1, m1⟩ := hx
    obtain ⟨s1, s2⟩ := oStl_ok hX hs e
    have hlen := s1.len ho
    have x33 : gI x 2000 33 = (o : Int) := m1.2.2.1
    have x34 : gI x 2000 34 = (X.hv r.2 : Int) := m1.2.2.2.1
    rw [m_isRight q1, bX_some, bIf, oB_l]
    show WP (bX (bX (if true = true then _ else some false) _) _) _
    rw [if_pos rfl, x33, w32_id (by omega)]
    by_cases c60 : o = 60
    · rw [if_pos (by omega), bX_some, if_pos rfl, if_pos c60]
      refine WP_bX.2 (WP_call (m_flaw tx q1 (by omega)) (fun y hy => WP_some.2 ?_))
      have h : MsQ X.u X.n N y (.inr (3, (tkB X.u X.n j : Int))) := hy.1
      rw [m_isRight h, bX_some, bIf]
      show WP (bX (bX (if false = true then _ else some false) _) _) _
      rw [if_neg (by decide), bX_some, if_neg (by decide), bX_some, m_isRight h, bX_some, bIf]
      show WP (bX (if false = true then _ else some y) _) _
      rw [if_neg (by decide), bX_some]
      exact WP_some.2 ⟨cx.pp (pf hy.2), h, (by first | exact n00 | exact n01 | exact n02), (by first | exact n02 | exact n12 | exact n22)⟩
    · rw [if_neg (by omega), bX_some, if_neg (by decide), bX_some, m_isRight q1, bX_some, bIf, if_neg c60]
      show WP (bX (bX (if true = true then _ else some false) _) _) _
      have h1 : 1 ≤ X.hv r.2 := by have := s1.2.2.1; omega
      have hw := hI.2.2.2.2.2.2.2 r.2 x (q_m hqj) x34 h1 (by omega) m1.2.2.2.2
      rw [if_pos rfl, x34, show (X.hv r.2 : Int) - 1 = ((X.hv r.2 - 1 : Nat) : Int) by omega, rdI_e (by omega), Int.toNat_natCast, w32_gI]
      by_cases cw : X.ts r.2 = false
      · rw [if_pos (fun q => by have := hw.1 q; rw [cw] at this; cases this), bX_some, if_pos rfl, if_pos cw]
        refine WP_bX.2 (WP_call (m_flaw tx q1 (by omega)) (fun y hy => WP_some.2 ?_))
        have h : MsQ X.u X.n N y (.inr (13, (tkB X.u X.n j : Int))) := hy.1
        rw [m_isRight h, bX_some, bIf]
        show WP (bX (if false = true then _ else some y) _) _
        rw [if_neg (by decide), bX_some]
        exact WP_some.2 ⟨cx.pp (pf hy.2), h, (by first | exact n00 | exact n01 | exact n02), (by first | exact n02 | exact n12 | exact n22)⟩
      · have ct : X.ts r.2 = true := by cases hh : X.ts r.2; exact absurd hh cw; rfl
        rw [if_neg (fun q => q (hw.2 ct)), bX_some, if_neg (by decide), bX_some, m_isRight q1, bX_some, bIf, if_neg cw]
        show WP (bX (if true = true then _ else some x) _) _
        have k3 : tkK X.u X.n j = 3 := by
          have := hqj; unfold OM.q at this; rw [Bool.and_eq_true] at this; exact isS_K this.2
        rw [if_pos rfl]
        refine WP_bX.2 (WP_call (sim_open hI (c := 63) rfl tx q1 (sg_lt hX k3 q1.2.2.1) ho (by omega) m1) (fun y hy => WP_some.2 (WP_some.2 ?_)))
        obtain ⟨y1, y2⟩ := hy
        rw [if_neg c60] at y2
        exact ⟨cx.pp y1, y2⟩
theorem isS_b {c : Int} {u : Nat → Int} {n j : Nat} (h : isS u n c j = false) (h1 : Bool) : (if isS u n c j = true then h1 else false) = false := by rw [h]; rfl
theorem sim_sign (hI : OIn X N md Q Rp) {c : Int} (hc : 0 ≤ c ∧ c < 1000) (t : MTk X.u X.n N S) (hq : MsQ X.u X.n N S (.inl j)) (hm : OMS X Rp ops o v S) (m : Nat) (hm2 : m ≤ 2) :
    WP (mX23_sign S c) (fun z => ChW (PAq Q) S z ∧ ChW PG9 S z ∧ OMc X N Rp (oB (tkT X.u X.n c (.inl j)) (fun j1 => .inl (m, j1, ops, o, v))) (m : Int) z) := by
  refine (m_sign t hq hc).mono (fun z hz => ?_)
  obtain ⟨z1, z2⟩ := hz
  refine ⟨ChW.refl.tr z2 (fun a i q => Or.inl ⟨q.1, Or.inl q.2⟩), z2, ?_⟩
  cases hx : tkT X.u X.n c (.inl j) with
  | inr f => rw [hx] at z1; exact ⟨z1, by omega, by omega⟩
  | inl j1 => rw [hx] at z1; exact ⟨rfl, z1, hm.fr hI z2 (fun a i q => q)⟩
/-- all is settled, and what stands below -/
theorem sim_ba (hI : OIn X N md Q Rp) (hX : OX X N) (t : MTk X.u X.n N S) (h27 : gI S 2000 27 = md) (hq : MsQ X.u X.n N S (.inl j)) (hs : oSt X N o ops v) (ho : o ≤ 60) (hm : OMS X Rp ops o v S) :
    WP (mBa 0 S) (fun y => ChW (PAq Q) S y.2 ∧ OMc X N Rp (oB (oAll X ops o v) (fun s => oFin X j s.1 s.2.1 s.2.2)) y.1 y.2) := by
  unfold mBa
  refine WP_call (sim_all hI hX t h27 hq hs ho hm) (fun x hx => ?_)
  obtain ⟨cx, hx⟩ := hx
  have tx := t.pa hI cx
  have x27 := pa_27 hI h27 cx
  have hQ := hI.q
  cases e : oAll X ops o v with
  | inr f =>
    rw [e] at hx
    have h : MsQ X.u X.n N x (.inr f) := hx.1
    rw [m_isRight h, bX_some, bIf]
    show WP (bX (if false = true then _ else some true) _) _
    rw [if_neg (by decide), bX_some, if_pos rfl]
    exact WP_some.2 ⟨cx, h, (by first | exact n00 | exact n01 | exact n02), (by first | exact n02 | exact n12 | exact n22)⟩
  | inl r =>
    rw [e] at hx
    obtain ⟨q1, m1⟩ := hx
    obtain ⟨s1, so, stp⟩ := oAll_ok hX hs e
    obtain ⟨ops2, o2, v2⟩ := r
    dsimp only at q1 m1 s1 so stp
    have hlen := s1.len (by omega)
    have x32 := m1.1
    rw [m_isRight q1, bX_some, bIf, oB_l]
    show WP (bX (if true = true then _ else some true) _) _
    rw [if_pos rfl, x32, w32_id (by omega)]
    cases ops2 with
    | nil =>
      rw [if_pos (by rfl), bX_some, if_pos rfl]
      exact WP_some.2 ⟨cx, rfl, q1, m1⟩
    | cons a l =>
      obtain ⟨c, p⟩ := a
      have hl1 : l.length + 1 ≤ 425 := hlen.1
      rw [if_neg (by show ¬ ((l.length + 1 : Nat) : Int) = w32 0; rw [w32_id (by omega)]; omega), bX_some, if_neg (by decide)]
      obtain ⟨p1, p2⟩ := sim_top m1.1 (by omega) m1.2.1
      have hcond : (if w32 (gI x 2000 27) < 2 then bX (mX23_top x) fun x25 => if w32 x25 = 63 then some true else some false else some false) = some (decide (X.m = false ∧ c = 63)) := by
        rw [x27]
        rcases hI.mde with ⟨a1, a2⟩ | ⟨a1, a2⟩
        · rw [a2, if_neg (by decide), decide_eq_false (fun q => by rw [a1] at q; cases q.1)]
        · have hw : w32 md < 2 := by rcases a2 with a2 | a2 <;> rw [a2] <;> decide
          rw [if_pos hw, p1, bX_some, p2]
          by_cases g : c = 63
          · rw [if_pos (show oTop ((c, p) :: l) = 63 from g), decide_eq_true ⟨a1, g⟩]
          · rw [if_neg (show ¬ oTop ((c, p) :: l) = 63 from g), decide_eq_false (fun q => g q.2)]
      rw [hcond, bX_some]
      have x32' : gI x 2000 32 = ((l.length + 1 : Nat) : Int) := x32
      by_cases g : X.m = false ∧ c = 63
      · rw [decide_eq_true g, if_pos rfl]
        obtain ⟨g1, g2⟩ := g
        subst g2
        show WP _ (fun y : Int × Sto => ChW (PAq Q) S y.2 ∧ OMc X N Rp (oFin X j ((63, p) :: l) o2 v2) y.1 y.2)
        rw [oFin_63 g1, m_isAt tx q1.2.2.1 q1.2.1 (by omega), bX_some, bIf]
        by_cases c58 : isS X.u X.n 58 j = true
        · rw [if_pos c58, show ((((63 : Int), p) :: l).length : Int) - 1 = (l.length : Int) from (by show ((l.length + 1 : Nat) : Int) - 1 = _; omega), wrI_e (by omega), Int.toNat_natCast, bX_some]
          have c1 : ChW (fun a i => (a = 2000 ∧ i = 32) ∨ a = 2019 ∨ a = 2020) x (sI x 2019 l.length 58) := ChW.refl.sI (Or.inr (Or.inl rfl))
          have c2 : ChW (PAq Q) x (sI x 2019 l.length 58) := hd_pa c1 (fun a i q => by omega)
          have m2 : OMS X Rp ((58, p) :: l) o2 v2 (sI x 2019 l.length 58) := by
            obtain ⟨b1, ⟨b2, b3, b4⟩, b5, b6, b7⟩ := m1
            refine ⟨by rw [hI_sI_a (by decide)]; exact b1, ⟨by rw [gI_sI_eq]; rfl, by rw [hI_sI_a (by decide)]; exact b3, b4.cg (fun i hi => ⟨hI_sI_i (by omega), hI_sI_a (by decide)⟩)⟩, by rw [hI_sI_a (by decide)]; exact b5, by rw [hI_sI_a (by decide)]; exact b6, hI.fr b7 (ChW.refl.sI (Or.inr (Or.inl rfl)))⟩
          refine WP_call (sim_sign hI (c := 58) (by omega) (tx.pa hI c2) (q1.hd c1) m2 0 (by omega)) (fun y hy => WP_some.2 ⟨(cx.pp c2).pp hy.1, hy.2.2⟩)
        · rw [if_neg c58, bX_some]
          refine WP_call (sim_sign hI (c := 58) (by omega) tx q1 m1 0 (by omega)) (fun y hy => WP_some.2 ⟨cx.pp hy.1, ?_⟩)
          have hy2 := hy.2.2
          have et : tkT X.u X.n 58 (.inl j) = .inr (2, (tkB X.u X.n j : Int)) := by
            unfold tkT bq; dsimp only; rw [if_neg c58]; rfl
          rw [et, oB_r] at hy2 ⊢
          exact hy2
      · rw [decide_eq_false g, if_neg (by decide)]
        have hc : c = 40 := by
          rcases stp c p l rfl with q | q
          · exact q
          · rcases s1.1.1 with ⟨a1, a2, a3⟩ | ⟨a1, a2, a3, a4⟩ | ⟨a1, a2⟩ | ⟨a1, a2, a4, a3⟩
            · omega
            · subst q; exact absurd a1 (by decide)
            · omega
            · exact absurd ⟨a4, q⟩ g
        subst hc
        show WP _ (fun y : Int × Sto => ChW (PAq Q) S y.2 ∧ OMc X N Rp (oFin X j ((40, p) :: l) o2 v2) y.1 y.2)
        rw [oFin_40]
        refine WP_call (sim_sign hI (c := 41) (by omega) tx q1 m1 1 (by omega)) (fun y hy => ?_)
        obtain ⟨y1, y2, y3⟩ := hy
        cases hx : tkT X.u X.n 41 (.inl j) with
        | inr f =>
          rw [hx, oB_r] at y3
          have h : MsQ X.u X.n N y (.inr f) := y3.1
          rw [m_isRight h, bX_some, bIf]
          show WP (bX (if false = true then _ else some y) _) _
          rw [if_neg (by decide), bX_some]
          exact WP_some.2 ⟨cx.pp y1, h, (by first | exact n00 | exact n01 | exact n02), (by first | exact n02 | exact n12 | exact n22)⟩
        | inl j1 =>
          rw [hx, oB_l] at y3
          obtain ⟨_, h, my⟩ := y3
          dsimp only at h my
          rw [m_isRight h, bX_some, bIf, oB_l]
          show WP (bX (if true = true then _ else some y) _) _
          obtain ⟨b1, ⟨b2, b3, b4⟩, b5, b6, b7⟩ := my
          have b1' : gI y 2000 32 = ((l.length + 1 : Nat) : Int) := b1
          have e2 : oMk l + 1 = o2 := s1.2.1
          have e3 : X.hv v2 = oCn l + 0 + 1 := s1.2.2.1
          rw [if_pos rfl, b1', wf_eq, hI_sI_i (by decide), b5, wf_eq]
          generalize hw : sI (sI y 2000 32 (((l.length + 1 : Nat) : Int) - 1)) 2000 33 ((o2 : Int) - 1) = w
          have cw : ChW (fun a i => a = 2000 ∧ (i = 32 ∨ i = 33)) y w := by rw [← hw]; exact (ChW.refl.sI ⟨rfl, Or.inl rfl⟩).sI ⟨rfl, Or.inr rfl⟩
          have mw : OMS X Rp l (o2 - 1) v2 w := by
            refine ⟨by rw [← hw, hI_sI_i (by decide), gI_sI_eq, w32_id (by omega)]; omega, b4.cg (fun i _ => ⟨cw.1 _ _ (by omega), cw.1 _ _ (by omega)⟩), by rw [← hw, gI_sI_eq, w32_id (by omega)]; omega, (cw.1 _ _ (by omega)).trans b6, hI.fr b7 (ChW.refl.tr cw (fun a i q => Or.inl ⟨q.1, Or.inr q.2⟩))⟩
          have cpw : ChW (PAq Q) y w := ChW.refl.tr cw (fun a i q => Or.inl ⟨q.1, Or.inr q.2⟩)
          have w27 := pa_27 hI (pa_27 hI x27 y1) cpw
          refine WP_bX.2 (WP_call (sim_turn hI hX w27 s1.1.2 (by omega) (by omega) (by omega) mw) (fun k hk => WP_some.2 (WP_some.2 ?_)))
          obtain ⟨k1, k2⟩ := hk
          refine ⟨((cx.pp y1).pp cpw).pp (ChW.refl.tr k1 (fun a i q => ?_)), rfl, ?_, k2⟩
          · rcases q with q | q
            · exact Or.inl ⟨q.1, Or.inr (Or.inl q.2)⟩
            · exact Or.inr (Or.inr (Or.inr q))
          · exact (h.ch cw (fun i h1 h2 q => by omega)).ch k1 (fun i h1 h2 q => by
              rcases q with q | q
              · omega
              · exact ((hQ _ _ q).2.2.2 rfl).1 ⟨h1, h2⟩)
end MS2
