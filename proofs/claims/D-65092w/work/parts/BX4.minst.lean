/-! the reference tells designs: instances -/
section MIN
variable {S x z y : Sto} {u : Nat → Int} {n N M c : Nat} {fs : List Fin0} {ms : List Mdl} {cur m sub : Mdl} {gv mt : List Nat} {k : List Row3} {q : Qq} {j jn p d b fi own si : Nat} {s w v W : Int} {f : Int × Int}
/-- how many inputs -/
theorem m_manyOf1 (hm : RMd S M m) (hM : M ≤ 15) (hl : m.length ≤ 40) : mX23_manyOf S (M : Int) 1 = some ((insL m).length : Int) := by
  refine WP.of ?_
  have hle := insL_le (m := m)
  unfold mX23_manyOf
  refine WP_bX.2 ?_
  refine WP_cnt m.length (fun q s => s.2 = (q : Int) ∧ s.1 = (cInp m q : Int) ∧ cInp m q ≤ q) (by show _ < 1000000000000; omega) ⟨rfl, rfl, Nat.le_refl 0⟩ (fun q s hq hs => ?_) (fun s hs => ?_)
  · obtain ⟨a, b⟩ := s
    obtain ⟨s1, s2, s3⟩ := hs
    dsimp only at s1 s2
    subst s1
    subst s2
    obtain ⟨_, h2, _⟩ := hm.2 q hq
    have hst := cInp_s (m := m) (a := q)
    have ei : ((40 : Int) * (M : Int) + (q : Int)) = ((40 * M + q : Nat) : Int) := by omega
    have hr := gI_rng S 2011 (40 * M + q)
    unfold mX23_manyOf_L5
    dsimp only
    rw [rdI_e (by omega), Int.toNat_natCast, hm.1, w32_id (by omega), w32_id (by omega), if_pos (by omega), ei, rdI_e (by omega), Int.toNat_natCast, w32_gI, w32_1, h2]
    by_cases g : (m.getD q nm0).2.1 = 0
    · rw [if_pos (by omega)]
      rw [if_pos g] at hst
      exact WP_some.2 ⟨by show (q : Int) + 1 = _; omega, by show (cInp m q : Int) + 1 = _; omega, by omega⟩
    · rw [if_neg (by omega)]
      rw [if_neg g] at hst
      exact WP_some.2 ⟨by show (q : Int) + 1 = _; omega, by show (cInp m q : Int) + 0 = _; omega, by omega⟩
  · obtain ⟨a, b⟩ := s
    obtain ⟨s1, s2, s3⟩ := hs
    dsimp only at s1 s2
    subst s1
    subst s2
    unfold mX23_manyOf_L5
    dsimp only
    rw [rdI_e (by omega), Int.toNat_natCast, hm.1, w32_id (by omega), if_neg (by omega)]
    exact WP_some.2 (WP_some.2 rfl)
/-- the i-th input -/
theorem m_nthOf1 (hm : RMd S M m) (hM : M ≤ 15) (hl : m.length ≤ 40) {i : Nat} (hi : i < (insL m).length) : mX23_nthOf S (M : Int) 1 (i : Int) = some (((insL m).getD i 0 : Nat) : Int) := by
  refine WP.of ?_
  have hle := insL_le (m := m)
  unfold mX23_nthOf
  refine WP_bE.2 ?_
  refine WP_cnt m.length (fun q s => s.2 = (q : Int) ∧ s.1 = ((i - cInp m q : Nat) : Int) ∧ cInp m q ≤ i) (by show _ < 1000000000000; omega) ⟨rfl, rfl, by show 0 ≤ i; omega⟩ (fun q s hq hs => ?_) (fun s hs => ?_)
  · obtain ⟨a, b⟩ := s
    obtain ⟨s1, s2, s3⟩ := hs
    dsimp only at s1 s2
    subst s1
    subst s2
    obtain ⟨_, h2, _⟩ := hm.2 q hq
    have hst := cInp_s (m := m) (a := q)
    have ei : ((40 : Int) * (M : Int) + (q : Int)) = ((40 * M + q : Nat) : Int) := by omega
    unfold mX23_nthOf_L6
    dsimp only
    rw [rdI_e (by omega), Int.toNat_natCast, hm.1, w32_id (by omega), w32_id (by omega), if_pos (by omega), ei, rdI_e (by omega), Int.toNat_natCast, w32_gI, w32_1, h2]
    by_cases g : (m.getD q nm0).2.1 = 0
    · rw [if_pos (by omega), w32_id (by omega)]
      rw [if_pos g] at hst
      by_cases e : ((i - cInp m q : Nat) : Int) = 0
      · rw [if_pos e, bE_inr]
        refine WP_some.2 ?_
        show (q : Int) = _
        have : cInp m q = i := by omega
        rw [← this, insL_at hq g]
      · rw [if_neg e, bE_inl]
        refine WP_some.2 ⟨by show (q : Int) + 1 = _; omega, by show ((i - cInp m q : Nat) : Int) + (-1) = _; omega, by omega⟩
    · rw [if_neg (by omega), bE_inl]
      rw [if_neg g] at hst
      refine WP_some.2 ⟨by show (q : Int) + 1 = _; omega, by show ((i - cInp m q : Nat) : Int) = _; rw [hst]; rfl, by omega⟩
  · obtain ⟨_, _, s3⟩ := hs
    have : cInp m m.length = (insL m).length := rfl
    omega
def muB (N : Nat) (s : Int × Int × Sto) : Nat := if s.2.1 = 0 then 0 else 1 + (if gI s.2.2 2000 10 = 0 then 1 + (N - (gI s.2.2 2000 9).toNat) else 0)
def mAo (u : Nat → Int) (n N : Nat) (res : (Nat × Nat × List Row3) ⊕ (Int × Int)) (y : Int × Sto) : Prop := match res with
  | .inl r => y.1 = (r.2.1 : Int) ∧ MsQ u n N y.2 (.inl r.1) ∧ r.2.1 ≤ 41
  | .inr f => MsQ u n N y.2 (.inr f)
def InB (u : Nat → Int) (n N : Nat) (ms : List Mdl) (cur sub : Mdl) (own : Nat) (res : (Nat × Nat × List Row3) ⊕ (Int × Int)) (S : Sto) (s : Int × Int × Sto) : Prop := ChW PDs S s.2.2 ∧
  ((∃ (j i : Nat) (k : List Row3) (m : Nat), s.1 = (i : Int) ∧ i ≤ 40 ∧ s.2.1 = 1 ∧ MsQ u n N s.2.2 (.inl j) ∧ ArR u n ms cur sub own m j i k res) ∨
   ((s.2.1 = 0 ∨ (s.2.1 = 1 ∧ ∃ f, res = .inr f)) ∧ mAo u n N res (s.1, s.2.2)))
/-- the end of a round -/
def mAf (L i o : Int) (y26 : Sto) : Option ((Int × Int × Sto) ⊕ (Int × Sto)) := bX (mX23_isRight y26) fun x27 => bX (bX (if ¬ w32 x27 = 0 then bX (mX23_isAt y26 44) fun x28 => if ¬ w32 x28 = 0 then some true else some false else some false) fun b => if b = true then some 1 else some 0) fun y29 => bX (bX (if ¬ w32 y29 = 0 then if w32 L ≤ w32 (i + 1) then some true else some false else some false) fun b => if b = true then bX (mX23_flawBefore y26 14 o) fun x30 => some x30 else some y26) fun y31 => bX (if ¬ w32 y29 = 0 then bX (mX23_go y31) fun x32 => some x32 else some y31) fun y33 => some (Sum.inl (i + 1, y29, y33))
theorem arg_eq {y14 y6 : Int} {x2 : Sto} {s : Int × Int × Sto} : mX23_tellInstance_L114 y14 y6 x2 s = bX (mX23_isRight s.2.2) fun x19 => bX (if ¬ w32 x19 = 0 then if ¬ w32 s.2.1 = 0 then some true else some false else some false) fun b => if b = true then bX (mX23_expression s.2.2) fun x20 => bX (mX23_isRight x20) fun x21 => bX (bX (if ¬ w32 x21 = 0 then if w32 s.1 < w32 y14 then rdI 1024 x20 2021 0 fun v22 => bX (mX23_nthOf x20 y6 1 s.1) fun x23 => rdI 640 x20 2012 ((40 * y6) + x23) fun v24 => if ¬ w32 v22 = w32 v24 then some true else some false else some false else some false) fun b => if b = true then bX (mX23_flawBefore x20 13 (gI s.2.2 2000 9)) fun x25 => some x25 else some x20) fun y26 => mAf y14 s.1 (gI x2 2000 25) y26 else some (Sum.inr (s.1, s.2.2)) := rfl
def PoB (u : Nat → Int) (n N : Nat) (ms : List Mdl) (cur sub : Mdl) (own : Nat) (res : (Nat × Nat × List Row3) ⊕ (Int × Int)) (S : Sto) (m0 : Nat) : ((Int × Int × Sto) ⊕ (Int × Sto)) → Prop := WE (fun s' => InB u n N ms cur sub own res S s' ∧ muB N s' < m0) (fun y => ChW PDs S y.2 ∧ mAo u n N res y)
theorem mAf_f {res : (Nat × Nat × List Row3) ⊕ (Int × Int)} {L i o : Int} {m0 : Nat} (hq : MsQ u n N y (.inr f)) (cy : ChW PDs S y) (er : res = .inr f) (h0 : 0 < m0) : WP (mAf L i o y) (PoB u n N ms cur sub own res S m0) := by
  unfold mAf
  rw [m_isRight hq, bX_some, bIf, okQ_f, if_neg (by decide), bX_some, if_neg (by decide), bX_some, w32_0, if_neg (by decide), bX_some, if_neg (by decide), bX_some, if_neg (by decide), bX_some]
  refine WP_some.2 ⟨⟨cy, Or.inr ⟨Or.inl rfl, ?_⟩⟩, ?_⟩
  · rw [er]; exact hq
  · show (if (0 : Int) = 0 then 0 else _) < m0
    rw [if_pos rfl]; exact h0
/-- an argument is read: what comes -/
theorem mAf_ok {res : (Nat × Nat × List Row3) ⊕ (Int × Int)} {i : Nat} {m0 : Nat} {kd : List Row3} (hC : CmI u n N fs cur gv y) (cy : ChW PDs S y) (hq : MsQ u n N y (.inl d)) (ho : own ≤ N) (hi : i ≤ 40) (hil : (insL sub).length ≤ 40) (hm : 1 + (1 + (N - d)) < m0 + 1)
    (hE : ∀ f, (if isS u n 44 d = true then (if (insL sub).length ≤ i + 1 then (.inr (14, (tkB u n own : Int)) : (Nat × List Row3 × Bool) ⊕ (Int × Int)) else oB (nxT u n d) fun j' => .inl (j', kd, true)) else .inl (d, kd, false)) = .inr f → res = .inr f)
    (hD : isS u n 44 d = false → res = .inl (d, i + 1, kd))
    (hN : ∀ j', isS u n 44 d = true → ¬ (insL sub).length ≤ i + 1 → nxT u n d = .inl j' → ∃ m', ArR u n (fMs fs) cur sub own m' j' (i + 1) kd res) :
    WP (mAf ((insL sub).length : Int) (i : Int) (own : Int) y) (PoB u n N (fMs fs) cur sub own res S m0) := by
  have hd : d ≤ N := hq.2.2.1
  unfold mAf
  rw [m_isRight hq, bX_some, bIf, show okQ (.inl d) = true from rfl, if_pos rfl, m_isAt hC.t hd hq.2.1 (by omega), bX_some, bIf]
  by_cases q2 : isS u n 44 d = true
  · have hlt : d < N := lt3 hC.t.l (isS_K q2) hd
    rw [if_pos q2, bX_some, if_pos rfl, bX_some, w32_1, if_pos (by decide), w32_id (x := (i : Int) + 1) (by omega), w32_id (x := ((insL sub).length : Int)) (by omega)]
    rw [if_pos q2] at hE
    by_cases q3 : (insL sub).length ≤ i + 1
    · have er : res = .inr (14, (tkB u n own : Int)) := hE _ (by rw [if_pos q3])
      rw [if_pos (by omega), bX_some, if_pos rfl]
      refine WP_bX.2 (WP_bX.2 ((m_flawBefore hC.t hq ho (c := 14) (by omega)).mono (fun z hz => WP_some.2 ?_)))
      have z1 : MsQ u n N z (.inr (14, (tkB u n own : Int))) := hz.1
      have cz : ChW PDs S z := cy.tr hz.2 PF10_s
      rw [if_pos (by decide)]
      refine WP_bX.2 (WP_bX.2 ((m_go (hC.t.pd (ChW.refl.tr hz.2 PF10_s)) z1 (fun i e => by cases e)).mono (fun r hr => WP_some.2 (WP_some.2 ?_))))
      have r1 : MsQ u n N r (.inr (14, (tkB u n own : Int))) := hr.1
      refine ⟨⟨cz.tr hr.2 PG9_s, Or.inr ⟨Or.inr ⟨rfl, _, er⟩, ?_⟩⟩, ?_⟩
      · rw [er]; exact r1
      · show (if (1 : Int) = 0 then 0 else 1 + (if gI r 2000 10 = 0 then _ else 0)) < m0
        rw [if_neg (by decide), if_neg (by rw [r1.1]; exact r1.2.1)]; omega
    · rw [if_neg q3] at hE
      rw [if_neg (by omega), bX_some, if_neg (by decide), bX_some, if_pos (by decide)]
      refine WP_bX.2 (WP_bX.2 ((m_go hC.t hq (fun i e => by injection e with e; omega)).mono (fun r hr => WP_some.2 (WP_some.2 ?_))))
      obtain ⟨r1, r2⟩ := hr
      have r1 : MsQ u n N r (nxT u n d) := r1
      cases hX : nxT u n d with
      | inr f =>
        rw [hX] at r1 hE
        have er : res = .inr f := hE f rfl
        refine ⟨⟨cy.tr r2 PG9_s, Or.inr ⟨Or.inr ⟨rfl, _, er⟩, ?_⟩⟩, ?_⟩
        · rw [er]; exact r1
        · show (if (1 : Int) = 0 then 0 else 1 + (if gI r 2000 10 = 0 then _ else 0)) < m0
          rw [if_neg (by decide), if_neg (by rw [r1.1]; exact r1.2.1)]; omega
      | inl j2 =>
        rw [hX] at r1
        obtain ⟨n1, n2⟩ := nxT_ok hX
        obtain ⟨m', hm'⟩ := hN j2 q2 q3 hX
        refine ⟨⟨cy.tr r2 PG9_s, Or.inl ⟨j2, i + 1, kd, m', by show (i : Int) + 1 = _; omega, by omega, rfl, r1, hm'⟩⟩, ?_⟩
        have r9 : gI r 2000 9 = (j2 : Int) := r1.2.1
        have r10 : gI r 2000 10 = 0 := r1.1
        show (if (1 : Int) = 0 then 0 else 1 + (if gI r 2000 10 = 0 then 1 + (N - (gI r 2000 9).toNat) else 0)) < m0
        rw [if_neg (by decide), if_pos r10, r9, Int.toNat_natCast]; omega
  · rw [if_neg q2, bX_some, if_neg (by decide), bX_some, w32_0, if_neg (by decide), bX_some, if_neg (by decide), bX_some, if_neg (by decide), bX_some]
    have er := hD (bool_f q2)
    refine WP_some.2 ⟨⟨cy, Or.inr ⟨Or.inl rfl, ?_⟩⟩, ?_⟩
    · rw [er]; exact ⟨by show (i : Int) + 1 = ((i + 1 : Nat) : Int); omega, hq, by show i + 1 ≤ 41; omega⟩
    · show (if (0 : Int) = 0 then 0 else _) < m0
      rw [if_pos rfl]; omega
/-- one round over arguments -/
theorem m_arg1 {res : (Nat × Nat × List Row3) ⊕ (Int × Int)} (hC : CmI u n N fs cur gv S) (hsi : si < fs.length) (esub : sub = (fMs fs).getD si []) {x2 : Sto} (hown : gI x2 2000 25 = (own : Int)) (ho : own ≤ N) (s : Int × Int × Sto) (hI : InB u n N (fMs fs) cur sub own res S s) :
    WP (mX23_tellInstance_L114 ((insL sub).length : Int) (si : Int) x2 s) (WE (fun s' => InB u n N (fMs fs) cur sub own res S s' ∧ muB N s' < muB N s) (fun y => ChW PDs S y.2 ∧ mAo u n N res y)) := by
  show WP _ (PoB u n N (fMs fs) cur sub own res S (muB N s))
  have hb := hC.b
  obtain ⟨sn, sm, st⟩ := s
  obtain ⟨i0, i1⟩ := hI
  dsimp only at i0 i1
  have C0 := hC.ch i0
  have hso := (C0.r.2.2.2.1 si (by rw [fMs_len]; exact hsi)).1.1
  rw [← esub] at hso
  have hil := insL_le (m := sub)
  rw [arg_eq, hown]
  dsimp only
  rcases i1 with ⟨j, i, k, m, e1, e2, e3, e4, e5⟩ | ⟨e1, e2⟩
  · subst e1
    subst e3
    have h10 : gI st 2000 10 = 0 := e4.1
    have h9 : gI st 2000 9 = (j : Int) := e4.2.1
    have hj : j ≤ N := e4.2.2.1
    have mu0 : muB N ((i : Int), 1, st) = 2 + (N - j) := by
      unfold muB
      dsimp only
      rw [if_neg (by decide), if_pos h10, h9, Int.toNat_natCast]; omega
    rw [m_isRight e4, bX_some, bIf, show okQ (.inl j) = true from rfl, if_pos rfl, w32_1, if_pos (by decide), bX_some, if_pos rfl]
    have hA : ∃ R, ArO u n (fMs fs) cur sub own j i k R ∧ ((∃ f, R = .inr f ∧ res = .inr f) ∨ (∃ d k', R = .inl (d, k', false) ∧ res = .inl (d, i + 1, k')) ∨ ∃ j' k' m', R = .inl (j', k', true) ∧ ArR u n (fMs fs) cur sub own m' j' (i + 1) k' res) := by
      cases m with
      | zero => exact e5.elim
      | succ m =>
        rcases e5 with ⟨f, a, b⟩ | ⟨d, k', a, b⟩ | ⟨j', k', a, b⟩
        · exact ⟨_, a, Or.inl ⟨f, rfl, b⟩⟩
        · exact ⟨_, a, Or.inr (Or.inl ⟨d, k', rfl, b⟩)⟩
        · exact ⟨_, a, Or.inr (Or.inr ⟨j', k', m, rfl, b⟩)⟩
    obtain ⟨R, hO, hR⟩ := hA
    have erf : ∀ f, R = .inr f → res = .inr f := fun f eR => by
      rcases hR with ⟨f', a, b⟩ | ⟨d, k', a, b⟩ | ⟨j', k', m', a, b⟩
      · rw [eR] at a; injection a with a; rw [b, ← a]
      · rw [eR] at a; cases a
      · rw [eR] at a; cases a
    rcases hO with ⟨f, g, eR⟩ | ⟨d, k', w, g, eR⟩
    · refine WP_call (m_expr0 C0.t C0.m e4 C0.r g) (fun x20 h20 => ?_)
      have q20 : MsQ u n N x20 (.inr f) := h20.2
      have c20 : ChW PDs S x20 := i0.tr h20.1 PAQ_s
      rw [m_isRight q20, bX_some, bIf, okQ_f, if_neg (by decide), bX_some, if_neg (by decide), bX_some]
      exact mAf_f q20 c20 (erf f eR) (by rw [mu0]; omega)
    · refine WP_call (m_expr0 C0.t C0.m e4 C0.r g) (fun x20 h20 => ?_)
      obtain ⟨b0, b1, b2⟩ := h20
      obtain ⟨b3, b4, b5⟩ := b2 w rfl
      have b1 : MsQ u n N x20 (.inl d) := b1
      have c20 : ChW PDs S x20 := i0.tr b0 PAQ_s
      have C20 := hC.ch c20
      have hd : d ≤ N := b1.2.2.1
      have hjd := (oGr.leD hC.t.l g trivial d (k', [w]) rfl hj).2.1 rfl
      have hs20 := C20.r.2.1 si (by rw [fMs_len]; exact hsi)
      rw [← esub] at hs20
      rw [m_isRight b1, bX_some, bIf, show okQ (.inl d) = true from rfl, if_pos rfl, w32_id (x := (i : Int)) (by omega), w32_id (x := ((insL sub).length : Int)) (by omega)]
      have hwc : (if (i : Int) < ((insL sub).length : Int) then rdI 1024 x20 2021 0 fun v22 => bX (mX23_nthOf x20 (si : Int) 1 (i : Int)) fun x23 => rdI 640 x20 2012 ((40 * (si : Int)) + x23) fun v24 => if ¬ w32 v22 = w32 v24 then some true else some false else some false) = some (decide (i < (insL sub).length ∧ w ≠ (sub.getD ((insL sub).getD i 0) nm0).2.2.1)) := by
        by_cases q : i < (insL sub).length
        · obtain ⟨q1, q2⟩ := insL_lt q
          obtain ⟨_, _, z3, _⟩ := hs20.2 _ q1
          have ei : ((40 : Int) * (si : Int) + (((insL sub).getD i 0 : Nat) : Int)) = ((40 * si + (insL sub).getD i 0 : Nat) : Int) := by omega
          rw [if_pos (by omega), rdI_e (by omega), show (0 : Int).toNat = 0 from rfl, b3, m_nthOf1 hs20 (by omega) hso q, bX_some, ei, rdI_e (by omega), Int.toNat_natCast, z3, w32_id (x := w) (by omega), w32_id (x := (sub.getD ((insL sub).getD i 0) nm0).2.2.1) (by rw [← z3]; exact gI_rng _ _ _)]
          by_cases q3 : w = (sub.getD ((insL sub).getD i 0) nm0).2.2.1
          · rw [if_neg (fun z => z q3), decide_eq_false (fun z => z.2 q3)]
          · rw [if_pos q3, decide_eq_true ⟨q, q3⟩]
        · rw [if_neg (by omega), decide_eq_false (fun z => q z.1)]
      rw [hwc, bX_some]
      by_cases q : i < (insL sub).length ∧ w ≠ (sub.getD ((insL sub).getD i 0) nm0).2.2.1
      · rw [if_pos q] at eR
        rw [decide_eq_true q, if_pos rfl, h9]
        refine WP_bX.2 (WP_call (m_flawBefore C20.t b1 hj (c := 13) (by omega)) (fun z hz => WP_some.2 ?_))
        exact mAf_f hz.1 (c20.tr hz.2 PF10_s) (erf _ eR) (by rw [mu0]; omega)
      · rw [if_neg q] at eR
        rw [decide_eq_false q, if_neg (by decide), bX_some]
        refine mAf_ok (kd := k') C20 c20 b1 ho e2 (by omega) (by rw [mu0]; omega) (fun f ef => erf f (by rw [eR]; exact ef)) (fun h44 => ?_) (fun j2 h44 hni hx => ?_)
        · rw [h44, if_neg (by decide)] at eR
          rcases hR with ⟨f', a, b⟩ | ⟨d2, k2, a, b⟩ | ⟨j', k2, m', a, b⟩
          · rw [eR] at a; cases a
          · rw [eR] at a; injection a with a; injection a with a a2; injection a2 with a2 a3
            subst a; subst a2; exact b
          · rw [eR] at a; injection a with a; injection a with a a2; injection a2 with a2 a3; cases a3
        · rw [if_pos h44, if_neg hni, hx] at eR
          have eR : R = .inl (j2, k', true) := eR
          rcases hR with ⟨f', a, b⟩ | ⟨d2, k2, a, b⟩ | ⟨j', k2, m', a, b⟩
          · rw [eR] at a; cases a
          · rw [eR] at a; injection a with a; injection a with a a2; injection a2 with a2 a3; cases a3
          · rw [eR] at a; injection a with a; injection a with a a2; injection a2 with a2 a3
            subst a; subst a2; exact ⟨m', b⟩
  · cases res with
    | inl r =>
      rcases e1 with e1 | ⟨e1, f, e⟩
      · subst e1
        obtain ⟨z1, z2, z3⟩ := e2
        rw [m_isRight z2, bX_some, bIf, show okQ (.inl r.1) = true from rfl, if_pos rfl, w32_0, if_neg (by decide), bX_some, if_neg (by decide)]
        exact WP_some.2 ⟨i0, z1, z2, z3⟩
      · cases e
    | inr f =>
      have e2 : MsQ u n N st (.inr f) := e2
      rw [m_isRight e2, bX_some, bIf, okQ_f, if_neg (by decide), bX_some, if_neg (by decide)]
      exact WP_some.2 ⟨i0, e2⟩
end MIN
