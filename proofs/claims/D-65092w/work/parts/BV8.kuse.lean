/-! the class reads items: arguments of an instance -/
theorem flt_at {p : Nat → Bool} {a : Nat} : ∀ q, a < q → p a = true → ((List.range a).filter p).length < ((List.range q).filter p).length ∧ ((List.range q).filter p).getD ((List.range a).filter p).length 0 = a
  | 0, h, _ => absurd h (by omega)
  | q + 1, h, hp => by
    rw [List.range_succ, List.filter_append, List.length_append]
    by_cases e : a = q
    · subst e
      rw [List.filter_cons_of_pos hp, List.filter_nil]
      refine ⟨by show _ < _ + 1; omega, ?_⟩
      rw [List.getD_eq_getElem?_getD, List.getElem?_append_right (Nat.le_refl _), Nat.sub_self]; rfl
    · obtain ⟨h1, h2⟩ := flt_at q (by omega) hp
      refine ⟨by omega, ?_⟩
      rw [List.getD_eq_getElem?_getD, List.getElem?_append_left h1, ← List.getD_eq_getElem?_getD]
      exact h2
def cInp (m : Mdl) (a : Nat) : Nat := ((List.range a).filter (fun i => decide ((m.getD i nm0).2.1 = 0))).length
theorem cInp_s {m : Mdl} {a : Nat} : cInp m (a + 1) = cInp m a + if (m.getD a nm0).2.1 = 0 then 1 else 0 := by
  unfold cInp
  rw [List.range_succ, List.filter_append, List.length_append]
  by_cases g : (m.getD a nm0).2.1 = 0
  · rw [if_pos g, List.filter_cons_of_pos (p := fun i => decide ((m.getD i nm0).2.1 = 0)) (decide_eq_true g), List.filter_nil]; rfl
  · rw [if_neg g, List.filter_cons_of_neg (p := fun i => decide ((m.getD i nm0).2.1 = 0)) (fun q => g (of_decide_eq_true q)), List.filter_nil]; rfl
theorem insL_at {m : Mdl} {a : Nat} (h : a < m.length) (g : (m.getD a nm0).2.1 = 0) : (insL m).getD (cInp m a) 0 = a := (flt_at m.length h (decide_eq_true g)).2
theorem insL_lt {m : Mdl} {i : Nat} (h : i < (insL m).length) : (insL m).getD i 0 < m.length ∧ (m.getD ((insL m).getD i 0) nm0).2.1 = 0 := by
  have hm : (insL m).getD i 0 ∈ insL m := by
    rw [List.getD_eq_getElem?_getD, List.getElem?_eq_getElem h]
    exact List.getElem_mem h
  unfold insL at hm
  obtain ⟨h1, h2⟩ := List.mem_filter.1 hm
  exact ⟨List.mem_range.1 h1, of_decide_eq_true h2⟩
section KAR
variable {S S0 x z y : Sto} {u : Nat → Int} {n N M : Nat} {fs : List Fin0} {ms : List Mdl} {cur m sub : Mdl} {gv : List Nat} {its its' : List Itm} {k k' : List Row3} {j b jn kl own : Nat} {s w v fr : Int}
/-- the k-th input -/
theorem k_input (hM : MdK u n S M m) (hl : m.length ≤ 40) {i : Nat} (hi : i < (insL m).length) : mX7_input S M (i : Int) = some (((insL m).getD i 0 : Nat) : Int) := by
  refine WP.of ?_
  have hlen : gI S (M + 1) 2 = (m.length : Int) := by have := hM.1.c; rw [mTk_len] at this; exact this
  have hle := insL_le (m := m)
  unfold mX7_input
  refine WP_bE.2 ?_
  refine WP_cnt m.length (fun q s => s.2 = (q : Int) ∧ s.1 = ((i - cInp m q : Nat) : Int) ∧ cInp m q ≤ i) (by show _ < 1000000000000; omega) ⟨rfl, rfl, by show 0 ≤ i; omega⟩ (fun q s hq hs => ?_) (fun s hs => ?_)
  · obtain ⟨a, b⟩ := s
    obtain ⟨s1, s2, s3⟩ := hs
    dsimp only at s1 s2
    subst s1
    subst s2
    obtain ⟨h4, _⟩ := hM.2.1 q hq
    have hst := cInp_s (m := m) (a := q)
    unfold mX7_input_L4
    dsimp only
    rw [hlen, w32_id (by omega), w32_id (by omega), if_pos (by omega), rdI_e (by omega), Int.toNat_natCast, h4, w32_id (x := (m.getD q nm0).2.1) (by rw [← h4]; exact gI_rng _ _ _)]
    by_cases g : (m.getD q nm0).2.1 = 0
    · rw [if_neg (fun w => w g), w32_id (by omega)]
      rw [if_pos g] at hst
      by_cases e : ((i - cInp m q : Nat) : Int) = 0
      · rw [if_pos e, bE_inr]
        refine WP_some.2 ?_
        show (q : Int) = _
        have : cInp m q = i := by omega
        rw [← this, insL_at hq g]
      · rw [if_neg e, bE_inl]
        refine WP_some.2 ⟨by show (q : Int) + 1 = _; omega, by show ((i - cInp m q : Nat) : Int) + (-1) = _; omega, by omega⟩
    · rw [if_pos g, bE_inl]
      rw [if_neg g] at hst
      refine WP_some.2 ⟨by show (q : Int) + 1 = _; omega, by show ((i - cInp m q : Nat) : Int) = _; rw [hst]; rfl, by omega⟩
  · obtain ⟨_, _, s3⟩ := hs
    have : cInp m m.length = (insL m).length := rfl
    omega
def AOut (u : Nat → Int) (n N : Nat) (res : (Nat × Nat × List Row3) ⊕ (Int × Int)) (y : Int × Sto) : Prop := match res with
  | .inl r => y.1 = (r.2.1 : Int) ∧ ScQ u n y.2 4 (.inl r.1) ∧ RwK y.2 170 (flat3 r.2.2) ∧ gI y.2 4 10 = 0 ∧ r.1 ≤ N ∧ r.2.2.length ≤ r.1 ∧ r.2.1 ≤ 41
  | .inr f => ScQ u n y.2 4 (.inr f) ∧ okCap (gI y.2 170 2)
def muA (n : Nat) (s : Int × Int × Sto) : Nat := if s.2.1 = 0 then 0 else 1 + (if gI s.2.2 4 8 = 0 then 1 + (n - (gI s.2.2 4 4).toNat) else 0)
/-- what the loop over arguments keeps -/
def InA (u : Nat → Int) (n N : Nat) (ms : List Mdl) (cur sub : Mdl) (own j0 : Nat) (k0 : List Row3) (S : Sto) (s : Int × Int × Sto) : Prop := ChXd S s.2.2 ∧
  ((∃ (j i : Nat) (k : List Row3), s.1 = (i : Int) ∧ i ≤ 40 ∧ s.2.1 = 1 ∧ ScQ u n s.2.2 4 (.inl j) ∧ j ≤ N ∧ RwK s.2.2 170 (flat3 k) ∧ gI s.2.2 4 10 = 0 ∧ k.length ≤ j ∧ ∀ m res, ArR u n ms cur sub own m j i k res → ∃ m', ArR u n ms cur sub own m' j0 0 k0 res) ∨
   (s.2.1 = 0 ∧ ∃ m' e c k', ArR u n ms cur sub own m' j0 0 k0 (.inl (e, c, k')) ∧ AOut u n N (.inl (e, c, k')) (s.1, s.2.2)) ∨
   ((s.2.1 = 0 ∨ s.2.1 = 1) ∧ ∃ m' f, ArR u n ms cur sub own m' j0 0 k0 (.inr f) ∧ AOut u n N (.inr f) (s.1, s.2.2)))
/-- one round over arguments -/
theorem k_arg1 (hN : N ≤ 1500) (hms : ms.length ≤ 15) {a1 si : Nat} (ea : a1 = 9 + 10 * si) (hsi : si < ms.length) (esub : sub = ms.getD si []) (hc : CtD u n N ms cur S0 S) (h6 : gI S a1 6 = ((insL sub).length : Int)) {j0 : Nat} {k0 : List Row3} (s : Int × Int × Sto) (hI : InA u n N ms cur sub own j0 k0 S s) :
    WP (mX2_arguments_L21 a1 (tkB u n own : Int) s) (WE (fun s' => InA u n N ms cur sub own j0 k0 S s' ∧ muA n s' < muA n s) (fun y => ChXd S y.2 ∧ ∃ m' res, ArR u n ms cur sub own m' j0 0 k0 res ∧ AOut u n N res y)) := by
  have hn := hc.t.b
  obtain ⟨sn, sm, st⟩ := s
  obtain ⟨i0, i1⟩ := hI
  dsimp only at i0 i1
  unfold mX2_arguments_L21
  dsimp only
  have ct := hc.ch i0
  rcases i1 with ⟨j, i, k, e1, e2, e3, e4, e5, e6, e7, e8, e9⟩ | ⟨e1, m', e, c, k', e2, e3⟩ | ⟨e1, m', f, e2, e3⟩
  · subst e1
    subst e3
    have hB := tkB_le (u := u) (n := n) j
    have hBo := tkB_le (u := u) (n := n) own
    have m8 : gI st 4 8 = 0 := e4.1
    have m4 : gI st 4 4 = (tkB u n j : Nat) := e4.2.2.1
    have mu0 : muA n ((i : Int), 1, st) = 2 + (n - tkB u n j) := by
      unfold muA
      dsimp only
      rw [if_neg (by decide), if_pos m8, m4, Int.toNat_natCast]; omega
    obtain ⟨hs1, hs2⟩ := ct.o si hsi
    rw [← esub, ← ea] at hs1
    rw [← esub] at hs2
    have hil := insL_le (m := sub)
    have hsl := hs2.1
    rw [w32_1, if_pos (by decide), k_ok e4, bX_some, bIf, show okQ (.inl j) = true from rfl, if_pos rfl, bX_some, if_pos rfl]
    refine WP_call (k_exprD hN ct e4 e5 e7 e6 e8) (fun y hy => ?_)
    obtain ⟨y0, hy⟩ := hy
    have cy : ChXd S y.2 := i0.tr y0
    rcases hy with ⟨f, g1, g2, g3⟩ | ⟨d, kd, w, g1, g2, g3, g4, g5, g6, g7, g8, g9⟩
    · -- a fault in the expression
      obtain ⟨m', hm'⟩ := e9 1 (.inr f) (Or.inl ⟨f, Or.inl ⟨f, g1, rfl⟩, rfl⟩)
      rw [k_ok g2, bX_some, bIf, okQ_f, if_neg (by decide), bX_some, if_neg (by decide), bX_some, k_is g2 hc.t.u (by decide), bX_some, bIf]
      show WP (bX (bX (if false = true then _ else some false) _) _) _
      rw [if_neg (by decide), bX_some, if_neg (by decide), bX_some, bIf]
      show WP (bX (if false = true then _ else _) _) _
      rw [if_neg (by decide), bX_some]
      refine WP_some.2 ⟨⟨cy, Or.inr (Or.inr ⟨Or.inl rfl, m', f, hm', g2, g3⟩)⟩, ?_⟩
      rw [mu0]
      show (if (0 : Int) = 0 then 0 else _) < _
      rw [if_pos rfl]; omega
    · subst g5
      have dB := tkB_le (u := u) (n := n) d
      -- the width of the input
      have c5 : gI y.2 a1 6 = ((insL sub).length : Int) := by rw [cy.1 _ _ (by omega) (by omega) (fun w => by unfold PDx at w; omega)]; exact h6
      obtain ⟨hy1, _⟩ := (ct.ch y0).o si hsi
      rw [← esub, ← ea] at hy1
      rw [k_ok g2, bX_some, bIf, show okQ (.inl d) = true from rfl, if_pos rfl, c5, w32_id (x := (i : Int)) (by omega), w32_id (x := ((insL sub).length : Int)) (by omega)]
      have hwc : (if (i : Int) < ((insL sub).length : Int) then bX (mX7_input y.2 a1 (i : Int)) fun x6 => rdI 40 y.2 (a1 + 5) x6 fun v7 => if ¬ w32 y.1 = w32 v7 then some true else some false else some false) = some (decide (i < (insL sub).length ∧ y.1 ≠ (sub.getD ((insL sub).getD i 0) nm0).2.2.1)) := by
        by_cases q : i < (insL sub).length
        · obtain ⟨q1, q2⟩ := insL_lt q
          rw [if_pos (by omega), k_input hy1 hsl q, bX_some, rdI_e (by omega), Int.toNat_natCast, (hy1.2.1 _ q1).2.1, w32_id (x := y.1) (by omega), w32_id (x := (sub.getD ((insL sub).getD i 0) nm0).2.2.1) (by rw [← (hy1.2.1 _ q1).2.1]; exact gI_rng _ _ _)]
          by_cases q3 : y.1 = (sub.getD ((insL sub).getD i 0) nm0).2.2.1
          · rw [if_neg (fun z => z q3), decide_eq_false (fun z => z.2 q3)]
          · rw [if_pos q3, decide_eq_true ⟨q, q3⟩]
        · rw [if_neg (by omega), decide_eq_false (fun z => q z.1)]
      rw [hwc, bX_some]
      have hO := fun (res : (Nat × List Row3 × Bool) ⊕ (Int × Int)) (h : res = if i < (insL sub).length ∧ y.1 ≠ (sub.getD ((insL sub).getD i 0) nm0).2.2.1 then .inr (13, (tkB u n j : Int)) else if isS u n 44 d = true then (if (insL sub).length ≤ i + 1 then .inr (14, (tkB u n own : Int)) else oB (nxT u n d) fun j' => .inl (j', kd, true)) else .inl (d, kd, false)) => (show ArO u n ms cur sub own j i k res from Or.inr ⟨d, kd, y.1, g1, h⟩)
      by_cases q : i < (insL sub).length ∧ y.1 ≠ (sub.getD ((insL sub).getD i 0) nm0).2.2.1
      · -- a wrong width
        rw [decide_eq_true q, if_pos rfl, m4]
        refine WP_bX.2 (WP_call (k_failP g2 (c := 13) (by omega) (p := (tkB u n j : Int)) (by omega)) (fun z hz => WP_some.2 ?_))
        obtain ⟨z1, z2⟩ := hz
        have z1 : ScQ u n z 4 (.inr (13, (tkB u n j : Int))) := z1
        obtain ⟨m', hm'⟩ := e9 1 (.inr (13, (tkB u n j : Int))) (Or.inl ⟨_, hO _ (by rw [if_pos q]), rfl⟩)
        rw [k_is z1 hc.t.u (by decide), bX_some, bIf]
        show WP (bX (bX (if false = true then _ else some false) _) _) _
        rw [if_neg (by decide), bX_some, if_neg (by decide), bX_some, bIf]
        show WP (bX (if false = true then _ else _) _) _
        rw [if_neg (by decide), bX_some]
        refine WP_some.2 ⟨⟨cy.f z2, Or.inr (Or.inr ⟨Or.inl rfl, m', _, hm', z1, (g3.f z2).2.2.1⟩)⟩, ?_⟩
        rw [mu0]
        show (if (0 : Int) = 0 then 0 else _) < _
        rw [if_pos rfl]; omega
      · rw [decide_eq_false q, if_neg (by decide), bX_some, k_is g2 hc.t.u (by decide), bX_some, bIf]
        show WP (bX (bX (if isS u n 44 d = true then _ else some false) _) _) _
        by_cases q2 : isS u n 44 d = true
        · have hlt : d < N := lt3 hc.l (isS_K q2) g8
          have hBd := hc.l.lt hlt
          rw [if_pos q2, w32_id (x := (i : Int) + 1) (by omega), c5, w32_id (x := ((insL sub).length : Int)) (by omega)]
          have e1b : b2i (isSq u n 44 (.inl d)) = 1 := by show b2i (isS u n 44 d) = 1; rw [q2]; rfl
          by_cases q3 : (insL sub).length ≤ i + 1
          · rw [if_pos (by omega), bX_some, if_pos rfl]
            refine WP_bX.2 (WP_call (k_failP g2 (c := 14) (by omega) (p := (tkB u n own : Int)) (by omega)) (fun z hz => WP_some.2 ?_))
            obtain ⟨z1, z2⟩ := hz
            have z1 : ScQ u n z 4 (.inr (14, (tkB u n own : Int))) := z1
            obtain ⟨m', hm'⟩ := e9 1 (.inr (14, (tkB u n own : Int))) (Or.inl ⟨_, hO _ (by rw [if_neg q, if_pos q2, if_pos q3]), rfl⟩)
            rw [e1b, w32_1, if_pos (by decide)]
            have tz := (ct.ch y0).t.ch z2 (fun q => by unfold PF89 at q; omega) (fun i q => by unfold PF89 at q; omega)
            refine WP_bX.2 (WP_call (k_next3 tz z1) (fun r hr => WP_some.2 (WP_some.2 ?_)))
            obtain ⟨r1, r2⟩ := hr
            have r1 : ScQ u n r 4 (.inr (14, (tkB u n own : Int))) := r1
            refine ⟨⟨(cy.f z2).p r2, Or.inr (Or.inr ⟨Or.inr rfl, m', _, hm', r1, ((g3.f z2).p r2).2.2.1⟩)⟩, ?_⟩
            rw [mu0]
            show (if (1 : Int) = 0 then 0 else 1 + (if gI r 4 8 = 0 then _ else 0)) < _
            rw [if_neg (by decide), if_neg (by rw [r1.1]; exact r1.2.1)]; omega
          · rw [if_neg (by omega), bX_some, if_neg (by decide), bX_some, e1b, w32_1, if_pos (by decide)]
            refine WP_bX.2 (WP_call (k_next3 (ct.ch y0).t g2) (fun r hr => WP_some.2 (WP_some.2 ?_)))
            obtain ⟨r1, r2⟩ := hr
            have r1 : ScQ u n r 4 (nxT u n d) := r1
            cases hA : nxT u n d with
            | inr f =>
              rw [hA] at r1
              obtain ⟨m', hm'⟩ := e9 1 (.inr f) (Or.inl ⟨f, hO _ (by rw [if_neg q, if_pos q2, if_neg q3, hA]; rfl), rfl⟩)
              refine ⟨⟨cy.p r2, Or.inr (Or.inr ⟨Or.inr rfl, m', f, hm', r1, (g3.p r2).2.2.1⟩)⟩, ?_⟩
              rw [mu0]
              show (if (1 : Int) = 0 then 0 else 1 + (if gI r 4 8 = 0 then _ else 0)) < _
              rw [if_neg (by decide), if_neg (by rw [r1.1]; exact r1.2.1)]; omega
            | inl j' =>
              rw [hA] at r1
              obtain ⟨n1, n2⟩ := nxT_ok hA
              refine ⟨⟨cy.p r2, Or.inl ⟨j', i + 1, kd, by show (i : Int) + 1 = _; omega, by omega, rfl, r1, by omega, g3.p r2, (opnP r2).trans g4, by omega, fun m res hr => ?_⟩⟩, ?_⟩
              · exact e9 (m + 1) res (Or.inr (Or.inr ⟨j', kd, hO _ (by rw [if_neg q, if_pos q2, if_neg q3, hA]; rfl), hr⟩))
              · rw [mu0]
                have hslt := tkB_slt hBd (show d < j' by omega)
                have hjd := tkB_mono (u := u) (n := n) (show j ≤ d by omega)
                have r8 : gI r 4 8 = 0 := r1.1
                have r4 : gI r 4 4 = (tkB u n j' : Nat) := r1.2.2.1
                show (if (1 : Int) = 0 then 0 else 1 + (if gI r 4 8 = 0 then 1 + (n - (gI r 4 4).toNat) else 0)) < _
                rw [if_neg (by decide), if_pos r8, r4, Int.toNat_natCast]; omega
        · rw [if_neg q2, bX_some, if_neg (by decide), bX_some, bIf]
          show WP (bX (if isS u n 44 d = true then _ else _) _) _
          rw [if_neg q2, bX_some]
          obtain ⟨m', hm'⟩ := e9 1 (.inl (d, i + 1, kd)) (Or.inr (Or.inl ⟨d, kd, hO _ (by rw [if_neg q, if_neg q2]), rfl⟩))
          have e0b : b2i (isSq u n 44 (.inl d)) = 0 := by show b2i (isS u n 44 d) = 0; rw [bool_f q2]; rfl
          rw [e0b]
          refine WP_some.2 ⟨⟨cy, Or.inr (Or.inl ⟨rfl, m', d, i + 1, kd, hm', by show (i : Int) + 1 = ((i + 1 : Nat) : Int); omega, g2, g3, g4, g8, g9, by show i + 1 ≤ 41; omega⟩)⟩, ?_⟩
          rw [mu0]
          show (if (0 : Int) = 0 then 0 else _) < _
          rw [if_pos rfl]; omega
  · subst e1
    rw [w32_0, if_neg (by decide), bX_some, if_neg (by decide)]
    exact WP_some.2 ⟨i0, m', _, e2, e3⟩
  · obtain ⟨e3, e4⟩ := e3
    dsimp only at e3 e4
    rcases e1 with e1 | e1 <;> subst e1
    · rw [w32_0, if_neg (by decide), bX_some, if_neg (by decide)]
      exact WP_some.2 ⟨i0, m', _, e2, e3, e4⟩
    · rw [w32_1, if_pos (by decide), k_ok e3, bX_some, bIf, okQ_f, if_neg (by decide), bX_some, if_neg (by decide)]
      exact WP_some.2 ⟨i0, m', _, e2, e3, e4⟩
/-- arguments -/
theorem k_args (hN : N ≤ 1500) (hms : ms.length ≤ 15) {a1 si : Nat} (ea : a1 = 9 + 10 * si) (hsi : si < ms.length) (esub : sub = ms.getD si []) (hc : CtD u n N ms cur S0 S) (h6 : gI S a1 6 = ((insL sub).length : Int)) (hq : ScQ u n S 4 (.inl j)) (hj : j ≤ N) (hR : RwK S 170 (flat3 k)) (hl : k.length ≤ j) (h10 : gI S 4 10 = 0) :
    WP (mX2_arguments S a1 (tkB u n own : Int)) (fun y => ChXd S y.2 ∧ ∃ res, AgR u n ms cur sub own j k res ∧ AOut u n N res y) := by
  have hn := hc.t.b
  unfold mX2_arguments
  rw [k_is hq hc.t.u (by decide), bX_some]
  by_cases g : isS u n 41 j = true
  · have e1 : b2i (isSq u n 41 (.inl j)) = 1 := by show b2i (isS u n 41 j) = 1; rw [g]; rfl
    rw [e1, w32_1, if_neg (by decide)]
    refine WP_bX.2 (WP_lpF (fun s => s = ((0 : Int), (0 : Int), S)) (fun _ => 0) rfl (by decide) (fun s hs => ?_))
    subst hs
    unfold mX2_arguments_L21
    dsimp only
    rw [w32_0, if_neg (by decide), bX_some, if_neg (by decide)]
    exact WP_some.2 (WP_some.2 ⟨ChXd.refl, .inl (j, 0, k), Or.inl ⟨g, rfl⟩, rfl, hq, hR, h10, hj, hl, by show 0 ≤ 41; omega⟩)
  · have e1 : b2i (isSq u n 41 (.inl j)) = 0 := by show b2i (isS u n 41 j) = 0; rw [bool_f g]; rfl
    rw [e1, w32_0, if_pos rfl]
    refine WP_bX.2 ((WP_lpF (P := fun y => ChXd S y.2 ∧ ∃ m' res, ArR u n ms cur sub own m' j 0 k res ∧ AOut u n N res y) (InA u n N ms cur sub own j k S) (muA n) ⟨ChXd.refl, Or.inl ⟨j, 0, k, rfl, by omega, rfl, hq, hj, hR, h10, hl, fun m res h => ⟨m, h⟩⟩⟩ ?_ (fun s hs => k_arg1 hN hms ea hsi esub hc h6 s hs)).mono (fun y hy => WP_some.2 ?_))
    · unfold muA
      dsimp only
      rw [if_neg (by decide), if_pos hq.1]
      show _ < 1000000000000
      omega
    · obtain ⟨y1, m', res, y2, y3⟩ := hy
      exact ⟨y1, res, Or.inr ⟨bool_f g, m', y2⟩, y3⟩
end KAR
