/-! the reference's loop, third part -/
section MS3
variable {V : Type} {X : OM V} {N : Nat} {md : Int} {Q : Nat → Nat → Prop} {Rp : V → Sto → Prop} {S z : Sto} {ops : List (Int × Nat)} {j o : Nat} {v : V} {f : Int × Int}
theorem tv_rng (t : MTk X.u X.n N S) (k : tkK X.u X.n j = 3) : 0 ≤ tkV X.u X.n j ∧ tkV X.u X.n j ≤ 257 := by
  have := tK_3 t.u (show tK X.u X.n (tkB X.u X.n j) = 3 from k)
  exact ⟨this.2.1, this.2.2.1⟩
theorem m_isOp (hI : OIn X N md Q Rp) (t : MTk X.u X.n N S) (hj : j ≤ N) (h9 : gI S 2000 9 = (j : Int)) (h27 : gI S 2000 27 = md) : mX23_isOperator S = some (b2i (decide (X.r j ≠ 0))) := by
  unfold mX23_isOperator
  rw [h9, t.k hj, tkK_id, h27]
  by_cases k : tkK X.u X.n j = 3
  · have hv := tv_rng t k
    rw [if_pos k, t.v hj (by omega), m_rank (w32_id (by omega)), bX_some, bX_some, oR_w]
    have h5 := oR_le (tkV X.u X.n j)
    unfold OM.r
    rw [if_pos k]
    generalize oR (tkV X.u X.n j) = R at h5 ⊢
    by_cases g : R = 0
    · subst g
      rw [if_neg (by decide), bX_some, if_neg (by decide), bX_some, gz_0]
      split <;> rfl
    · rw [if_pos (by omega)]
      rcases hI.mde with ⟨a1, a2⟩ | ⟨a1, a2⟩
      · rw [a2, if_pos (by decide)]
        by_cases g4 : R < 4
        · rw [if_pos (by omega), bX_some, if_pos rfl, bX_some, gz_1, if_neg (by omega), decide_eq_true g]; rfl
        · rw [if_neg (by omega), bX_some, if_neg (by decide), bX_some, gz_0, if_pos ⟨a1, by omega⟩]; rfl
      · have hw : ¬ 2 ≤ w32 md := by rcases a2 with a2 | a2 <;> rw [a2] <;> decide
        rw [if_neg hw, bX_some, if_pos rfl, bX_some, gz_1, if_neg (fun q => by rw [a1] at q; cases q.1), decide_eq_true g]; rfl
  · rw [if_neg k, bX_some, show w32 0 = 0 from rfl, if_neg (by decide), bX_some, if_neg (by decide), bX_some, gz_0]
    unfold OM.r
    rw [if_neg k]; rfl
theorem sim_behind (hI : OIn X N md Q Rp) (hX : OX X N) (hc : okC X N (.inl (1, j, ops, o, v))) (t : MTk X.u X.n N S) (h27 : gI S 2000 27 = md) (hq : MsQ X.u X.n N S (.inl j)) (hm : OMS X Rp ops o v S) :
    WP (mX23_behind S 0) (fun y => ChW (PAq Q) S y.2 ∧ OMc X N Rp (oBh X false j ops o v) y.1 y.2) := by
  have hs := okC_st hc rfl
  obtain ⟨c1, c2, c3, c4, c5, c6, c7⟩ := hc
  have h9 : gI S 2000 9 = (j : Int) := hq.2.1
  have hr5 := r_le (X := X) j
  rw [behind_eq, m_isOp hI t c1 h9 h27, bX_some]
  have e4 : (if ¬ w32 (b2i (decide (X.r j ≠ 0))) = 0 then rdI 65537 S 2004 (gI S 2000 9) fun v2 => bX (mX23_rank v2) fun x3 => some x3 else some 0) = some ((X.r j : Nat) : Int) := by
    rw [bIf]
    by_cases g : X.r j = 0
    · rw [if_neg (by rw [decide_eq_false (fun q => q g)]; decide), g]; rfl
    · obtain ⟨r1, r2, r3⟩ := r_pos g
      have hv := tv_rng t r1
      rw [if_pos (decide_eq_true g), h9, t.v c1 (by omega), m_rank (w32_id (by omega)), bX_some, r2]
  rw [e4, bX_some]
  have e5 : (if w32 ((X.r j : Nat) : Int) = 4 then some (5 : Int) else if 0 < w32 ((X.r j : Nat) : Int) then some ((X.r j : Nat) : Int) else some 6) = some ((oY (X.r j) : Nat) : Int) := by
    rw [w32_id (by omega)]
    unfold oY
    by_cases g4 : X.r j = 4
    · rw [if_pos (by omega), if_pos g4]; rfl
    · rw [if_neg (by omega), if_neg g4]
      by_cases g0 : 0 < X.r j
      · rw [if_pos (by omega), if_pos g0]
      · rw [if_neg (by omega), if_neg g0]; rfl
  rw [e5, bX_some]
  have hy : 1 ≤ oY (X.r j) ∧ oY (X.r j) ≤ 6 := by
    unfold oY; split
    · omega
    · split <;> omega
  have he : X.e false j = X.r j := by unfold OM.e; rw [if_neg (fun q => absurd q.1 (by decide))]
  refine WP_call (sim_settle hI hX hy t h27 hq hs c5 hm) (fun x hx => ?_)
  obtain ⟨cx, hx⟩ := hx
  have tx := t.pa hI cx
  have x27 := pa_27 hI h27 cx
  unfold oBh
  rw [he]
  cases e : oStl X (oY (X.r j)) ops v with
  | inr f =>
    rw [e] at hx
    exact (sim_beF hI tx hx.1 hx.2 _).mono (fun y hy => ⟨cx.pp hy.1, hy.2⟩)
  | inl r =>
    rw [e] at hx
    obtain ⟨q1, m1⟩ := hx
    obtain ⟨s1, s2⟩ := oStl_ok hX hs e
    obtain ⟨ops1, v1⟩ := r
    dsimp only at q1 m1 s1 s2
    have hlen := s1.len c5
    have x9 : gI x 2000 9 = (j : Int) := q1.2.1
    obtain ⟨p1, p2⟩ := sim_top m1.1 (by omega) m1.2.1
    rw [oB_l]
    unfold mBe
    have hcond : (if 0 < w32 ((X.r j : Nat) : Int) then if w32 ((X.r j : Nat) : Int) = 4 then bX (mX23_top x) fun x7 => if ¬ w32 x7 = 257 then some true else some false else some true else some false) = some (decide (0 < X.r j ∧ (X.r j = 4 → oTop ops1 ≠ 257))) := by
      rw [w32_id (by omega)]
      by_cases g0 : 0 < X.r j
      · rw [if_pos (by omega)]
        by_cases g4 : X.r j = 4
        · rw [if_pos (by omega), p1, bX_some, p2]
          by_cases g7 : oTop ops1 = 257
          · rw [if_neg (fun q => q g7), decide_eq_false (fun q => q.2 g4 g7)]
          · rw [if_pos g7, decide_eq_true ⟨g0, fun _ => g7⟩]
        · rw [if_neg (by omega), decide_eq_true ⟨g0, fun q => absurd q g4⟩]
      · rw [if_neg (by omega), decide_eq_false (fun q => g0 q.1)]
    rw [hcond, bX_some]
    by_cases g : 0 < X.r j ∧ (X.r j = 4 → oTop ops1 ≠ 257)
    · rw [decide_eq_true g, if_pos rfl, if_pos g]
      obtain ⟨r1, r2, r3⟩ := r_pos (X := X) (j := j) (by omega)
      have hv := tv_rng tx r1
      have hjN := sg_lt hX r1 c1
      have hb := t.b; have hbe := t.e
      rw [x9, tx.v c1 (by omega)]
      refine WP_call (sim_hold hI (w32_id (by omega)) (by omega) (by omega) m1) (fun y hy => ?_)
      have py : ChW (PAq Q) x y := hd_pa hy.1 (fun a i q => by omega)
      exact WP_call (sim_go hI (m := 0) (by omega) (tx.pa hI py) (q1.hd hy.1) hjN hy.2) (fun k hk => WP_some.2 ⟨(cx.pp py).pp hk.1, hk.2⟩)
    · rw [decide_eq_false g, if_neg (by decide), if_neg g]
      have hcond2 : (if w32 (gI x 2000 27) < 2 then bX (mX23_isAt x 63) fun x11 => if ¬ w32 x11 = 0 then some true else some false else some false) = some (X.q j) := by
        rw [x27]
        unfold OM.q
        rcases hI.mde with ⟨a1, a2⟩ | ⟨a1, a2⟩
        · rw [a2, if_neg (by decide), a1]; rfl
        · have hw : w32 md < 2 := by rcases a2 with a2 | a2 <;> rw [a2] <;> decide
          rw [if_pos hw, m_isAt tx c1 x9 (by omega), bX_some, bIf, a1]
          cases isS X.u X.n 63 j <;> rfl
      rw [hcond2, bX_some]
      by_cases gq : X.q j = true
      · rw [gq, if_pos rfl]
        exact (sim_bq hI hX tx x27 q1 gq s1 c5 m1).mono (fun y hy => ⟨cx.pp hy.1, hy.2⟩)
      · rw [if_neg gq, if_neg gq]
        exact (sim_ba hI hX tx x27 q1 s1 c5 m1).mono (fun y hy => ⟨cx.pp hy.1, hy.2⟩)
theorem oB_inv {α β γ : Type} {x : α ⊕ β} {g : α → γ ⊕ β} {c : γ} (h : oB x g = .inl c) : ∃ a, x = .inl a ∧ g a = .inl c := by
  cases x with
  | inl a => exact ⟨a, rfl, h⟩
  | inr b => cases h
theorem oOp_m {c : Nat × Nat × List (Int × Nat) × Nat × V} (h : oOp X j ops o v = .inl c) : c.1 ≤ 1 := by
  unfold oOp at h
  split at h
  · obtain ⟨a, _, h⟩ := oB_inv h; injection h with h; subst h; show 0 ≤ 1; omega
  · split at h
    · split at h
      · cases h
      · obtain ⟨a, _, h⟩ := oB_inv h; injection h with h; subst h; show 0 ≤ 1; omega
    · obtain ⟨a, _, h⟩ := oB_inv h; injection h with h; subst h; show 1 ≤ 1; omega
theorem oFin_m {c : Nat × Nat × List (Int × Nat) × Nat × V} (h : oFin X j ops o v = .inl c) : c.1 ≤ 2 := by
  cases ops with
  | nil => unfold oFin at h; injection h with h; subst h; show 2 ≤ 2; omega
  | cons a l =>
    unfold oFin at h
    dsimp only at h
    split at h
    · obtain ⟨a, _, h⟩ := oB_inv h; injection h with h; subst h; show 0 ≤ 2; omega
    · obtain ⟨a, _, h⟩ := oB_inv h; injection h with h; subst h; show 1 ≤ 2; omega
theorem oBh_m {b : Bool} {c : Nat × Nat × List (Int × Nat) × Nat × V} (h : oBh X b j ops o v = .inl c) : c.1 ≤ 2 := by
  unfold oBh at h
  obtain ⟨t, _, h⟩ := oB_inv h
  split at h
  · obtain ⟨a, _, h⟩ := oB_inv h; injection h with h; subst h; show 0 ≤ 2; omega
  · split at h
    · obtain ⟨a, _, h⟩ := oB_inv h
      split at h
      · cases h
      · split at h
        · cases h
        · obtain ⟨a, _, h⟩ := oB_inv h; injection h with h; subst h; show 0 ≤ 2; omega
    · obtain ⟨a, _, h⟩ := oB_inv h; exact oFin_m h
/-- what an expression leaves -/
def OMe (X : OM V) (N : Nat) (Rp : V → Sto → Prop) (res : Rv V) (z : Sto) : Prop := match res with
  | .inl r => MsQ X.u X.n N z (.inl r.1) ∧ gI z 2000 34 = (X.hv r.2 : Int) ∧ Rp r.2 z
  | .inr f => MsQ X.u X.n N z (.inr f)
theorem sim_expr (hI : OIn X N md Q Rp) (hX : OX X N) (t : MTk X.u X.n N S) (h27 : gI S 2000 27 = md) (hq : MsQ X.u X.n N S (.inl j)) {v0 : V} {res : Rv V} (hv0 : X.hv v0 = 0) (hR : Rp v0 (sI (sI (sI S 2000 32 0) 2000 33 0) 2000 34 0)) (h : oGr X (gE 0) j 0 v0 res) :
    WP (mX23_expression S) (fun z => ChW (PAq Q) S z ∧ OMe X N Rp res z) := by
  have hrun := oGr.run h
  unfold mX23_expression
  rw [wf_eq, wf_eq, wf_eq]
  generalize hw : sI (sI (sI S 2000 32 0) 2000 33 0) 2000 34 0 = w at hR
  have cw0 : ChW (fun a i => a = 2000 ∧ (i = 32 ∨ i = 33 ∨ i = 34)) S w := by rw [← hw]; exact ((ChW.refl.sI ⟨rfl, Or.inl rfl⟩).sI ⟨rfl, Or.inr (Or.inl rfl)⟩).sI ⟨rfl, Or.inr (Or.inr rfl)⟩
  have cw : ChW (PAq Q) S w := ChW.refl.tr cw0 (fun a i q => by
    obtain ⟨q1, q2⟩ := q
    subst q1
    rcases q2 with q2 | q2 | q2
    · exact Or.inl ⟨rfl, Or.inr (Or.inl q2)⟩
    · exact Or.inl ⟨rfl, Or.inr (Or.inr q2)⟩
    · subst q2; exact Or.inr (Or.inr (Or.inr hI.1.2)))
  have qw : MsQ X.u X.n N w (.inl j) := hq.ch cw0 (fun i h1 h2 q => by omega)
  have mw : OMS X Rp [] 0 v0 w := by
    refine ⟨?_, trivial, ?_, ?_, hR⟩
    · rw [← hw, hI_sI_i (by decide), hI_sI_i (by decide), gI_sI_eq]; rfl
    · rw [← hw, hI_sI_i (by decide), gI_sI_eq]; rfl
    · rw [← hw, gI_sI_eq, hv0]; rfl
  refine WP_call (R := fun z => ChW (PAq Q) S z ∧ OMe X N Rp res z) ?_ (fun z hz => WP_some.2 hz)
  refine WP_lpF (fun s => ∃ c, oRc X (.inl (0, j, [], 0, v0)) c ∧ okC X N c ∧ (∀ d, c = .inl d → d.1 ≤ 2) ∧ OMc X N Rp c s.1 s.2 ∧ ChW (PAq Q) S s.2) (fun s => if gI s.2 2000 10 = 0 ∧ s.1 < 2 then N + 1 - (gI s.2 2000 9).toNat else 0) ⟨_, oRc.refl, ?_, fun d e => by injection e with e; subst e; show 0 ≤ 2; omega, ⟨rfl, qw, mw⟩, cw⟩ ?_ (fun s hs => ?_)
  · refine ⟨hq.2.2.1, hq.2.2.2, trivial, rfl, by omega, hv0, fun q => absurd rfl q⟩
  · have := t.b; have := t.e
    exact ite_lt (show N + 1 - _ < 1000000000000 by omega) (show 0 < 1000000000000 by omega)
  · obtain ⟨s1, s2⟩ := s
    obtain ⟨c, h1, h2, h2m, h3, h4⟩ := hs
    dsimp only at h3 h4
    have ts := t.pa hI h4
    have s27 := pa_27 hI h27 h4
    unfold mX23_expression_L17
    dsimp only
    have fin : ∀ (c : Cf V), oRc X (.inl (0, j, [], 0, v0)) c → oStp X c = c → c = oB res (fun t => .inl (2, t.1, [], 0, t.2)) := fun c g1 g2 => by
      refine g1.det hrun g2 ?_
      cases res with
      | inr f => rfl
      | inl r => rfl
    cases c with
    | inr f =>
      have q1 : MsQ X.u X.n N s2 (.inr f) := h3.1
      rw [m_isRight q1, bX_some, bIf]
      show WP (bX (if false = true then _ else some false) _) _
      rw [if_neg (by decide), bX_some, if_neg (by decide)]
      refine WP_some.2 ⟨h4, ?_⟩
      have hf := fin _ h1 rfl
      cases res with
      | inr g => rw [oB_r] at hf; injection hf with hf; subst hf; exact q1
      | inl r => rw [oB_l] at hf; cases hf
    | inl d =>
      obtain ⟨m, jj, ops', o', v'⟩ := d
      obtain ⟨e1, q1, m1⟩ := h3
      dsimp only at e1 q1 m1
      have hm2 : m ≤ 2 := h2m _ rfl
      have z10 : gI s2 2000 10 = 0 := q1.1
      have z9 : gI s2 2000 9 = (jj : Int) := q1.2.1
      have zN : jj ≤ N := q1.2.2.1
      subst e1
      rw [m_isRight q1, bX_some, bIf]
      show WP (bX (if true = true then _ else some false) _) _
      rw [if_pos rfl, w32_id (by omega)]
      by_cases g2 : m = 2
      · subst g2
        rw [if_neg (by omega), bX_some, if_neg (by decide)]
        refine WP_some.2 ⟨h4, ?_⟩
        have hf := fin _ h1 rfl
        cases res with
        | inr g => rw [oB_r] at hf; cases hf
        | inl r =>
          rw [oB_l] at hf
          injection hf with hf
          injection hf with _ hf
          injection hf with f1 hf
          injection hf with f2 hf
          injection hf with f3 f4
          subst f1; subst f4
          exact ⟨q1, m1.2.2.2.1, m1.2.2.2.2⟩
      · rw [if_pos (by omega), bX_some, if_pos rfl]
        have hok := ok_stp hX h2 (by omega)
        have meas : ∀ (c' : Cf V) (m' : Int) (y : Sto), oGo jj c' → OMc X N Rp c' m' y → okC X N c' → (if gI y 2000 10 = 0 ∧ m' < 2 then N + 1 - (gI y 2000 9).toNat else 0) < (if gI s2 2000 10 = 0 ∧ (m : Int) < 2 then N + 1 - (gI s2 2000 9).toNat else 0) := by
          intro c' m' y g1 g2' g3
          rw [if_pos (show gI s2 2000 10 = 0 ∧ (m : Int) < 2 from ⟨z10, by omega⟩), z9, Int.toNat_natCast]
          cases c' with
          | inr f =>
            have y10 : gI y 2000 10 = f.1 := g2'.1.1
            have f0 : f.1 ≠ 0 := g2'.1.2.1
            rw [if_neg (show ¬ (gI y 2000 10 = 0 ∧ m' < 2) from fun q => f0 (by rw [← y10]; exact q.1))]; omega
          | inl d =>
            obtain ⟨a1, a2, a3⟩ := g2'
            have y9 : gI y 2000 9 = (d.2.1 : Int) := a2.2.1
            have yN : d.2.1 ≤ N := a2.2.2.1
            have g1 : d.1 = 2 ∨ jj < d.2.1 := g1
            by_cases k2 : d.1 = 2
            · rw [if_neg (show ¬ (gI y 2000 10 = 0 ∧ m' < 2) from fun q => by have := q.2; rw [a1, k2] at this; omega)]; omega
            · have := g1.resolve_left k2
              rw [y9, Int.toNat_natCast]
              split <;> omega
        by_cases g0 : m = 0
        · subst g0
          rw [if_pos (show ((0 : Nat) : Int) = 0 from rfl)]
          have hst : oStp X (.inl (0, jj, ops', o', v')) = oOp X jj ops' o' v' := rfl
          rw [hst] at hok
          refine WP_bX.2 (WP_call (sim_operand hI hX h2 ts s27 q1 m1) (fun y hy => ?_))
          obtain ⟨y1, y2⟩ := hy
          have key : ∃ m', (if ¬ w32 y.1 = 0 then some ((1 : Int), y.2) else some (0, y.2)) = some (m', y.2) ∧ OMc X N Rp (oOp X jj ops' o' v') m' y.2 := by
            cases hc : oOp X jj ops' o' v' with
            | inr f =>
              rw [hc] at y2
              by_cases gg : w32 y.1 = 0
              · exact ⟨0, if_neg (fun q => q gg), y2.1, by omega, by omega⟩
              · exact ⟨1, if_pos gg, y2.1, by omega, by omega⟩
            | inl d =>
              have hd := oOp_m hc
              rw [hc] at y2
              obtain ⟨b1, b2⟩ := y2
              have hd01 : d.1 = 0 ∨ d.1 = 1 := by omega
              rcases hd01 with hd | hd
              · exact ⟨0, if_neg (fun q => q (by rw [b1, hd]; rfl)), by rw [hd]; rfl, b2⟩
              · exact ⟨1, if_pos (by rw [b1, hd]; decide), by rw [hd]; rfl, b2⟩
          obtain ⟨m', k1, k2⟩ := key
          rw [k1]
          refine WP_some.2 (WP_some.2 ⟨⟨oOp X jj ops' o' v', h1.tr (oRc.st hst), hok.1, fun d e => Nat.le_succ_of_le (oOp_m e), k2, h4.pp y1⟩, meas _ _ _ hok.2 k2 hok.1⟩)
        · have g1 : m = 1 := by omega
          subst g1
          rw [if_neg (show ¬ ((1 : Nat) : Int) = 0 by omega)]
          have hst : oStp X (.inl (1, jj, ops', o', v')) = oBh X false jj ops' o' v' := rfl
          rw [hst] at hok
          refine WP_bX.2 (WP_call (sim_behind hI hX h2 ts s27 q1 m1) (fun y hy => ?_))
          obtain ⟨y1, y2⟩ := hy
          refine WP_some.2 (WP_some.2 ⟨⟨oBh X false jj ops' o' v', h1.tr (oRc.st hst), hok.1, fun d e => oBh_m e, y2, h4.pp y1⟩, meas _ _ _ hok.2 y2 hok.1⟩)
end MS3
