/-! the class reads expressions of a design: equal, not, primaries, choices -/
section KD7
variable {S S0 z y : Sto} {u : Nat → Int} {n N o b : Nat} {ms : List Mdl} {cur m : Mdl} {q : Qq} {j : Nat} {k : List Row3} {rc : Sto → Option (Int × Sto)}
theorem k_eq5 (h : ScQ u n S 4 (.inl j)) (hu : ∀ i, i < n → 0 ≤ u i ∧ u i < 256) : gI S 4 3 = 5 ↔ isS u n 257 j = true := by
  obtain ⟨h1, h2, h3, h4, h5, h6⟩ := h
  obtain ⟨f5, f1, f6, f2, f3⟩ := h6
  unfold isS tkK tkV
  rw [decide_eq_true_eq]
  rcases tK_rng (u := u) (n := n) (p := tkB u n j) with k | k | k | k | k | k
  · rw [(f1 k).1, k]; omega
  · rw [(f2 k).1, k]; omega
  · obtain ⟨g1, g2, g3⟩ := f3 k
    rw [k]
    by_cases e : tV u n (tkB u n j) < 256
    · rw [(g1 e).1]; omega
    · by_cases e4 : tV u n (tkB u n j) = 256
      · rw [g2 e4]; omega
      · by_cases e5 : tV u n (tkB u n j) = 257
        · rw [g3 e5]; omega
        · have := tV_le k e; omega
  · exact absurd k h5
  · rw [f5 k, k]; omega
  · rw [(f6 k).1, k]; omega
theorem same_f (h : FltD u n (mX2_sum rc)) : FltD u n (mX2_same rc) := by
  intro S f hu hS
  unfold mX2_same
  refine WP_call (h S f hu hS) (fun x hx => ?_)
  rw [hx, k_ok hS, bX_some, bIf, if_neg (fun z => by cases z), bX_some, if_pos rfl]
  exact WP_some.2 rfl
theorem same_ok (hb : b ≤ 600) (hN : N ≤ 1500) (hf : FltD u n (mX2_sum rc)) (h : OkD u n N ms cur S0 b o (gE 5) (mX2_sum rc)) : OkD u n N ms cur S0 (b + 1) o (gE 4) (mX2_same rc) := by
  intro S j k ws hC hS hj ho hk hl
  have hu := hC.t.u
  have hn := hC.t.b
  unfold mX2_same
  refine WP_call (h S j k ws hC hS hj ho hk hl) (fun x hx => ?_)
  obtain ⟨res, h1, h2, h3⟩ := hx
  cases res with
  | inr f =>
    obtain ⟨g1, e, g2, g3⟩ := h2
    rw [k_ok g1, bX_some, bIf, if_neg (fun z => by cases z), bX_some, if_pos rfl]
    exact WP_some.2 ⟨.inr f, .ef (r := 4) (by omega) (by omega) h1, ⟨g1, e, by omega, g3⟩, h3⟩
  | inl jv =>
    obtain ⟨j1, k1, w1⟩ := jv
    obtain ⟨g1, g2, g3, g4, g5⟩ := h2
    have g2 : w1 = x.1 :: ws := g2
    subst g2
    have g1 : ScQ u n x.2 4 (.inl j1) := g1
    have g3 : RwK x.2 170 (flat3 k1) := g3
    have le1 := h1.leD hC.l trivial _ _ rfl hj
    have hk1 : k1.length + j ≤ j1 + k.length + 0 := le1.2.2.2.1
    have hj1 : j1 ≤ N := le1.2.2.1
    have hB := tkB_le (u := u) (n := n) j1
    have m4 : gI x.2 4 4 = (tkB u n j1 : Nat) := g1.2.2.1
    have h5 := k_eq5 g1 hu
    rw [k_ok g1, bX_some, bIf, show okQ (.inl j1) = true from rfl, if_pos rfl, w32_gI]
    by_cases e : gI x.2 4 3 = 5
    · rw [if_neg (fun q => q e), bX_some, if_neg (by decide)]
      have eS := h5.1 e
      have hR := (XD_r (ms := ms) (cur := cur) (show (4 = 1 ∧ (257 : Int) = 124) ∨ (4 = 2 ∧ (257 : Int) = 94) ∨ (4 = 3 ∧ (257 : Int) = 38) ∨ (4 = 4 ∧ (257 : Int) = 257) ∨ (4 = 5 ∧ (257 : Int) = 43) by omega)).2 eS
      have hV : tkV u n j1 = 257 := (of_decide_eq_true eS).2
      have hlt := hC.l.le (i := j1) (by rw [isS_K eS]; decide) hj1
      refine WP_call (k_next3 (hC.ch h3).t g1) (fun y hy => ?_)
      obtain ⟨y1, y2⟩ := hy
      have cy : ChXd S y := h3.p y2
      have oy : gI y 4 10 = (o : Int) := (opnP y2).trans g4
      have y1 : ScQ u n y 4 (nxT u n j1) := y1
      cases eN : nxT u n j1 with
      | inr f =>
        rw [eN] at y1
        refine WP_call (hf y f hu y1) (fun x5 hx5 => ?_)
        rw [hx5]
        refine WP_call (k_pair_f hC cy y1 (g3.p y2) (by omega) (by omega)) (fun z hz => WP_some.2 ⟨.inr f, .el (r := 4) (by omega) (by omega) h1 (.lf hR eN), ⟨hz.2.2, _, ?_, hz.1⟩, hz.2.1⟩)
        rw [len1]; omega
      | inl j2 =>
        rw [eN] at y1
        have e2 := nxT_inl eN
        refine WP_call (h y j2 k1 (x.1 :: ws) (hC.ch cy) y1 (by omega) oy (g3.p y2) (by omega)) (fun x5 hx5 => ?_)
        obtain ⟨res, z1, z2, z3⟩ := hx5
        have c5 : ChXd S x5.2 := cy.tr z3
        cases res with
        | inr f =>
          obtain ⟨z4, e', z5, z6⟩ := z2
          refine WP_call (k_pair_f hC c5 z4 z6 (by omega) (by omega)) (fun z hz => WP_some.2 ⟨.inr f, .el (r := 4) (by omega) (by omega) h1 (.lg hR eN z1), ⟨hz.2.2, _, ?_, hz.1⟩, hz.2.1⟩)
          rw [len1]; omega
        | inl jw =>
          obtain ⟨j3, k3, w3⟩ := jw
          obtain ⟨z4, z5, z6, z7, z8⟩ := z2
          have z5 : w3 = x5.1 :: x.1 :: ws := z5
          have z6 : RwK x5.2 170 (flat3 k3) := z6
          have z4 : ScQ u n x5.2 4 (.inl j3) := z4
          subst z5
          have le2 := z1.leD hC.l trivial _ _ rfl (by omega)
          have hk3 : k3.length + j2 ≤ j3 + k1.length + 0 := le2.2.2.2.1
          have hj3 : j3 ≤ N := le2.2.2.1
          refine WP_call (k_pair (k := k3) hC c5 z4 z6 (by omega) g5 z8 (by omega) (by omega) (z7.trans ho.symm)) (fun z hz => WP_some.2 ?_)
          obtain ⟨t1, t2, t3, t4⟩ := hz
          rw [m4] at t3
          by_cases g : x.1 = x5.1
          · rw [if_pos g] at t3
            have hap : (XD u n ms cur).ap (tkV (XD u n ms cur).u (XD u n ms cur).n j1) j1 (k3, x5.1 :: x.1 :: ws) = .inl (k3 ++ [(8, 0, 0)], 1 :: ws) := by
              show apD u n (tkV u n j1) j1 (k3, x5.1 :: x.1 :: ws) = _
              rw [hV]
              show (if x.1 = x5.1 then _ else _) = _
              rw [if_pos g]; rfl
            exact ⟨.inl (j3, (k3 ++ [(8, 0, 0)], 1 :: ws)), .el (r := 4) (by omega) (by omega) h1 (.lq rfl hR eN z1 hap), ⟨t3, rfl, t1, t4.trans ho, (show (1 : Int) ≤ 1 by decide), (show (1 : Int) ≤ 8 by decide)⟩, t2⟩
          · rw [if_neg g] at t3
            have hap : (XD u n ms cur).ap (tkV (XD u n ms cur).u (XD u n ms cur).n j1) j1 (k3, x5.1 :: x.1 :: ws) = .inr (13, (tkB u n j1 : Int)) := by
              show apD u n (tkV u n j1) j1 (k3, x5.1 :: x.1 :: ws) = _
              show (if x.1 = x5.1 then _ else _) = _
              rw [if_neg g]
            exact ⟨.inr (13, (tkB u n j1 : Int)), .el (r := 4) (by omega) (by omega) h1 (.lx hR eN z1 hap), ⟨t3, _, by rw [len1]; omega, t1⟩, t2⟩
    · rw [if_pos e, bX_some, if_pos rfl]
      have eS : ¬ isS u n 257 j1 = true := fun q => e (h5.2 q)
      have hR : (XD u n ms cur).r j1 ≠ 4 := fun q => eS ((XD_r (ms := ms) (cur := cur) (show (4 = 1 ∧ (257 : Int) = 124) ∨ (4 = 2 ∧ (257 : Int) = 94) ∨ (4 = 3 ∧ (257 : Int) = 38) ∨ (4 = 4 ∧ (257 : Int) = 257) ∨ (4 = 5 ∧ (257 : Int) = 43) by omega)).1 q)
      exact WP_some.2 ⟨.inl (j1, (k1, x.1 :: ws)), .el (r := 4) (by omega) (by omega) h1 (.ls hR), ⟨g1, rfl, g3, g4, g5⟩, h3⟩
/-- opening -/
theorem k_opensD (h : ScQ u n S 4 (.inl j)) (hn : n ≤ 4000) (ho : gI S 4 10 = (o : Int)) (h60 : o ≤ 60) : WP (mX3_opens S 4) (fun y => ScQ u n y 4 (if o = 60 then .inr (3, (tkB u n j : Int)) else .inl j) ∧ gI y 4 10 = (o : Int) + 1 ∧ ChW (fun a i => a = 4 ∧ (i = 8 ∨ i = 9 ∨ i = 10)) S y) := by
  have hB := tkB_le (u := u) (n := n) j
  unfold mX3_opens
  rw [k_ok h, bX_some, bIf, show okQ (.inl j) = true from rfl, if_pos rfl, ho, w32_id (by omega)]
  have fin : ∀ {y : Sto} {q : Qq}, ScQ u n y 4 q → gI y 4 10 = (o : Int) → ChW (PF89 4) S y → ScQ u n (sI y 4 10 ((o : Int) + 1)) 4 q ∧ gI (sI y 4 10 ((o : Int) + 1)) 4 10 = (o : Int) + 1 ∧ ChW (fun a i => a = 4 ∧ (i = 8 ∨ i = 9 ∨ i = 10)) S (sI y 4 10 ((o : Int) + 1)) := fun h1 h2 h3 => ⟨h1.cg (fun i _ _ => hI_sI_i (by omega)), by rw [gI_sI_eq, w32_id (by omega)], (ChW.refl.tr h3 (fun a i q => by unfold PF89 at q; omega)).sI ⟨rfl, by omega⟩⟩
  by_cases e : o = 60
  · rw [if_pos (by omega), bX_some, if_pos rfl, if_pos e]
    refine WP_bX.2 (WP_call (k_fail h (c := 3) (by omega) hn) (fun y hy => WP_some.2 ?_))
    have y10 : gI y 4 10 = (o : Int) := (opnF hy.2).trans ho
    rw [y10, wf_eq]
    exact WP_some.2 (fin hy.1 y10 hy.2)
  · rw [if_neg (by omega), bX_some, if_neg (by decide), bX_some, ho, wf_eq, if_neg e]
    exact WP_some.2 (fin h ho ChW.refl)
theorem P8_x : ∀ a i, (a = 4 ∧ (i = 8 ∨ i = 9 ∨ i = 10)) → PDx a i := fun a i q => by unfold PDx; omega
/-- the width of an operand -/
theorem opD_w (hc : MdOk ms.length cur) (ho : ∀ i, i < ms.length → MdOk ms.length (ms.getD i [])) {t : Nat × List Row3 × Int} (h : opD u n ms cur j = .inl t) : 1 ≤ t.2.2 ∧ t.2.2 ≤ 8 := by
  have bw : ∀ {w : Int} {a : Nat} {t : Nat × List Row3 × Int}, 1 ≤ w ∧ w ≤ 8 → biD u n w a = .inl t → 1 ≤ t.2.2 ∧ t.2.2 ≤ 8 := fun {w a t} hw h => by
    unfold biD at h
    split at h
    · obtain ⟨b, h1, h⟩ := oB_inv h
      obtain ⟨c, h2, h⟩ := oB_inv h
      injection h with h; subst h; exact ⟨show (1 : Int) ≤ 1 by decide, show (1 : Int) ≤ 8 by decide⟩
    · injection h with h; subst h; exact hw
  unfold opD at h
  split at h
  · unfold conD at h
    obtain ⟨a, h1, h⟩ := oB_inv h
    obtain ⟨b, h2, h⟩ := oB_inv h
    obtain ⟨c, h3, h⟩ := oB_inv h
    split at h
    · cases h
    · injection h with h; subst h
      exact (nuT_ok h3).2.2.2
  · split at h
    · unfold namD at h
      split at h
      · rename_i gi
        have hf := fi_lt gi
        obtain ⟨o1, o2, o3⟩ := hc.2 _ hf
        obtain ⟨a, h1, h⟩ := oB_inv h
        split at h
        · unfold dotD at h
          obtain ⟨b, h2, h⟩ := oB_inv h
          split at h
          · cases h
          · rename_i gc
            split at h
            · rename_i k1
              have g4 : (cur.getD (fiN u n (mTk cur) j) nm0).2.1 = 4 := Classical.byContradiction (fun q => gc (Or.inl ⟨k1, q⟩))
              have e4 := o3 g4
              unfold ofD at h
              split at h
              · rename_i g5
                obtain ⟨c, h3, h⟩ := oB_inv h
                obtain ⟨s, h4, h⟩ := oB_inv h
                injection h with h; subst h
                have hm := ho (cur.getD (fiN u n (mTk cur) j) nm0).2.2.2.toNat (by omega)
                have hf2 := fi_lt g5.1
                have := bw (t := s) ((hm.2 _ hf2).2.1 (by rw [g5.2]; decide)) h4
                exact this
              · cases h
            · obtain ⟨c, h3, h⟩ := oB_inv h
              injection h with h; subst h; exact ⟨show (1 : Int) ≤ 1 by decide, show (1 : Int) ≤ 8 by decide⟩
        · split at h
          · cases h
          · rename_i g4
            injection h with h; subst h
            exact o2 g4
      · cases h
    · cases h
end KD7
