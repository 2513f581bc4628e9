/-! the class reads a design -/
def StDn (u : Nat → Int) (n N : Nat) (S0 : Sto) (a : StD) (s : Sto) : Prop := CtF u n N a.2.2 S0 s ∧ ScQ u n s 4 (.inl a.1) ∧ RwK s 170 (flat3 a.2.1) ∧ gI s 4 10 = 0 ∧ a.1 ≤ N ∧ a.2.1.length ≤ a.1 ∧ (a.2.2 ≠ [] → gI s 3 6 = (tkB u n (fLast a.2.2).1 : Int))
section KRE
variable {S S0 x z y : Sto} {u : Nat → Int} {n N M : Nat} {fs : List Fin0} {j : Nat} {k : List Row3} {q : Qq}
theorem fLast_app {x : Fin0} : fLast (fs ++ [x]) = x := by
  unfold fLast
  have : (fs ++ [x]).length - 1 = fs.length := by rw [List.length_append]; show fs.length + 1 - 1 = _; omega
  rw [this, getD_appF, if_neg (by omega), if_pos rfl]
theorem k_module_f {f : Int × Int} (t : TpK S 4 u n) (hq : ScQ u n S 4 (.inr f)) (h34 : gI S 3 4 = 0) : WP (mX2_module S) (fun y => ChW (PSc 4) S y ∧ ScQ u n y 4 (.inr f)) := by
  have pP : ∀ a i, PSc 4 a i → PSc 4 a i := fun _ _ w => w
  have pF : ∀ a i, PF89 4 a i → PSc 4 a i := fun a i w => by unfold PF89 at w; unfold PSc; omega
  rw [module_eq2, k_isWord hq (by decide), bX_some]
  refine WP_call (k_must hq t.b) (fun y hy => ?_)
  have cy : ChW (PSc 4) S y := ChW.refl.tr hy.2 pF
  refine WP_call (k_next3 (t.chS cy) hy.1) (fun z hz => ?_)
  have cz : ChW (PSc 4) S z := cy.tr hz.2 pP
  have z1 : ScQ u n z 4 (.inr f) := hz.1
  refine k_chkN (ps := []) (lim := 16) t.b z1 (fun v jj e1 e2 e3 e4 => by cases e1) (fun v e4 => ?_) (fun v e3 e4 => ?_)
  · rw [e4.1 _ _ (fun w => by unfold PF89 at w; omega), cz.1 _ _ (fun w => by unfold PSc at w; omega), h34]; rfl
  · have e3 : ScQ u n v 4 (.inr f) := e3
    rw [k_ok e3, bX_some, bIf2, okQ_f, if_neg (by decide)]
    exact WP_some.2 ⟨cz.tr e4 pF, e3⟩
/-- the loop over modules -/
theorem k_mods (hN : N ≤ 1500) {a0 : StD} (h : StDn u n N S0 a0 S) (hne : a0.2.2 ≠ []) : WP (lpF mX2_read_L37 S) (fun y => ChRd S y ∧ ∃ m a, Chs (DStp u n) m a0 a ∧
      ((a.2.2 ≠ [] ∧ tkK u n a.1 = 5 ∧ StDn u n N S0 a y) ∨ ((a.2.2 = [] ∨ tkK u n a.1 ≠ 5) ∧ ∃ f, MoR u n a.2.2 a.1 a.2.1 (.inr f) ∧ ScQ u n y 4 (.inr f) ∧ okCap (gI y 170 2)))) := by
  have hn := h.1.1.1.b
  have hu := h.1.1.1.u
  refine WP_lpF (fun s => ChRd S s ∧ ∃ m a, Chs (DStp u n) m a0 a ∧ ((a.2.2 ≠ [] ∧ StDn u n N S0 a s) ∨ ((a.2.2 = [] ∨ tkK u n a.1 ≠ 5) ∧ ∃ f, MoR u n a.2.2 a.1 a.2.1 (.inr f) ∧ ScQ u n s 4 (.inr f) ∧ okCap (gI s 170 2)))) (fun s => if gI s 4 8 = 0 then 1 + (n - (gI s 4 4).toNat) else 0) ⟨ChRd.refl, 0, a0, rfl, Or.inl ⟨hne, h⟩⟩ ?_ (fun s hs => ?_)
  · exact ite_lt (show 1 + (n - _) < 1000000000000 by omega) (show 0 < 1000000000000 by omega)
  obtain ⟨s1, m, a, s2, s3⟩ := hs
  unfold mX2_read_L37
  rcases s3 with ⟨hn2, s3⟩ | ⟨s3, f, s4, s5, s6⟩
  · have s3' := s3
    obtain ⟨c1, c2, c3, c4, c5, c6, c7⟩ := s3
    have hL := c1.1.2.1
    have m8 : gI s 4 8 = 0 := c2.1
    have m4 : gI s 4 4 = (tkB u n a.1 : Nat) := c2.2.2.1
    have k0 := kind0 c2
    rw [k_ok c2, bX_some, bIf, show okQ (.inl a.1) = true from rfl, if_pos rfl, w32_gI]
    by_cases g : tkK u n a.1 = 5
    · rw [if_neg (fun w => w (k0.2 g)), bX_some, if_neg (by decide)]
      exact WP_some.2 ⟨s1, m, a, s2, Or.inl ⟨hn2, g, s3'⟩⟩
    · rw [if_pos (fun w => g (k0.1 w)), bX_some, if_pos rfl]
      refine WP_bX.2 ((k_module hN c1 c2 c5 c3 c6 c4).mono (fun y hy => WP_some.2 ?_))
      obtain ⟨y1, res, y2, y3⟩ := hy
      cases res with
      | inr f =>
        obtain ⟨y4, y5⟩ := y3
        refine ⟨⟨s1.tr y1, m, a, s2, Or.inr ⟨Or.inr g, f, y2, y4, y5⟩⟩, ?_⟩
        show (if gI y 4 8 = 0 then 1 + (n - (gI y 4 4).toNat) else 0) < (if gI s 4 8 = 0 then 1 + (n - (gI s 4 4).toNat) else 0)
        rw [if_neg (by rw [y4.1]; exact y4.2.1), if_pos m8]; omega
      | inl r =>
        obtain ⟨y4, y5, y6, y7, y8, y9, y10⟩ := y3
        have hlt : a.1 < r.1 := y2.lt hL c5
        have haN : a.1 < N := by omega
        have hBl := hL.lt haN
        have hsl := tkB_slt hBl hlt
        have y8' : gI y 4 8 = 0 := y5.1
        have y4' : gI y 4 4 = (tkB u n r.1 : Nat) := y5.2.2.1
        refine ⟨⟨s1.tr y1, m + 1, (r.1, r.2.1, a.2.2 ++ [r.2.2]), s2.snoc ⟨fun _ => g, r, y2, rfl⟩, Or.inl ⟨by show a.2.2 ++ [r.2.2] ≠ []; simp, y4, y5, y6, y7, y8, y9, fun _ => ?_⟩⟩, ?_⟩
        · show gI y 3 6 = (tkB u n (fLast (a.2.2 ++ [r.2.2])).1 : Int)
          rw [fLast_app]; exact y10
        · show (if gI y 4 8 = 0 then 1 + (n - (gI y 4 4).toNat) else 0) < (if gI s 4 8 = 0 then 1 + (n - (gI s 4 4).toNat) else 0)
          rw [if_pos y8', if_pos m8, y4', m4, Int.toNat_natCast, Int.toNat_natCast]; omega
  · rw [k_ok s5, bX_some, bIf, okQ_f, if_neg (by decide), bX_some, if_neg (by decide)]
    exact WP_some.2 ⟨s1, m, a, s2, Or.inr ⟨s3, f, s4, s5, s6⟩⟩
/-- a fault if something holds -/
theorem k_cond {c : Prop} [Decidable c] {C P : Int} (h : ScQ u n S 4 q) (hC : 1 ≤ C ∧ C ≤ 1000) (hP : -2147483648 ≤ P ∧ P < 2147483648) : WP (if c then bX (mX3_fail S 4 C P) fun x12 => some x12 else some S) (fun y => ScQ u n y 4 (if c then bq q (fun _ => .inr (C, P)) else q) ∧ ChW (PF89 4) S y) := by
  by_cases g : c
  · rw [if_pos g, if_pos g]
    exact WP_bX.2 ((k_failP h hC hP).mono (fun y hy => WP_some.2 hy))
  · rw [if_neg g, if_neg g]
    exact WP_some.2 ⟨h, ChW.refl⟩
def kFnD (i11 : Nat) (y9 : Sto) : Option (Int × Sto) := bX (if 200 < w32 (gI y9 (9 + 10 * i11) 7) then bX (mX3_fail y9 4 20 (gI y9 3 6)) fun x12 => some x12 else some y9) fun y13 => bX (bX (if w32 (gI y13 (9 + 10 * i11) 10) ≤ 6 then if 12 < w32 ((gI y13 (9 + 10 * i11) 8) + (gI y13 (9 + 10 * i11) 10)) then some true else some false else some true) fun b => if b = true then bX (mX3_fail y13 4 21 (gI y13 3 6)) fun x14 => some x14 else some y13) fun y15 => bX (bX (if ¬ w32 (gI y15 (9 + 10 * i11) 9) = 0 then if 16 < w32 (gI y15 (9 + 10 * i11) 9) then some true else some false else some true) fun b => if b = true then bX (mX3_fail y15 4 22 (gI y15 3 6)) fun x16 => some x16 else some y15) fun y17 => bX (mX3_ok y17 4) fun x18 => gz x18 (some (x18, y17))
theorem read_eq2 {a1 : Nat} {p2 : Int} : mX2_read S a1 p2 = wf S 5 2 0 fun S1 => wf S1 3 4 0 fun S2 => wf S2 170 1 0 fun S3 => bX (mX3_begin S3 4 a1 p2) fun x4 => bX (mX2_module x4) fun x5 => bX (lpF (mX2_read_L37) x5) fun y9 => bX (mX3_ok y9 4) fun x10 => if w32 x10 = 0 then some (0, y9) else rdA 16 ((gI y9 3 4) - 1) fun i11 => kFnD i11 y9 := rfl
/-- the last checks -/
theorem k_final {a : StD} (h : StDn u n N S0 a S) (hne : a.2.2 ≠ []) : WP (kFnD (a.2.2.length - 1) S) (fun y => ChW (PF89 4) S y.2 ∧ ((fnD a.2.2 = 0 ∧ y.1 = 1 ∧ gI y.2 4 8 = 0) ∨ (fnD a.2.2 ≠ 0 ∧ y.1 = 0 ∧ ScQ u n y.2 4 (.inr (fnD a.2.2, (tkB u n (fLast a.2.2).1 : Int)))))) := by
  obtain ⟨⟨c0, c1, c1a, c1b, c1c⟩, c2, c3, c4, c5, c6, c7⟩ := h
  have hlen : 0 < a.2.2.length := List.length_pos_iff.2 hne
  have hl16 := c0.2.2
  have h36 := c7 hne
  have hBl := tkB_le (u := u) (n := n) (fLast a.2.2).1
  have hn := c0.1.b
  generalize eI : a.2.2.length - 1 = I
  obtain ⟨m1, m2, m3, m4, m5, m6⟩ := (c1 I (by omega)).2
  have hmo := (c1 I (by omega)).1.2
  have r5 := m5.rng
  have r6 := m6.rng
  have eL : a.2.2.getD I (0, 0, [], []) = fLast a.2.2 := by unfold fLast; rw [eI]
  rw [eL] at m1 m2 m3 m4 m5 m6 hmo
  have hcb : capB (fLast a.2.2).2.2.1 = 1000000 + 8 * ((fLast a.2.2).2.2.1.length : Int) := rfl
  have hml := hmo.1
  have hW : ∀ s : Int, s ≠ 4 → 0 ≤ sumW s (fLast a.2.2).2.2.1 ∧ sumW s (fLast a.2.2).2.2.1 ≤ 400 := fun s hs => by
    have : ∀ (m : Mdl), (∀ i, i < m.length → NmOk I (m.getD i nm0)) → 0 ≤ sumW s m ∧ sumW s m ≤ 8 * (m.length : Int) := by
      intro m
      induction m with
      | nil => intro _; exact ⟨Int.le_refl 0, by show (0 : Int) ≤ 8 * ((0 : Nat) : Int); omega⟩
      | cons x m ih =>
        intro h
        have h0 : NmOk I x := h 0 (by show 0 < m.length + 1; omega)
        have ih := ih (fun i hi => h (i + 1) (by show i + 1 < m.length + 1; omega))
        show 0 ≤ (if x.2.1 = s then x.2.2.1 else 0) + sumW s m ∧ (if x.2.1 = s then x.2.2.1 else 0) + sumW s m ≤ 8 * ((m.length + 1 : Nat) : Int)
        by_cases g : x.2.1 = s
        · rw [if_pos g]
          have := h0.2.1 (by rw [g]; exact hs)
          omega
        · rw [if_neg g]; omega
    have := this _ hmo.2
    omega
  have w0 := hW 0 (by decide)
  have w1 := hW 1 (by decide)
  have pF : ∀ a i, PF89 4 a i → a = 4 := fun a i w => w.1
  unfold kFnD fnD
  rw [w32_gI, h36]
  rw [eI]
  refine WP_call (k_cond c2 (C := 20) (P := (tkB u n (fLast a.2.2).1 : Int)) (by omega) (by omega)) (fun y hy => ?_)
  obtain ⟨y1, y2⟩ := hy
  have ey : ∀ a i, a ≠ 4 → gI y a i = gI S a i := fun a i q => y2.1 _ _ (fun w => q (pF _ _ w))
  rw [ey _ _ (by omega), ey _ _ (by omega), ey _ _ (by omega), h36, w32_gI]
  have e21 : (if gI S (9 + 10 * I) 10 ≤ 6 then if 12 < w32 ((gI S (9 + 10 * I) 8) + (gI S (9 + 10 * I) 10)) then some true else some false else some true) = some (decide (6 < ((totS [] (fMs a.2.2)).getD I (0, 0)).1 ∨ 12 < sumW 0 (fLast a.2.2).2.2.1 + ((totS [] (fMs a.2.2)).getD I (0, 0)).1)) := by
    have i6 := m5.iff (v := 6) (by omega)
    by_cases q : gI S (9 + 10 * I) 10 ≤ 6
    · have : gI S (9 + 10 * I) 10 = ((totS [] (fMs a.2.2)).getD I (0, 0)).1 := m5.eq (by omega)
      rw [if_pos q, m3, this, w32_id (by omega)]
      by_cases q2 : 12 < sumW 0 (fLast a.2.2).2.2.1 + ((totS [] (fMs a.2.2)).getD I (0, 0)).1
      · rw [if_pos q2, decide_eq_true (Or.inr q2)]
      · rw [if_neg q2, decide_eq_false (by omega)]
    · rw [if_neg q, decide_eq_true (Or.inl (by omega))]
  rw [e21, bX_some]
  refine WP_call (R := fun z => ScQ u n z 4 (if 6 < ((totS [] (fMs a.2.2)).getD I (0, 0)).1 ∨ 12 < sumW 0 (fLast a.2.2).2.2.1 + ((totS [] (fMs a.2.2)).getD I (0, 0)).1 then bq (if 200 < gI S (9 + 10 * I) 7 then bq (.inl a.1) (fun _ => .inr (20, (tkB u n (fLast a.2.2).1 : Int))) else .inl a.1) (fun _ => .inr (21, (tkB u n (fLast a.2.2).1 : Int))) else (if 200 < gI S (9 + 10 * I) 7 then bq (.inl a.1) (fun _ => .inr (20, (tkB u n (fLast a.2.2).1 : Int))) else .inl a.1)) ∧ ChW (PF89 4) y z) ?_ (fun z hz => ?_)
  · by_cases q : 6 < ((totS [] (fMs a.2.2)).getD I (0, 0)).1 ∨ 12 < sumW 0 (fLast a.2.2).2.2.1 + ((totS [] (fMs a.2.2)).getD I (0, 0)).1
    · rw [decide_eq_true q, if_pos rfl, if_pos q]
      exact WP_bX.2 ((k_failP y1 (c := 21) (by omega) (by omega)).mono (fun z hz => WP_some.2 hz))
    · rw [decide_eq_false q, if_neg (by decide), if_neg q]
      exact WP_some.2 ⟨y1, ChW.refl⟩
  obtain ⟨z1, z2⟩ := hz
  have z2 : ChW (PF89 4) S z := y2.tr z2 (fun _ _ w => w)
  have ez : ∀ a i, a ≠ 4 → gI z a i = gI S a i := fun a i q => z2.1 _ _ (fun w => q (pF _ _ w))
  have e22 : (if ¬ w32 (gI z (9 + 10 * I) 9) = 0 then if 16 < w32 (gI z (9 + 10 * I) 9) then some true else some false else some true) = some (decide (sumW 1 (fLast a.2.2).2.2.1 = 0 ∨ 16 < sumW 1 (fLast a.2.2).2.2.1)) := by
    rw [w32_gI, ez _ _ (by omega), m4]
    by_cases q : sumW 1 (fLast a.2.2).2.2.1 = 0
    · rw [if_neg (fun w => w q), decide_eq_true (Or.inl q)]
    · rw [if_pos q]
      by_cases q2 : 16 < sumW 1 (fLast a.2.2).2.2.1
      · rw [if_pos q2, decide_eq_true (Or.inr q2)]
      · rw [if_neg q2, decide_eq_false (by omega)]
  rw [e22, bX_some, ez 3 6 (by omega), h36]
  have i200 := m6.iff (v := 200) (by omega)
  refine WP_call (R := fun v => ScQ u n v 4 (if sumW 1 (fLast a.2.2).2.2.1 = 0 ∨ 16 < sumW 1 (fLast a.2.2).2.2.1 then bq (if 6 < ((totS [] (fMs a.2.2)).getD I (0, 0)).1 ∨ 12 < sumW 0 (fLast a.2.2).2.2.1 + ((totS [] (fMs a.2.2)).getD I (0, 0)).1 then bq (if 200 < gI S (9 + 10 * I) 7 then bq (.inl a.1) (fun _ => .inr (20, (tkB u n (fLast a.2.2).1 : Int))) else .inl a.1) (fun _ => .inr (21, (tkB u n (fLast a.2.2).1 : Int))) else (if 200 < gI S (9 + 10 * I) 7 then bq (.inl a.1) (fun _ => .inr (20, (tkB u n (fLast a.2.2).1 : Int))) else .inl a.1)) (fun _ => .inr (22, (tkB u n (fLast a.2.2).1 : Int))) else (if 6 < ((totS [] (fMs a.2.2)).getD I (0, 0)).1 ∨ 12 < sumW 0 (fLast a.2.2).2.2.1 + ((totS [] (fMs a.2.2)).getD I (0, 0)).1 then bq (if 200 < gI S (9 + 10 * I) 7 then bq (.inl a.1) (fun _ => .inr (20, (tkB u n (fLast a.2.2).1 : Int))) else .inl a.1) (fun _ => .inr (21, (tkB u n (fLast a.2.2).1 : Int))) else (if 200 < gI S (9 + 10 * I) 7 then bq (.inl a.1) (fun _ => .inr (20, (tkB u n (fLast a.2.2).1 : Int))) else .inl a.1))) ∧ ChW (PF89 4) z v) ?_ (fun v hv => ?_)
  · by_cases q : sumW 1 (fLast a.2.2).2.2.1 = 0 ∨ 16 < sumW 1 (fLast a.2.2).2.2.1
    · rw [decide_eq_true q, if_pos rfl, if_pos q]
      exact WP_bX.2 ((k_failP z1 (c := 22) (by omega) (by omega)).mono (fun z hz => WP_some.2 hz))
    · rw [decide_eq_false q, if_neg (by decide), if_neg q]
      exact WP_some.2 ⟨z1, ChW.refl⟩
  obtain ⟨v1, v2⟩ := hv
  have v2 : ChW (PF89 4) S v := z2.tr v2 (fun _ _ w => w)
  have done : ∀ f : Int × Int, ScQ u n v 4 (.inr f) → ∀ g : Int, g ≠ 0 → f = (g, (tkB u n (fLast a.2.2).1 : Int)) → WP (bX (mX3_ok v 4) fun x18 => gz x18 (some (x18, v))) (fun y => ChW (PF89 4) S y.2 ∧ ((g = 0 ∧ y.1 = 1 ∧ gI y.2 4 8 = 0) ∨ (g ≠ 0 ∧ y.1 = 0 ∧ ScQ u n y.2 4 (.inr (g, (tkB u n (fLast a.2.2).1 : Int)))))) := fun f h g g0 e => by
    rw [k_ok h, bX_some, gz_b2i]
    exact WP_some.2 ⟨v2, Or.inr ⟨g0, rfl, by rw [← e]; exact h⟩⟩
  by_cases q1 : 200 < gI S (9 + 10 * I) 7
  · rw [if_pos (i200.1 q1)]
    refine done (20, (tkB u n (fLast a.2.2).1 : Int)) ?_ 20 (by decide) rfl
    rw [if_pos q1] at v1
    have e : ∀ {c d : Prop} [Decidable c] [Decidable d], (if c then bq (if d then bq (bq (.inl a.1) (fun _ => .inr (20, (tkB u n (fLast a.2.2).1 : Int)))) (fun _ => .inr (21, (tkB u n (fLast a.2.2).1 : Int))) else bq (.inl a.1) (fun _ => .inr (20, (tkB u n (fLast a.2.2).1 : Int)))) (fun _ => .inr (22, (tkB u n (fLast a.2.2).1 : Int))) else (if d then bq (bq (.inl a.1) (fun _ => .inr (20, (tkB u n (fLast a.2.2).1 : Int)))) (fun _ => .inr (21, (tkB u n (fLast a.2.2).1 : Int))) else bq (.inl a.1) (fun _ => .inr (20, (tkB u n (fLast a.2.2).1 : Int))))) = (.inr (20, (tkB u n (fLast a.2.2).1 : Int)) : Qq) := fun {c d} _ _ => by
      by_cases g : c <;> by_cases g2 : d
      · rw [if_pos g, if_pos g2]; rfl
      · rw [if_pos g, if_neg g2]; rfl
      · rw [if_neg g, if_pos g2]; rfl
      · rw [if_neg g, if_neg g2]; rfl
    rw [e] at v1
    exact v1
  · rw [if_neg (fun w => q1 (i200.2 w))]
    rw [if_neg q1] at v1
    by_cases q2 : 6 < ((totS [] (fMs a.2.2)).getD I (0, 0)).1 ∨ 12 < sumW 0 (fLast a.2.2).2.2.1 + ((totS [] (fMs a.2.2)).getD I (0, 0)).1
    · rw [if_pos q2]
      refine done (21, (tkB u n (fLast a.2.2).1 : Int)) ?_ 21 (by decide) rfl
      rw [if_pos q2] at v1
      have e : ∀ {c : Prop} [Decidable c], (if c then bq (bq (.inl a.1) (fun _ => .inr (21, (tkB u n (fLast a.2.2).1 : Int)))) (fun _ => .inr (22, (tkB u n (fLast a.2.2).1 : Int))) else bq (.inl a.1) (fun _ => .inr (21, (tkB u n (fLast a.2.2).1 : Int)))) = (.inr (21, (tkB u n (fLast a.2.2).1 : Int)) : Qq) := fun {c} _ => by
        by_cases g : c
        · rw [if_pos g]; rfl
        · rw [if_neg g]; rfl
      rw [e] at v1
      exact v1
    · rw [if_neg q2]
      rw [if_neg q2] at v1
      by_cases q3 : sumW 1 (fLast a.2.2).2.2.1 = 0 ∨ 16 < sumW 1 (fLast a.2.2).2.2.1
      · rw [if_pos q3]
        refine done (22, (tkB u n (fLast a.2.2).1 : Int)) ?_ 22 (by decide) rfl
        rw [if_pos q3] at v1
        exact v1
      · rw [if_neg q3]
        rw [if_neg q3] at v1
        rw [k_ok v1, bX_some, gz_b2i]
        exact WP_some.2 ⟨v2, Or.inl ⟨rfl, rfl, v1.1⟩⟩
/-- what reading leaves -/
def DOut (u : Nat → Int) (n N : Nat) (S0 : Sto) (res : (List Row3 × List Fin0) ⊕ (Int × Int)) (y : Int × Sto) : Prop := match res with
  | .inl r => y.1 = 1 ∧ CtF u n N r.2 S0 y.2 ∧ RwK y.2 170 (flat3 r.1) ∧ gI y.2 4 8 = 0 ∧ r.2 ≠ [] ∧ r.1.length ≤ N ∧ gI y.2 3 6 = (tkB u n (fLast r.2).1 : Int)
  | .inr f => y.1 = 0 ∧ gI y.2 4 8 = f.1 ∧ gI y.2 4 9 = f.2 ∧ f.1 ≠ 0
/-- a whole design is read -/
theorem k_readD (hu : ∀ i, i < n → 0 ≤ u i ∧ u i < 256) (ht : ∀ i, i < n → gI S 2 i = rw8 (u i)) (hn : n ≤ 1500) (hC : nC S ≤ 800000) (hS : nS S ≤ 5000000) (h170 : okCap (gI S 170 2)) (h16 : ∀ i, i < 16 → okCap (gI S (17 + 10 * i) 2)) :
    WP (mX2_read S 2 (n : Int)) (fun y => ChRd S y.2 ∧ okCap (gI y.2 170 2) ∧ ∃ N res, LstT u n N ∧ N ≤ n ∧ DsR u n res ∧ DOut u n N S res y) := by
  obtain ⟨N, hNn, hL⟩ := LstT.ex (u := u) (n := n)
  rw [read_eq2, wf_eq, wf_eq, wf_eq]
  generalize hA : sI (sI (sI S 5 2 0) 3 4 0) 170 1 0 = A
  have cA : ChW (fun a i => (a = 5 ∧ i = 2) ∨ (a = 3 ∧ i = 4) ∨ (a = 170 ∧ i = 1)) S A := by
    rw [← hA]
    exact ((ChW.refl.sI (Or.inl ⟨rfl, rfl⟩)).sI (Or.inr (Or.inl ⟨rfl, rfl⟩))).sI (Or.inr (Or.inr ⟨rfl, rfl⟩))
  have A5 : gI A 5 2 = 0 := by rw [← hA]; simp (disch := omega) only [gI_sIn, gI_sIe]; rfl
  have A3 : gI A 3 4 = 0 := by rw [← hA]; simp (disch := omega) only [gI_sIn, gI_sIe]; rfl
  have A17 : gI A 170 1 = 0 := by rw [← hA]; simp (disch := omega) only [gI_sIn, gI_sIe]; rfl
  refine WP_call (k_begin3 (S := A) hu (fun i hi => by rw [cA.1 _ _ (by omega)]; exact ht i hi) (by omega) (by decide)) (fun B hB => ?_)
  obtain ⟨tB, qB, oB0, cB⟩ := hB
  have eB : ∀ a i, a ≠ 4 → gI B a i = gI A a i := fun a i q => (cB.1 a i (fun w => by unfold PBg at w; omega)).trans rfl
  have eBS : ∀ a i, a ≠ 4 → a ≠ 5 → a ≠ 3 → ¬ (a = 170 ∧ i = 1) → gI B a i = gI S a i := fun a i q1 q2 q3 q4 => (eB a i q1).trans (cA.1 _ _ (by omega))
  have rB : ChRd S B := by
    refine ⟨fun b i q => ?_, fun b i => ?_, fun b i q => ?_, ?_⟩
    · refine eBS _ _ ?_ ?_ ?_ ?_ <;> (unfold PRk at q; omega)
    · rw [cB.2.1]; show gL A b i = _; rw [cA.2.1]
    · rw [cB.2.2.1, gR_sR, if_neg (by omega)]; exact cA.2.2.1 b i
    · have e1 : nC B = nC S := by rw [cB.2.2.2.1]; show nC A = _; rw [cA.2.2.2.1]
      have e2 : nS B = nS S := by rw [cB.2.2.2.2]; show nS A = _; rw [cA.2.2.2.2]
      have e3 : gI B 170 2 = gI S 170 2 := eBS _ _ (by omega) (by omega) (by omega) (by omega)
      exact ⟨by rw [e1]; exact Nat.le_refl _, by rw [e1, e3, Nat.sub_self]; show _ = _ * 1; omega, by rw [e2, e3]; omega⟩
  have B34 : gI B 3 4 = 0 := (eB _ _ (by omega)).trans A3
  have capB : okCap (gI B 170 2) := by rw [eBS _ _ (by omega) (by omega) (by omega) (by omega)]; exact h170
  have kB0 : RwK B 170 (flat3 []) := by
    have hr := capB.rng
    exact ⟨(eB _ _ (by omega)).trans A17, fun i hi => absurd hi (by show ¬ i < 0; omega), capB, by show ((0 : Nat) : Int) ≤ _; omega⟩
  have fin_f : ∀ {y : Sto} {f : Int × Int} {res : (List Row3 × List Fin0) ⊕ (Int × Int)}, ScQ u n y 4 (.inr f) → ChRd S y → okCap (gI y 170 2) → DsR u n (.inr f) → WP (bX (mX3_ok y 4) fun x10 => if w32 x10 = 0 then some (0, y) else rdA 16 ((gI y 3 4) - 1) fun i11 => kFnD i11 y) (fun y => ChRd S y.2 ∧ okCap (gI y.2 170 2) ∧ ∃ N res, LstT u n N ∧ N ≤ n ∧ DsR u n res ∧ DOut u n N S res y) := fun {y f res} h1 h2 h3 h4 => by
    rw [k_ok h1, bX_some, bIf2, okQ_f, if_neg (by decide)]
    exact WP_some.2 ⟨h2, h3, N, .inr f, hL, hNn, h4, rfl, h1.1, h1.2.2, h1.2.1⟩
  by_cases k4 : tkK u n 0 = 4
  · have qB : ScQ u n B 4 (.inr (1, (tkB u n 0 : Int))) := by
      have : q0T u n = .inr (1, (tkB u n 0 : Int)) := by unfold q0T; rw [if_pos k4]
      rw [this] at qB; exact qB
    refine WP_call (k_module_f tB qB B34) (fun y hy => ?_)
    obtain ⟨y1, y2⟩ := hy
    have loop : lpF mX2_read_L37 y = some y := by
      refine WP.of (WP_lpF (fun s => s = y) (fun _ => 0) rfl (by decide) (fun s hs => ?_))
      subst hs
      unfold mX2_read_L37
      rw [k_ok y2, bX_some, bIf, okQ_f, if_neg (by decide), bX_some, if_neg (by decide)]
      exact WP_some.2 rfl
    rw [loop, bX_some]
    exact fin_f (res := .inr (1, (tkB u n 0 : Int))) y2 (rB.tr (ChXd.r (ChXd.refl.p y1))) (kB0.p y1).2.2.1 (Or.inl ⟨k4, rfl⟩)
  · have qB : ScQ u n B 4 (.inl 0) := by
      have : q0T u n = .inl 0 := by unfold q0T; rw [if_neg k4]
      rw [this] at qB; exact qB
    have cF : CtF u n N [] S B := ⟨⟨tB, hL, by show 0 ≤ 16; omega⟩, fun i hi => absurd hi (by show ¬ i < 0; omega), ⟨⟨(eB _ _ (by omega)).trans A5, fun i hi => absurd hi (by show ¬ i < 0; omega), fun i hi => absurd hi (by show ¬ i < 0; omega)⟩, fun a b ha => absurd ha (by show ¬ a < 0; omega)⟩, B34, ⟨hC, hS, h170⟩, rB.2.2.2, fun i hi => by rw [eBS _ _ (by omega) (by omega) (by omega) (by omega)]; exact h16 i hi⟩
    refine WP_call (k_module (by omega) cF qB (by omega) kB0 (by show 0 ≤ 0; omega) oB0) (fun y hy => ?_)
    obtain ⟨y1, res, y2, y3⟩ := hy
    have ry := rB.tr y1
    cases res with
    | inr f =>
      obtain ⟨y4, y5⟩ := y3
      have loop : lpF mX2_read_L37 y = some y := by
        refine WP.of (WP_lpF (fun s => s = y) (fun _ => 0) rfl (by decide) (fun s hs => ?_))
        subst hs
        unfold mX2_read_L37
        rw [k_ok y4, bX_some, bIf, okQ_f, if_neg (by decide), bX_some, if_neg (by decide)]
        exact WP_some.2 rfl
      rw [loop, bX_some]
      exact fin_f (res := .inr f) y4 ry y5 (Or.inr ⟨k4, 0, (0, [], []), rfl, Or.inr ⟨Or.inl rfl, f, y2, rfl⟩⟩)
    | inl r =>
      obtain ⟨y4, y5, y6, y7, y8, y9, y10⟩ := y3
      have st0 : DStp u n (0, [], []) (r.1, r.2.1, [] ++ [r.2.2]) := ⟨fun w => absurd rfl w, r, y2, rfl⟩
      refine WP_call (k_mods (S0 := S) (by omega) (a0 := (r.1, r.2.1, [] ++ [r.2.2])) ⟨y4, y5, y6, y7, y8, y9, fun _ => ?_⟩ (by simp)) (fun v hv => ?_)
      · show gI y 3 6 = (tkB u n (fLast ([] ++ [r.2.2])).1 : Int)
        rw [fLast_app]; exact y10
      obtain ⟨v1, m, a, v2, v3⟩ := hv
      have rv := ry.tr v1
      rcases v3 with ⟨v3, v4, v5⟩ | ⟨v3, f, v4, v5, v6⟩
      · have hlen : 0 < a.2.2.length := List.length_pos_iff.2 v3
        have h16l := v5.1.1.2.2
        have eR : ∀ {τ : Type} {f : Nat → Option τ}, rdA 16 ((gI v 3 4) - 1) f = f (a.2.2.length - 1) := fun {τ f} => by
          unfold rdA ixn
          rw [v5.1.2.2.2.1, w32_id (by omega), if_pos (by omega)]
          have : ((a.2.2.length : Int) - 1).toNat = a.2.2.length - 1 := by omega
          rw [this]
        rw [k_ok v5.2.1, bX_some, bIf2, show okQ (.inl a.1) = true from rfl, if_pos rfl, eR]
        refine (k_final v5 v3).mono (fun w hw => ?_)
        obtain ⟨w1, w2⟩ := hw
        have rw1 : ChRd S w.2 := rv.tr (ChXd.r (ChXd.refl.f w1))
        have hds : ∀ res, (res = if fnD a.2.2 = 0 then .inl (a.2.1, a.2.2) else .inr (fnD a.2.2, (tkB u n (fLast a.2.2).1 : Int))) → DsR u n res := fun res e => Or.inr ⟨k4, m + 1, a, ⟨_, st0, v2⟩, Or.inl ⟨v3, v4, e⟩⟩
        have cap : okCap (gI w.2 170 2) := (v5.2.2.1.f w1).2.2.1
        rcases w2 with ⟨w2, w3, w4⟩ | ⟨w2, w3, w4⟩
        · refine ⟨rw1, cap, N, .inl (a.2.1, a.2.2), hL, hNn, hds _ (by rw [if_pos w2]), w3, ?_, v5.2.2.1.f w1, w4, v3, by show a.2.1.length ≤ N; have := v5.2.2.2.2.1; have := v5.2.2.2.2.2.1; omega, ?_⟩
          · obtain ⟨⟨h1, h2, h3⟩, h4, h5, h6, h7, h8, h9⟩ := v5.1
            have e : ∀ a i, a ≠ 4 → gI w.2 a i = gI v a i := fun a i q => w1.1 _ _ (fun w => q w.1)
            exact ⟨⟨h1.ch w1 (fun q => by unfold PF89 at q; omega) (fun i q => by unfold PF89 at q; omega), h2, h3⟩, fun i hi => ⟨⟨(h4 i hi).1.1.cg (fun a x q1 q2 => e _ _ (by omega)), (h4 i hi).1.2⟩, (h4 i hi).2.cg (fun a x q1 q2 => e _ _ (by omega))⟩, ⟨h5.1.cgE (e _ _ (by omega)) (fun i => e _ _ (by omega)) (fun i => e _ _ (by omega)), h5.2⟩, (e _ _ (by omega)).trans h6, h7, h8.tr (w1.gz (fun q => by unfold PF89 at q; omega)), fun i hi => by rw [e _ _ (by omega)]; exact h9 i hi⟩
          · show gI w.2 3 6 = (tkB u n (fLast a.2.2).1 : Int)
            rw [w1.1 _ _ (fun q => by unfold PF89 at q; omega)]; exact v5.2.2.2.2.2.2 v3
        · exact ⟨rw1, cap, N, .inr (fnD a.2.2, (tkB u n (fLast a.2.2).1 : Int)), hL, hNn, hds _ (by rw [if_neg w2]), w3, w4.1, w4.2.2, w2⟩
      · exact fin_f (res := .inr f) v5 rv v6 (Or.inr ⟨k4, m + 1, a, ⟨_, st0, v2⟩, Or.inr ⟨v3, f, v4, rfl⟩⟩)
end KRE
