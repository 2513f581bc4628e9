/-! the reference makes designs: expressions with nodes, whole -/
section MM2
variable {S S0 z y : Sto} {u : Nat → Int} {n N h M sl fa : Nat} {q : Qq} {ms : List Mdl} {cur : Mdl} {j b i : Nat} {f : Int × Int} {md w : Int} {v : VD} {k0 : List Row3} {A0 A : Nds} {stk : List VlS}
/-- choosing -/
theorem m_choose1 (t : MTk u n N S) (h27 : gI S 2000 27 = 1) (hq : MsQ u n N S (.inl j)) {k p o : Nat} (h32 : gI S 2000 32 = (k : Int) + 1) (hk : k ≤ 1000) (hp1 : gI S 2020 k = (p : Int)) (hp : p ≤ N) (h33 : gI S 2000 33 = (o : Int) + 1) (ho : o ≤ 60) (h34 : gI S 2000 34 = (v.2.length : Int)) (h2 : 3 ≤ v.2.length) (hv : v.2.length ≤ 1000) (hR : Rp1 u n N ms cur M sl fa S0 k0 A0 v S) :
    WP (mX23_choose S) (fun z => ChW (fun a i => (a = 2000 ∧ (i = 10 ∨ i = 11 ∨ i = 32 ∨ i = 33)) ∨ Q1 a i) S z ∧ gI z 2000 32 = (k : Int) ∧ gI z 2000 33 = (o : Int) ∧ oPA (XD u n ms cur) N (Rp1 u n N ms cur M sl fa S0 k0 A0) j (chD u n p v) z) := by
  obtain ⟨kk, vl⟩ := v
  obtain ⟨rr, e0, hH, hS, e2, rc, hsl, e27, e28⟩ := hR
  dsimp only at e0 e2 h34 h2 hv
  subst e2
  generalize hex : exL fa (EnvM S0 sl ms cur) rr (A0, []) = ex at hH hS h34 h2 hv
  obtain ⟨A, stk⟩ := ex
  dsimp only at hH hS h34 h2 hv ⊢
  unfold wdS at h34 h2 hv ⊢
  rw [List.length_map] at h34 h2 hv
  match stk, h2, hS, hex, h34, hv with
  | y :: x :: r :: l, _, hS, hex, h34, hv =>
    have h34 : gI S 2000 34 = ((l.length + 3 : Nat) : Int) := h34
    have hl : l.length + 3 ≤ 1000 := hv
    obtain ⟨r1, r2, r3, r4, r5, r6, r7, r8, r9, r10⟩ := hS
    have r1 : gI S 2021 (l.length + 2) = y.1 := r1
    have r3 : ∀ i : Nat, (i : Int) < y.1 → gI S 2022 (8 * (l.length + 2) + i) = y.2 i := r3
    have r4 : gI S 2021 (l.length + 1) = x.1 := r4
    have r6 : ∀ i : Nat, (i : Int) < x.1 → gI S 2022 (8 * (l.length + 1) + i) = x.2 i := r6
    have r90 : gI S 2022 (8 * l.length) = r.2 0 := by
      have := r9 0 (by omega)
      rw [Nat.add_zero] at this
      exact this
    unfold mX23_choose
    rw [show gI S 2000 32 - 1 = (k : Int) by omega, rdI_e (by omega), Int.toNat_natCast, hp1, wf_eq, hI_sI_i (by decide), show gI S 2000 33 - 1 = (o : Int) by omega, wf_eq]
    generalize hw : sI (sI S 2000 32 (k : Int)) 2000 33 (o : Int) = w
    have cw : ChW (fun a i => a = 2000 ∧ (i = 32 ∨ i = 33)) S w := by rw [← hw]; exact (ChW.refl.sI ⟨rfl, Or.inl rfl⟩).sI ⟨rfl, Or.inr rfl⟩
    have w27 : gI w 2000 27 = 1 := (cw.1 _ _ (by omega)).trans h27
    have w34 : gI w 2000 34 = ((l.length + 3 : Nat) : Int) := (cw.1 _ _ (by omega)).trans h34
    have w32' : gI w 2000 32 = (k : Int) := by rw [← hw, hI_sI_i (by decide), gI_sI_eq, w32_id (by omega)]
    have w33' : gI w 2000 33 = (o : Int) := by rw [← hw, gI_sI_eq, w32_id (by omega)]
    have tw := t.ch cw (fun a i l1 l2 q => by omega)
    have qw : MsQ u n N w (.inl j) := hq.ch cw (fun i l1 l2 q => by omega)
    have e3 : gI w 2000 34 - 3 = (l.length : Int) := by omega
    rw [e3, show (l.length : Int) + 1 = ((l.length + 1 : Nat) : Int) by omega, show (l.length : Int) + 2 = ((l.length + 2 : Nat) : Int) by omega, rdI_e (by omega), rdI_e (by omega), Int.toNat_natCast, Int.toNat_natCast, cw.1 _ _ (by omega), cw.1 _ _ (by omega), r1, r4, w32_id (by omega), w32_id (by omega)]
    have fin : ∀ {s : Sto}, ChW PF10 w s → WP (bX (if w32 (gI s 2000 27) = 1 then bX (mX23_choice s (l.length : Int)) fun x8 => some x8 else some s) fun y9 => rdI 1024 y9 2021 ((l.length + 1 : Nat) : Int) fun v10 => wrI 1024 y9 2021 (l.length : Int) v10 fun S11 => wf S11 2000 34 ((gI S11 2000 34) - 2) fun S12 => some S12)
        (fun z => ChW (fun a i => (a = 2000 ∧ (i = 10 ∨ i = 11 ∨ i = 32 ∨ i = 33)) ∨ Q1 a i) S z ∧ gI z 2000 32 = (k : Int) ∧ gI z 2000 33 = (o : Int) ∧ (∀ i, 9 ≤ i → i ≤ 11 → gI z 2000 i = gI s 2000 i) ∧ gI z 2000 34 = ((l.length + 1 : Nat) : Int) ∧ gI z 2021 l.length = x.1 ∧ HshM z fa (cnP fa A (gI S 2022 (8 * l.length)) (fun i => gI S 2022 (8 * (l.length + 1) + i)) (fun i => gI S 2022 (8 * (l.length + 2) + i)) x.1.toNat).1 ∧ (∀ t, t < x.1.toNat → gI z 2022 (8 * l.length + t) = (cnP fa A (gI S 2022 (8 * l.length)) (fun i => gI S 2022 (8 * (l.length + 1) + i)) (fun i => gI S 2022 (8 * (l.length + 2) + i)) x.1.toNat).2 t) ∧ ChW (fun a i => (a = 2021 ∧ i = l.length) ∨ (a = 2000 ∧ (i = 10 ∨ i = 11 ∨ i = 32 ∨ i = 33 ∨ i = 34)) ∨ PJn l.length a i) S z) := fun {s} cs => by
      have cSs : ChW (fun a i => a = 2000 ∧ (i = 10 ∨ i = 11 ∨ i = 32 ∨ i = 33)) S s := (ChW.refl.tr cw (fun a i q => by omega)).tr cs (fun a i q => by unfold PF10 at q; omega)
      have s27 : gI s 2000 27 = 1 := (cs.1 _ _ (fun q => by unfold PF10 at q; omega)).trans w27
      have s21 : gI s 2021 (l.length + 1) = x.1 := (cSs.1 _ _ (fun q => by omega)).trans r4
      have s34 : gI s 2000 34 = ((l.length + 3 : Nat) : Int) := (cs.1 _ _ (fun q => by unfold PF10 at q; omega)).trans w34
      have s32 : gI s 2000 32 = (k : Int) := (cs.1 _ _ (fun q => by unfold PF10 at q; omega)).trans w32'
      have s33 : gI s 2000 33 = (o : Int) := (cs.1 _ _ (fun q => by unfold PF10 at q; omega)).trans w33'
      have hHs : HshM s fa A := hH.ch cSs (fun a i q => by omega)
      have s22 : ∀ i, gI s 2022 i = gI S 2022 i := fun i => cSs.1 _ _ (fun q => by omega)
      have ef1 : (fun i => gI s 2022 (8 * (l.length + 1) + i)) = (fun i => gI S 2022 (8 * (l.length + 1) + i)) := by funext i; rw [s22]
      have ef2 : (fun i => gI s 2022 (8 * (l.length + 2) + i)) = (fun i => gI S 2022 (8 * (l.length + 2) + i)) := by funext i; rw [s22]
      have jn := m_choice hHs (p := l.length) (by omega) s21 r5
      rw [ef1, ef2, s22] at jn
      generalize hJ : cnP fa A (gI S 2022 (8 * l.length)) (fun i => gI S 2022 (8 * (l.length + 1) + i)) (fun i => gI S 2022 (8 * (l.length + 2) + i)) x.1.toNat = J at jn ⊢
      rw [s27, if_pos (by decide)]
      refine WP_bX.2 (WP_bX.2 (jn.mono (fun y9 h9 => WP_some.2 ?_)))
      obtain ⟨j1, j2, j3⟩ := h9
      have y21 : gI y9 2021 (l.length + 1) = x.1 := (j1.1 _ _ (fun q => by unfold PJn PNd at q; omega)).trans s21
      have y34 : gI y9 2000 34 = ((l.length + 3 : Nat) : Int) := (j1.1 _ _ (fun q => by unfold PJn PNd at q; omega)).trans s34
      rw [rdI_e (by omega), Int.toNat_natCast, y21, wrI_e (by omega), Int.toNat_natCast, wf_eq]
      rw [hI_sI_a (by decide), y34]
      generalize hz1 : sI y9 2021 l.length x.1 = z1
      generalize hz2 : sI z1 2000 34 (((l.length + 3 : Nat) : Int) - 2) = z2
      have c1 : ChW (fun a i => a = 2021 ∧ i = l.length) y9 z1 := by rw [← hz1]; exact ChW.refl.sI ⟨rfl, rfl⟩
      have c2 : ChW (fun a i => a = 2000 ∧ i = 34) z1 z2 := by rw [← hz2]; exact ChW.refl.sI ⟨rfl, rfl⟩
      have call : ChW (fun a i => (a = 2021 ∧ i = l.length) ∨ (a = 2000 ∧ (i = 10 ∨ i = 11 ∨ i = 32 ∨ i = 33 ∨ i = 34)) ∨ PJn l.length a i) S z2 := (((ChW.refl.tr cSs (fun a i q => by omega)).tr j1 (fun a i q => Or.inr (Or.inr q))).tr c1 (fun a i q => by omega)).tr c2 (fun a i q => by omega)
      refine WP_some.2 ⟨ChW.refl.tr call (fun a i q => by unfold PJn PNd at q; unfold Q1 QL PNd; omega), ?_, ?_, fun i l1 l2 => ?_, ?_, ?_, ?_, fun tt ht => ?_, call⟩
      · rw [c2.1 _ _ (by omega), c1.1 _ _ (by omega), j1.1 _ _ (fun q => by unfold PJn PNd at q; omega)]; exact s32
      · rw [c2.1 _ _ (by omega), c1.1 _ _ (by omega), j1.1 _ _ (fun q => by unfold PJn PNd at q; omega)]; exact s33
      · rw [c2.1 _ _ (by omega), c1.1 _ _ (by omega), j1.1 _ _ (fun q => by unfold PJn PNd at q; omega)]
      · rw [← hz2, gI_sI_eq, w32_id (by omega)]; omega
      · rw [c2.1 _ _ (by omega), ← hz1, gI_sI_eq]
        exact w32_id (by omega)
      · exact (j2.ch c1 (fun a i q => by omega)).ch c2 (fun a i q => by omega)
      · rw [c2.1 _ _ (by omega), c1.1 _ _ (by omega)]; exact j3 tt ht
    by_cases g : y.1 = x.1
    · rw [if_neg (show ¬ ¬ x.1 = y.1 from fun q => q g.symm), bX_some]
      refine (fin ChW.refl).mono (fun z hz => ?_)
      obtain ⟨z1, z2, z2', z3, z4, z5, z5a, z5b, z6⟩ := hz
      refine ⟨z1, z2, z2', ?_⟩
      have eo : chD u n p (kk, y.1 :: x.1 :: r.1 :: l.map (fun v => v.1)) = .inl (kk ++ [(10, 0, 0)], x.1 :: l.map (fun v => v.1)) := by
        show (if x.1 = y.1 then _ else _) = _
        rw [if_pos g.symm]
      show oPA _ _ _ _ (chD u n p (kk, y.1 :: x.1 :: r.1 :: l.map (fun v => v.1))) z
      rw [eo]
      have ej : cnP fa A (gI S 2022 (8 * l.length)) (fun i => gI S 2022 (8 * (l.length + 1) + i)) (fun i => gI S 2022 (8 * (l.length + 2) + i)) x.1.toNat = cnP fa A (r.2 0) x.2 y.2 x.1.toNat := by
        rw [r90]
        exact cnP_cg (fun i hi => ⟨r6 i (by omega), r3 i (by omega)⟩)
      rw [ej] at z5a z5b
      have exn : exL fa (EnvM S0 sl ms cur) (rr ++ [(10, 0, 0)]) (A0, []) = ((cnP fa A (r.2 0) x.2 y.2 x.1.toNat).1, (x.1, (cnP fa A (r.2 0) x.2 y.2 x.1.toNat).2) :: l) := by
        rw [exL_app, hex]; rfl
      refine ⟨qw.cg z3, ?_, rr ++ [(10, 0, 0)], ?_, ?_, ?_, ?_, ?_⟩
      · show gI z 2000 34 = ((List.length (x.1 :: l.map (fun v => v.1)) : Nat) : Int)
        rw [List.length_cons, List.length_map]; exact z4
      · show kk ++ _ = k0 ++ (rr ++ _)
        rw [e0, List.append_assoc]
      · rw [exn]; exact z5a
      · rw [exn]
        refine ⟨z5, r5, fun i hi => z5b i (by have hi : (i : Int) < x.1 := hi; omega), ?_⟩
        exact StkM.cg r10 (fun i hi => z6.1 _ _ (fun q => by unfold PJn PNd at q; omega)) (fun i hi => z6.1 _ _ (fun q => by unfold PJn PNd at q; omega))
      · rw [exn]; rfl
      · exact ⟨rc.ch z6 (fun a i q => by unfold PJn PNd at q; omega), ⟨(z6.1 _ _ (fun q => by unfold PJn PNd at q; omega)).trans hsl.1, hsl.2⟩, fun i => (z6.1 _ _ (fun q => by unfold PJn PNd at q; omega)).trans (e27 i), fun i => (z6.1 _ _ (fun q => by unfold PJn PNd at q; omega)).trans (e28 i)⟩
    · rw [if_pos (show ¬ x.1 = y.1 from fun q => g q.symm)]
      refine WP_bX.2 (WP_call (m_flawBefore tw qw hp (c := 13) (by omega)) (fun s hs => WP_some.2 ((fin hs.2).mono (fun z hz => ?_))))
      obtain ⟨z1, z2, z2', z3, z4, z5⟩ := hz
      refine ⟨z1, z2, z2', ?_⟩
      have eo : chD u n p (kk, y.1 :: x.1 :: r.1 :: l.map (fun v => v.1)) = .inr (13, (tkB u n p : Int)) := by
        show (if x.1 = y.1 then _ else _) = _
        rw [if_neg (fun q => g q.symm)]
      show oPA _ _ _ _ (chD u n p (kk, y.1 :: x.1 :: r.1 :: l.map (fun v => v.1))) z
      rw [eo]
      exact MsQ.cg hs.1 z3
theorem Rp1.ch (h' : Rp1 u n N ms cur M sl fa S0 k0 A0 v S) {P : Nat → Nat → Prop} (g : ChW P S z) (e : ∀ a i, P a i → a ≠ 2021 ∧ a ≠ 2022 ∧ ¬ (2023 ≤ a ∧ a ≤ 2028) ∧ ¬ (2009 ≤ a ∧ a ≤ 2013) ∧ ¬ (a = 2000 ∧ (i = 28 ∨ i = 29 ∨ i = 37 ∨ i = 38))) : Rp1 u n N ms cur M sl fa S0 k0 A0 v z := by
  obtain ⟨rr, e0, hH, hS, e2, rc, hsl, e27, e28⟩ := h'
  refine ⟨rr, e0, hH.ch g (fun a i q => by have := e a i q; omega), StkM.cg hS (fun i _ => g.1 _ _ (fun q => by have := e _ _ q; omega)) (fun i _ => g.1 _ _ (fun q => by have := e _ _ q; omega)), e2, rc.ch g (fun a i q => by have := e a i q; omega), ⟨(g.1 _ _ (fun q => by have := e _ _ q; omega)).trans hsl.1, hsl.2⟩, fun i => (g.1 _ _ (fun q => by have := e _ _ q; omega)).trans (e27 i), fun i => (g.1 _ _ (fun q => by have := e _ _ q; omega)).trans (e28 i)⟩
theorem wdS_len {l : List VlS} : (wdS l).length = l.length := List.length_map _
/-- mode 1 gives what the loop needs -/
theorem XD_in1 : OIn (XD u n ms cur) N 1 Q1 (Rp1 u n N ms cur M sl fa S0 k0 A0) := by
  refine ⟨⟨Or.inr ⟨rfl, Or.inr rfl⟩, Or.inl (Or.inr (Or.inr ⟨rfl, rfl⟩))⟩, ?_, ?_, ?_, ?_, ?_, ?_, ?_⟩
  · intro a i q; have := Q1_n q; omega
  · intro v S z h g
    refine h.ch g (fun a i q => ?_)
    rcases q with q | q | q | q
    · omega
    · omega
    · omega
    · exact absurd q id
  · intro j v S t h27 hq _ _ h34 hv hR
    have t : MTk u n N S := t
    have hq : MsQ u n N S (.inl j) := hq
    have h34 : gI S 2000 34 = (v.2.length : Int) := h34
    have hv : v.2.length ≤ 1000 := hv
    obtain ⟨rr, e0, hH, hS, e2, rc, hsl, e27, e28⟩ := hR
    refine (m_midD (sl := sl) t hq rc h27 (Or.inr rfl) h34 hv (fun _ => hsl)).mono (fun y hy => ?_)
    obtain ⟨y1, y2⟩ := hy
    have hP : ∀ a i, PPl v.2.length a i → PG9 a i ∨ Q1 a i := fun a i q => by
      rcases q with q | q | q
      · exact Or.inl q
      · exact Or.inr (Or.inl (Or.inl q.1))
      · exact Or.inr (Or.inl (Or.inr (Or.inl q.1)))
    refine ⟨ChW.refl.tr y1 hP, ?_⟩
    show oPO _ _ _ _ (oB (opD u n ms cur j) (fun t => (.inl (t.1, v.1 ++ t.2.1, t.2.2 :: v.2) : Rv VD))) y
    cases hC : opD u n ms cur j with
    | inr f => rw [hC] at y2; exact y2
    | inl r =>
      rw [hC] at y2
      rw [oB_l]
      obtain ⟨y3, y4, y5, y6⟩ := y2
      have y6 := y6 rfl
      have c34 : ChW (fun a i => a = 2000 ∧ i = 34) y (sI y 2000 34 ((v.2.length : Int) + 1)) := ChW.refl.sI ⟨rfl, rfl⟩
      have cS : ChW (fun a i => PPl v.2.length a i ∨ (a = 2000 ∧ i = 34)) S (sI y 2000 34 ((v.2.length : Int) + 1)) := (ChW.refl.tr y1 (fun a i q => Or.inl q)).tr c34 (fun a i q => Or.inr q)
      have pS : ∀ a i, (PPl v.2.length a i ∨ (a = 2000 ∧ i = 34)) → (a = 2000 ∧ ((9 ≤ i ∧ i ≤ 11) ∨ i = 34)) ∨ (a = 2021 ∧ i = v.2.length) ∨ (a = 2022 ∧ 8 * v.2.length ≤ i ∧ i < 8 * v.2.length + 8) := fun a i q => by unfold PPl PG9 at q; omega
      obtain ⟨f, f1, f2⟩ := opD_ex (S := S0) (sl := sl) (fa := fa) (A := (exL fa (EnvM S0 sl ms cur) rr (A0, [])).1) (stk := (exL fa (EnvM S0 sl ms cur) rr (A0, [])).2) hC
      have exn : exL fa (EnvM S0 sl ms cur) (rr ++ r.2.1) (A0, []) = ((exL fa (EnvM S0 sl ms cur) rr (A0, [])).1, (r.2.2, f) :: (exL fa (EnvM S0 sl ms cur) rr (A0, [])).2) := by
        rw [exL_app]; exact f1
      have hlen : v.2.length = (exL fa (EnvM S0 sl ms cur) rr (A0, [])).2.length := by rw [e2, wdS_len]
      refine ⟨y3, (y1.1 _ _ (fun q => by unfold PPl PG9 at q; omega)).trans h34, rr ++ r.2.1, ?_, ?_, ?_, ?_, ?_, ?_, fun i => ?_, fun i => ?_⟩
      · show v.1 ++ _ = _; rw [e0, List.append_assoc]
      · rw [exn]; exact hH.ch cS (fun a i q => by have := pS a i q; omega)
      · rw [exn]
        refine ⟨?_, y5, fun i hi => ?_, StkM.cg hS (fun i hi => cS.1 _ _ (fun q => by have := pS _ _ q; omega)) (fun i hi => cS.1 _ _ (fun q => by have := pS _ _ q; omega))⟩
        · rw [← hlen]; exact (c34.1 _ _ (by omega)).trans y4
        · have hi : (i : Int) < r.2.2 := hi
          show gI _ 2022 (8 * (exL fa (EnvM S0 sl ms cur) rr (A0, [])).2.length + i) = f i
          rw [← hlen]
          refine (c34.1 2022 _ (by omega)).trans ?_
          rw [y6 i hi, f2 i hi]
          exact rwBt_cg e27 e28
      · rw [exn]
        show r.2.2 :: v.2 = r.2.2 :: wdS _
        rw [e2]
      · exact rc.ch cS (fun a i q => by have := pS a i q; omega)
      · exact ⟨(cS.1 _ _ (fun q => by have := pS _ _ q; omega)).trans hsl.1, hsl.2⟩
      · exact (cS.1 _ _ (fun q => by have := pS _ _ q; omega)).trans (e27 i)
      · exact (cS.1 _ _ (fun q => by have := pS _ _ q; omega)).trans (e28 i)
  · intro v S h27 h34 h1 h2 hR
    have h1 : 1 ≤ v.2.length := h1
    have h2 : v.2.length ≤ 1000 := h2
    have h34 : gI S 2000 34 = (v.2.length : Int) := h34
    obtain ⟨rr, e0, hH, hS, e2, rc, hsl, e27, e28⟩ := hR
    generalize hex : exL fa (EnvM S0 sl ms cur) rr (A0, []) = ex at hH hS e2
    obtain ⟨A, stk⟩ := ex
    dsimp only at hH hS e2
    have hlen : v.2.length = stk.length := by rw [e2, wdS_len]
    cases stk with
    | nil => exact absurd hlen (by show ¬ _ = 0; omega)
    | cons x l =>
      have hlen : v.2.length = l.length + 1 := hlen
      refine (m_turnD (h := l.length) h27 (Or.inr rfl) (by rw [h34, hlen]) (by omega)).mono (fun z hz => ?_)
      obtain ⟨z1, z2⟩ := hz
      obtain ⟨s1, s2, s3, s4⟩ := hS
      have exn : exL fa (EnvM S0 sl ms cur) (rr ++ [(4, 0, 0)]) (A0, []) = (A, (x.1, fun i => aXor (x.2 i) 1) :: l) := by
        rw [exL_app, hex]; rfl
      refine ⟨ChW.refl.tr z1 (fun a i q => Or.inl (Or.inr (Or.inl q.1))), z1.1 _ _ (by omega), rr ++ [(4, 0, 0)], ?_, ?_, ?_, ?_, ?_, ⟨(z1.1 _ _ (by omega)).trans hsl.1, hsl.2⟩, fun i => (z1.1 _ _ (by omega)).trans (e27 i), fun i => (z1.1 _ _ (by omega)).trans (e28 i)⟩
      · show v.1 ++ [(4, 0, 0)] = _; rw [e0, List.append_assoc]
      · rw [exn]; exact hH.ch z1 (fun a i q => by omega)
      · rw [exn]
        refine ⟨(z1.1 _ _ (by omega)).trans s1, s2, fun i hi => ?_, StkM.cg s4 (fun i hi => z1.1 _ _ (by omega)) (fun i hi => z1.1 _ _ (by omega))⟩
        have hi : (i : Int) < x.1 := hi
        rw [z2 i (by omega), s3 i hi, w32_aXor]
      · rw [exn]; exact e2
      · exact rc.ch z1 (fun a i q => by omega)
  · intro j c p k v S t h27 hq h32 hk' hc hp' hp hoc _ h34 h2 hv hR; exact m_apply1 t h27 hq hoc h32 hk' hc hp' hp h34 h2 hv hR
  · intro j p k o v S _ t h27 hq h32 hk' hp' hp h33 ho h34 h3 hv hR; exact m_choose1 t h27 hq h32 hk' hp' hp h33 ho h34 h3 hv hR
  · intro v S _ h34 h1 h2 hR
    obtain ⟨kk, vl⟩ := v
    obtain ⟨rr, e0, hH, hS, e2, rc, hsl, e27, e28⟩ := hR
    dsimp only at e2
    subst e2
    generalize (exL fa (EnvM S0 sl ms cur) rr (A0, [])).2 = stk at hS h34 h1 h2 ⊢
    cases stk with
    | nil => exact absurd h1 (by show ¬ 1 ≤ 0; omega)
    | cons w l =>
      have r1 : gI S 2021 l.length = w.1 := hS.1
      show gI S 2021 ((wdS (w :: l)).length - 1) = 1 ↔ decide (w.1 = 1) = true
      rw [wdS_len, show (w :: l).length - 1 = l.length from Nat.add_sub_cancel .., r1, decide_eq_true_iff]
/-- a whole expression with nodes: its rows from k0 on, evaluated -/
theorem m_expr1 {k' : List Row3} {d : Nat} {w : Int} (t : MTk u n N S) (h27 : gI S 2000 27 = 1) (hq : MsQ u n N S (.inl j)) (rc : RCx u n N ms cur M S) (hsl : gI S 2000 29 = (sl : Int) ∧ sl ≤ 15) (hH : HshM S fa A0) (g : oGr (XD u n ms cur) (gE 0) j 0 (k0, []) (.inl (d, (k', [w])))) :
    WP (mX23_expression S) (fun z => ChW (PAq Q1) S z ∧ MsQ u n N z (.inl d) ∧ ∃ r f, k' = k0 ++ r ∧ HshM z fa (exL fa (EnvM S sl ms cur) r (A0, [])).1 ∧ (exL fa (EnvM S sl ms cur) r (A0, [])).2 = [(w, f)] ∧ (1 ≤ w ∧ w ≤ 8) ∧ ∀ i : Nat, (i : Int) < w → gI z 2022 i = f i) := by
  have hI := XD_in1 (u := u) (n := n) (N := N) (ms := ms) (cur := cur) (M := M) (sl := sl) (fa := fa) (S0 := S) (k0 := k0) (A0 := A0)
  have hX := XD_ok (u := u) (n := n) (N := N) (ms := ms) (cur := cur) t.l
  have c0 : ChW (fun a i => a = 2000 ∧ (i = 32 ∨ i = 33 ∨ i = 34)) S (sI (sI (sI S 2000 32 0) 2000 33 0) 2000 34 0) := ((ChW.refl.sI ⟨rfl, by omega⟩).sI ⟨rfl, by omega⟩).sI ⟨rfl, by omega⟩
  have hR0 : Rp1 u n N ms cur M sl fa S k0 A0 (k0, []) (sI (sI (sI S 2000 32 0) 2000 33 0) 2000 34 0) := by
    refine ⟨[], (List.append_nil _).symm, hH.ch c0 (fun a i q => by omega), trivial, rfl, rc.ch c0 (fun a i q => by omega), ⟨(c0.1 _ _ (by omega)).trans hsl.1, hsl.2⟩, fun i => c0.1 _ _ (by omega), fun i => c0.1 _ _ (by omega)⟩
  refine (sim_expr hI hX t h27 hq (v0 := (k0, [])) rfl hR0 g).mono (fun z hz => ?_)
  obtain ⟨z1, z2, z3, rr, e0, z4, z5, e2, z6⟩ := hz
  refine ⟨z1, z2, ?_⟩
  have e0 : k' = k0 ++ rr := e0
  have e2 : [w] = wdS (exL fa (EnvM S sl ms cur) rr (A0, [])).2 := e2
  generalize hex : exL fa (EnvM S sl ms cur) rr (A0, []) = ex at z4 z5 e2
  obtain ⟨A, stk⟩ := ex
  dsimp only at z4 z5 e2
  cases stk with
  | nil => cases e2
  | cons v l =>
    cases l with
    | nil =>
      have e2 : [w] = [v.1] := e2
      injection e2 with e2
      obtain ⟨s1, s2, s3, _⟩ := z5
      refine ⟨rr, v.2, e0, by rw [hex]; exact z4, by rw [hex, e2], by rw [e2]; exact s2, fun i hi => ?_⟩
      have := s3 i (by rw [← e2]; exact hi)
      rw [show 8 * ([] : List VlS).length + i = i from by show 8 * 0 + i = i; omega] at this
      exact this
    | cons v2 l => injection e2 with _ e2; cases e2
end MM2
