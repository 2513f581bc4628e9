/-! the reference makes designs: expressions with nodes (mode 1) -/
def StkM (S : Sto) : List VlS → Prop
  | [] => True
  | v :: l => gI S 2021 l.length = v.1 ∧ (1 ≤ v.1 ∧ v.1 ≤ 8) ∧ (∀ i : Nat, (i : Int) < v.1 → gI S 2022 (8 * l.length + i) = v.2 i) ∧ StkM S l
theorem StkM.cg {S z : Sto} : ∀ {v : List VlS}, StkM S v → (∀ i, i < v.length → gI z 2021 i = gI S 2021 i) → (∀ i, i < 8 * v.length → gI z 2022 i = gI S 2022 i) → StkM z v
  | [], _, _, _ => trivial
  | v :: l, h, e1, e2 => by
    obtain ⟨h1, h2, h3, h4⟩ := h
    refine ⟨(e1 _ (by show l.length < l.length + 1; omega)).trans h1, h2, fun i hi => (e2 _ (by show _ < 8 * (l.length + 1); omega)).trans (h3 i hi), StkM.cg h4 (fun i hi => e1 _ (by show _ < l.length + 1; omega)) (fun i hi => e2 _ (by show _ < 8 * (l.length + 1); omega))⟩
def EnvM (S : Sto) (sl : Nat) (ms : List Mdl) (cur : Mdl) : Env7 := (fun a => (cur.getD a nm0).2.2.1, fun a k => gI S 2027 (320 * sl + 8 * a + k), fun i o => ((ms.getD (cur.getD i nm0).2.2.2.toNat []).getD o nm0).2.2.1, fun i o k => gI S 2028 (12800 * sl + 320 * i + 8 * o + k))
def wdS (l : List VlS) : List Int := l.map (fun v => v.1)
/-- what stands while an expression is made -/
def Rp1 (u : Nat → Int) (n N : Nat) (ms : List Mdl) (cur : Mdl) (M sl fa : Nat) (S0 : Sto) (k0 : List Row3) (A0 : Nds) (v : VD) (S : Sto) : Prop := ∃ r, v.1 = k0 ++ r ∧ HshM S fa (exL fa (EnvM S0 sl ms cur) r (A0, [])).1 ∧ StkM S (exL fa (EnvM S0 sl ms cur) r (A0, [])).2 ∧ v.2 = wdS (exL fa (EnvM S0 sl ms cur) r (A0, [])).2 ∧ RCx u n N ms cur M S ∧ (gI S 2000 29 = (sl : Int) ∧ sl ≤ 15) ∧ (∀ i, gI S 2027 i = gI S0 2027 i) ∧ ∀ i, gI S 2028 i = gI S0 2028 i
def Q1 (a i : Nat) : Prop := QL a i ∨ PNd a i
theorem Q1_n {a i : Nat} (q : Q1 a i) : a = 2021 ∨ a = 2022 ∨ (a = 2000 ∧ (i = 34 ∨ i = 37)) ∨ (2023 ≤ a ∧ a ≤ 2026) := by
  unfold Q1 QL PNd at q
  omega
section MM1
variable {S S0 z y : Sto} {u : Nat → Int} {n N h M sl fa : Nat} {q : Qq} {ms : List Mdl} {cur : Mdl} {j b i : Nat} {f : Int × Int} {md w : Int} {v : VD} {k0 : List Row3} {A0 A : Nds} {stk : List VlS}
/-- only the bits of the width matter -/
theorem jnP_cg {c : Int} {f g f' g' : Nat → Int} : ∀ {k : Nat}, (∀ i, i < k → f i = f' i ∧ g i = g' i) → jnP fa c A f g k = jnP fa c A f' g' k
  | 0, _ => rfl
  | k + 1, h => by
    unfold jnP
    rw [jnP_cg (k := k) (fun i hi => h i (by omega)), (h k (by omega)).1, (h k (by omega)).2]
theorem joP_cg {c : Int} {f g f' g' : Nat → Int} {k : Nat} (h : ∀ i, i < k → f i = f' i ∧ g i = g' i) : joP fa c A k f g = joP fa c A k f' g' := by
  unfold joP
  rw [jnP_cg h]
theorem cnP_cg {c : Int} {f g f' g' : Nat → Int} : ∀ {k : Nat}, (∀ i, i < k → f i = f' i ∧ g i = g' i) → cnP fa A c f g k = cnP fa A c f' g' k
  | 0, _ => rfl
  | k + 1, h => by
    unfold cnP
    rw [cnP_cg (k := k) (fun i hi => h i (by omega)), (h k (by omega)).1, (h k (by omega)).2]
/-- an operand's rows -/
theorem biD_ex {E : Env7} {w : Int} {a : Nat} {t : Nat × List Row3 × Int} {g : Nat → Int} (h : biD u n w a = .inl t) : ∃ f, exL fa E t.2.1 (A, (w, g) :: stk) = (A, (t.2.2, f) :: stk) ∧ ∀ i, (t.2.2 ≤ 1 → i = 0) → f i = rsB g t.2.1 i := by
  unfold biD at h
  split at h
  · obtain ⟨b, h1, h⟩ := oB_inv h
    obtain ⟨c, h2, h⟩ := oB_inv h
    injection h with h; subst h
    refine ⟨fun i => if i = 0 then g (tkV u n b).toNat else g i, rfl, fun i hi => ?_⟩
    rfl
  · injection h with h; subst h
    exact ⟨g, rfl, fun i _ => rfl⟩
theorem opD_ex {t : Nat × List Row3 × Int} (h : opD u n ms cur j = .inl t) : ∃ f, exL fa (EnvM S sl ms cur) t.2.1 (A, stk) = (A, (t.2.2, f) :: stk) ∧ ∀ i : Nat, (i : Int) < t.2.2 → f i = rwBt S sl t.2.1 i := by
  unfold opD at h
  split at h
  · unfold conD at h
    obtain ⟨a, h1, h⟩ := oB_inv h
    obtain ⟨b, h2, h⟩ := oB_inv h
    obtain ⟨c, h3, h⟩ := oB_inv h
    split at h
    · cases h
    · injection h with h; subst h
      exact ⟨vaB (tkV u n j), rfl, fun i _ => rfl⟩
  · split at h
    · unfold namD at h
      split at h
      · obtain ⟨a, h1, h⟩ := oB_inv h
        split at h
        · unfold dotD at h
          obtain ⟨b, h2, h⟩ := oB_inv h
          split at h
          · cases h
          · split at h
            · unfold ofD at h
              split at h
              · obtain ⟨c, h3, h⟩ := oB_inv h
                obtain ⟨s, h4, h⟩ := oB_inv h
                injection h with h; subst h
                obtain ⟨f, f1, f2⟩ := biD_ex (fa := fa) (A := A) (stk := stk) (E := EnvM S sl ms cur) (g := fun k => gI S 2028 (12800 * sl + 320 * fiN u n (mTk cur) j + 8 * fiN u n (mTk (ms.getD (cur.getD (fiN u n (mTk cur) j) nm0).2.2.2.toNat [])) b + k)) h4
                refine ⟨f, ?_, fun i hi => ?_⟩
                · show exL fa _ s.2.1 (exR fa (EnvM S sl ms cur) (2, (fiN u n (mTk cur) j : Int), (fiN u n (mTk (ms.getD (cur.getD (fiN u n (mTk cur) j) nm0).2.2.2.toNat [])) b : Int)) (A, stk)) = _
                  rw [← f1]
                  rfl
                · rw [f2 i (fun w => by have hi : (i : Int) < s.2.2 := hi; omega)]
                  rfl
              · cases h
            · obtain ⟨c, h3, h⟩ := oB_inv h
              injection h with h; subst h
              refine ⟨fun i => if i = 0 then gI S 2027 (320 * sl + 8 * fiN u n (mTk cur) j + (tkV u n b).toNat) else gI S 2027 (320 * sl + 8 * fiN u n (mTk cur) j + i), rfl, fun i hi => ?_⟩
              have hi : (i : Int) < 1 := hi
              have : i = 0 := by omega
              subst this
              rfl
        · split at h
          · cases h
          · injection h with h; subst h
            exact ⟨fun k => gI S 2027 (320 * sl + 8 * fiN u n (mTk cur) j + k), rfl, fun i _ => rfl⟩
      · cases h
    · cases h
theorem rwBt_cg {S S' : Sto} (e1 : ∀ i, gI S' 2027 i = gI S 2027 i) (e2 : ∀ i, gI S' 2028 i = gI S 2028 i) {l : List Row3} {i : Nat} : rwBt S' sl l i = rwBt S sl l i := by
  have : roB S' sl = roB S sl := by
    funext x k
    unfold roB
    rw [e1, e2]
  cases l with
  | nil => rfl
  | cons x l => unfold rwBt; rw [this]
theorem cdD_sg {c : Int} (hc : 1 ≤ oR c) : sgD (cdD c) = c ∧ ¬ cdD c = 0 ∧ ¬ cdD c = 1 ∧ ¬ cdD c = 2 ∧ ¬ cdD c = 3 ∧ ¬ cdD c = 4 ∧ ¬ cdD c = 10 ∧ (c = 38 ∨ c = 124 ∨ c = 94 ∨ c = 43 ∨ c = 257) := by
  obtain ⟨i1, i2, i3, i4, i5⟩ := oR_iff (c := c)
  have h5 := oR_le c
  have e : c = 124 ∨ c = 94 ∨ c = 38 ∨ c = 257 ∨ c = 43 := by omega
  rcases e with e | e | e | e | e <;> subst e <;> decide
/-- joining two values -/
theorem m_apply1 (t : MTk u n N S) (h27 : gI S 2000 27 = 1) (hq : MsQ u n N S (.inl j)) {k p : Nat} {c : Int} (hoc : 1 ≤ oR c) (h32 : gI S 2000 32 = (k : Int) + 1) (hk : k ≤ 1000) (hc1 : gI S 2019 k = c) (hp1 : gI S 2020 k = (p : Int)) (hp : p ≤ N) (h34 : gI S 2000 34 = (v.2.length : Int)) (h2 : 2 ≤ v.2.length) (hv : v.2.length ≤ 1000) (hR : Rp1 u n N ms cur M sl fa S0 k0 A0 v S) :
    WP (mX23_apply S) (fun z => ChW (fun a i => (a = 2000 ∧ (i = 10 ∨ i = 11 ∨ i = 32)) ∨ Q1 a i) S z ∧ gI z 2000 32 = (k : Int) ∧ oPA (XD u n ms cur) N (Rp1 u n N ms cur M sl fa S0 k0 A0) j (apD u n c p v) z) := by
  obtain ⟨kk, vl⟩ := v
  obtain ⟨rr, e0, hH, hS, e2, rc, hsl, e27, e28⟩ := hR
  dsimp only at e0 e2 h34 h2 hv
  subst e2
  generalize hex : exL fa (EnvM S0 sl ms cur) rr (A0, []) = ex at hH hS h34 h2 hv
  obtain ⟨A, stk⟩ := ex
  dsimp only at hH hS h34 h2 hv ⊢
  unfold wdS at h34 h2 hv ⊢
  rw [List.length_map] at h34 h2 hv
  match stk, h2, hS, hex, h34, hv with
  | y :: x :: l, _, hS, hex, h34, hv =>
    have h34 : gI S 2000 34 = ((l.length + 2 : Nat) : Int) := h34
    have hl : l.length + 2 ≤ 1000 := hv
    obtain ⟨r1, r2, r3, r4, r5, r6, r7⟩ := hS
    have r1 : gI S 2021 (l.length + 1) = y.1 := r1
    have r3 : ∀ i : Nat, (i : Int) < y.1 → gI S 2022 (8 * (l.length + 1) + i) = y.2 i := r3
    obtain ⟨d1, d2, d3, d4, d5, d6, d7, d8⟩ := cdD_sg hoc
    unfold mX23_apply
    rw [show gI S 2000 32 - 1 = (k : Int) by omega, rdI_e (by omega), rdI_e (by omega), Int.toNat_natCast, hc1, hp1, wf_eq]
    generalize hw : sI S 2000 32 (k : Int) = w
    have cw : ChW (fun a i => a = 2000 ∧ i = 32) S w := by rw [← hw]; exact ChW.refl.sI ⟨rfl, rfl⟩
    have w27 : gI w 2000 27 = 1 := (cw.1 _ _ (by omega)).trans h27
    have w34 : gI w 2000 34 = ((l.length + 2 : Nat) : Int) := (cw.1 _ _ (by omega)).trans h34
    have w32' : gI w 2000 32 = (k : Int) := by rw [← hw, gI_sI_eq, w32_id (by omega)]
    have tw := t.ch cw (fun a i l1 l2 q => by omega)
    have qw : MsQ u n N w (.inl j) := hq.ch cw (fun i l1 l2 q => by omega)
    have e2 : gI w 2000 34 - 2 = (l.length : Int) := by omega
    have e1 : gI w 2000 34 - 1 = ((l.length + 1 : Nat) : Int) := by omega
    rw [w27, if_pos (by decide), e2, e1, rdI_e (by omega), rdI_e (by omega), Int.toNat_natCast, Int.toNat_natCast, cw.1 _ _ (by omega), cw.1 _ _ (by omega), r1, r4, w32_id (by omega), w32_id (by omega)]
    -- whatever comes, the end
    have fin : ∀ {s : Sto}, ChW PF10 w s → WP (bX (if w32 (gI s 2000 27) = 1 then bX (mX23_join s c (l.length : Int) ((l.length + 1 : Nat) : Int)) fun x8 => some x8 else some s) fun y9 => bX (if w32 (gI y9 2000 27) = 2 then rdI 8192 y9 2022 (8 * (l.length : Int)) fun v10 => rdI 8192 y9 2022 (8 * ((l.length + 1 : Nat) : Int)) fun v11 => bX (if w32 c = 124 then some (aOr v10 v11) else if w32 c = 94 then some (aXor v10 v11) else some (aAnd v10 v11)) fun y12 => wrI 8192 y9 2022 (8 * (l.length : Int)) y12 fun S13 => some S13 else some y9) fun y14 => bX (if w32 c = 257 then some 1 else rdI 1024 y14 2021 (l.length : Int) fun v15 => some v15) fun y16 => wrI 1024 y14 2021 (l.length : Int) y16 fun S17 => wf S17 2000 34 ((gI S17 2000 34) - 1) fun S18 => some S18)
        (fun z => ChW (fun a i => (a = 2000 ∧ (i = 10 ∨ i = 11 ∨ i = 32)) ∨ Q1 a i) S z ∧ gI z 2000 32 = (k : Int) ∧ (∀ i, 9 ≤ i → i ≤ 11 → gI z 2000 i = gI s 2000 i) ∧ gI z 2000 34 = ((l.length + 1 : Nat) : Int) ∧ gI z 2021 l.length = (if c = 257 then 1 else x.1) ∧ HshM z fa (joP fa c A x.1.toNat (fun i => gI S 2022 (8 * l.length + i)) (fun i => gI S 2022 (8 * (l.length + 1) + i))).1 ∧ (∀ t, t < x.1.toNat → gI z 2022 (8 * l.length + t) = (joP fa c A x.1.toNat (fun i => gI S 2022 (8 * l.length + i)) (fun i => gI S 2022 (8 * (l.length + 1) + i))).2 t) ∧ ChW (fun a i => (a = 2021 ∧ i = l.length) ∨ (a = 2000 ∧ (i = 10 ∨ i = 11 ∨ i = 32 ∨ i = 34)) ∨ PJn l.length a i) S z) := fun {s} cs => by
      have s27 : gI s 2000 27 = 1 := (cs.1 _ _ (fun q => by unfold PF10 at q; omega)).trans w27
      have s21 : gI s 2021 l.length = x.1 := (cs.1 _ _ (fun q => by unfold PF10 at q; omega)).trans ((cw.1 _ _ (by omega)).trans r4)
      have s34 : gI s 2000 34 = ((l.length + 2 : Nat) : Int) := (cs.1 _ _ (fun q => by unfold PF10 at q; omega)).trans w34
      have s32 : gI s 2000 32 = (k : Int) := (cs.1 _ _ (fun q => by unfold PF10 at q; omega)).trans w32'
      have hcw : w32 c = c := by rw [← hc1, w32_gI]
      have cSs : ChW (fun a i => a = 2000 ∧ (i = 10 ∨ i = 11 ∨ i = 32)) S s := (ChW.refl.tr cw (fun a i q => by omega)).tr cs (fun a i q => by unfold PF10 at q; omega)
      have hHs : HshM s fa A := hH.ch cSs (fun a i q => by omega)
      have s22 : ∀ i, gI s 2022 i = gI S 2022 i := fun i => cSs.1 _ _ (fun q => by omega)
      have ef1 : (fun i => gI s 2022 (8 * l.length + i)) = (fun i => gI S 2022 (8 * l.length + i)) := by funext i; rw [s22]
      have ef2 : (fun i => gI s 2022 (8 * (l.length + 1) + i)) = (fun i => gI S 2022 (8 * (l.length + 1) + i)) := by funext i; rw [s22]
      have jn := m_join d8 hHs (p := l.length) (q := l.length + 1) (by omega) (by omega) (by omega) s21 r5
      rw [ef1, ef2] at jn
      generalize hJ : joP fa c A x.1.toNat (fun i => gI S 2022 (8 * l.length + i)) (fun i => gI S 2022 (8 * (l.length + 1) + i)) = J at jn ⊢
      rw [s27, if_pos (by decide)]
      refine WP_bX.2 (WP_bX.2 (jn.mono (fun y9 h9 => WP_some.2 ?_)))
      obtain ⟨j1, j2, j3⟩ := h9
      have y27 : gI y9 2000 27 = 1 := (j1.1 _ _ (fun q => by unfold PJn PNd at q; omega)).trans s27
      have y21 : gI y9 2021 l.length = x.1 := (j1.1 _ _ (fun q => by unfold PJn PNd at q; omega)).trans s21
      have y34 : gI y9 2000 34 = ((l.length + 2 : Nat) : Int) := (j1.1 _ _ (fun q => by unfold PJn PNd at q; omega)).trans s34
      rw [y27, if_neg (by decide), bX_some, rdI_e (by omega), Int.toNat_natCast, y21, hcw]
      have hcc : (if c = 257 then some (1 : Int) else some x.1) = some (if c = 257 then 1 else x.1) := by split <;> rfl
      rw [hcc, bX_some, wrI_e (by omega), Int.toNat_natCast, wf_eq]
      rw [hI_sI_a (by decide), y34]
      generalize hz1 : sI y9 2021 l.length (if c = 257 then 1 else x.1) = z1
      generalize hz2 : sI z1 2000 34 (((l.length + 2 : Nat) : Int) - 1) = z2
      have c1 : ChW (fun a i => a = 2021 ∧ i = l.length) y9 z1 := by rw [← hz1]; exact ChW.refl.sI ⟨rfl, rfl⟩
      have c2 : ChW (fun a i => a = 2000 ∧ i = 34) z1 z2 := by rw [← hz2]; exact ChW.refl.sI ⟨rfl, rfl⟩
      have call : ChW (fun a i => (a = 2021 ∧ i = l.length) ∨ (a = 2000 ∧ (i = 10 ∨ i = 11 ∨ i = 32 ∨ i = 34)) ∨ PJn l.length a i) S z2 := (((ChW.refl.tr cSs (fun a i q => by omega)).tr j1 (fun a i q => Or.inr (Or.inr q))).tr c1 (fun a i q => by omega)).tr c2 (fun a i q => by omega)
      refine WP_some.2 ⟨ChW.refl.tr call (fun a i q => by unfold PJn PNd at q; unfold Q1 QL PNd; omega), ?_, fun i l1 l2 => ?_, ?_, ?_, ?_, fun tt ht => ?_, call⟩
      · rw [c2.1 _ _ (by omega), c1.1 _ _ (by omega), j1.1 _ _ (fun q => by unfold PJn PNd at q; omega)]; exact s32
      · rw [c2.1 _ _ (by omega), c1.1 _ _ (by omega), j1.1 _ _ (fun q => by unfold PJn PNd at q; omega)]
      · rw [← hz2, gI_sI_eq, w32_id (by omega)]; omega
      · rw [c2.1 _ _ (by omega), ← hz1, gI_sI_eq]
        split
        · rfl
        · exact w32_id (by omega)
      · exact (j2.ch c1 (fun a i q => by omega)).ch c2 (fun a i q => by omega)
      · rw [c2.1 _ _ (by omega), c1.1 _ _ (by omega)]; exact j3 tt ht
    by_cases g : y.1 = x.1
    · rw [if_neg (show ¬ ¬ x.1 = y.1 from fun q => q g.symm), bX_some, if_neg (by decide), bX_some]
      refine (fin ChW.refl).mono (fun z hz => ?_)
      obtain ⟨z1, z2, z3, z4, z5, z5a, z5b, z6⟩ := hz
      refine ⟨z1, z2, ?_⟩
      have eo : apD u n c p (kk, y.1 :: x.1 :: l.map (fun v => v.1)) = .inl (kk ++ [(cdD c, 0, 0)], (if c = 257 then 1 else x.1) :: l.map (fun v => v.1)) := by
        show (if x.1 = y.1 then _ else _) = _
        rw [if_pos g.symm]
      show oPA _ _ _ _ (apD u n c p (kk, y.1 :: x.1 :: l.map (fun v => v.1))) z
      rw [eo]
      have ej : joP fa c A x.1.toNat (fun i => gI S 2022 (8 * l.length + i)) (fun i => gI S 2022 (8 * (l.length + 1) + i)) = joP fa c A x.1.toNat x.2 y.2 := joP_cg (fun i hi => ⟨r6 i (by omega), r3 i (by omega)⟩)
      rw [ej] at z5a z5b
      have exn : exL fa (EnvM S0 sl ms cur) (rr ++ [(cdD c, 0, 0)]) (A0, []) = ((joP fa c A x.1.toNat x.2 y.2).1, ((if c = 257 then 1 else x.1), (joP fa c A x.1.toNat x.2 y.2).2) :: l) := by
        rw [exL_app, hex]
        show exR fa _ (cdD c, 0, 0) (A, y :: x :: l) = _
        unfold exR
        dsimp only
        rw [if_neg d2, if_neg d3, if_neg d4, if_neg d5, if_neg d6, if_neg d7, d1]
      refine ⟨qw.cg z3, ?_, rr ++ [(cdD c, 0, 0)], ?_, ?_, ?_, ?_, ?_⟩
      · show gI z 2000 34 = ((List.length ((if c = 257 then 1 else x.1) :: l.map (fun v => v.1)) : Nat) : Int)
        rw [List.length_cons, List.length_map]; exact z4
      · show kk ++ _ = k0 ++ (rr ++ _)
        rw [e0, List.append_assoc]
      · rw [exn]; exact z5a
      · rw [exn]
        refine ⟨z5, ?_, fun i hi => ?_, ?_⟩
        · show 1 ≤ (if c = 257 then 1 else x.1) ∧ (if c = 257 then 1 else x.1) ≤ 8
          split <;> omega
        · have hi : (i : Int) < (if c = 257 then 1 else x.1) := hi
          exact z5b i (by split at hi <;> omega)
        · exact StkM.cg r7 (fun i hi => z6.1 _ _ (fun q => by unfold PJn PNd at q; omega)) (fun i hi => z6.1 _ _ (fun q => by unfold PJn PNd at q; omega))
      · rw [exn]; rfl
      · exact ⟨rc.ch z6 (fun a i q => by unfold PJn PNd at q; omega), ⟨(z6.1 _ _ (fun q => by unfold PJn PNd at q; omega)).trans hsl.1, hsl.2⟩, fun i => (z6.1 _ _ (fun q => by unfold PJn PNd at q; omega)).trans (e27 i), fun i => (z6.1 _ _ (fun q => by unfold PJn PNd at q; omega)).trans (e28 i)⟩
    · rw [if_pos (show ¬ x.1 = y.1 from fun q => g q.symm), bX_some, if_pos rfl]
      refine WP_bX.2 (WP_call (m_flawBefore tw qw hp (c := 13) (by omega)) (fun s hs => WP_some.2 ((fin hs.2).mono (fun z hz => ?_))))
      obtain ⟨z1, z2, z3, z4, z5, z6⟩ := hz
      refine ⟨z1, z2, ?_⟩
      have eo : apD u n c p (kk, y.1 :: x.1 :: l.map (fun v => v.1)) = .inr (13, (tkB u n p : Int)) := by
        show (if x.1 = y.1 then _ else _) = _
        rw [if_neg (fun q => g q.symm)]
      show oPA _ _ _ _ (apD u n c p (kk, y.1 :: x.1 :: l.map (fun v => v.1))) z
      rw [eo]
      exact MsQ.cg hs.1 z3
end MM1
