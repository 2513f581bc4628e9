/-! the class reads a design: modules -/
def PRk (b i : Nat) : Prop := b < 3 ∨ 171 < b ∨ (17 ≤ b ∧ b ≤ 167 ∧ b % 10 = 7 ∧ i = 2)
/-- what reading may change -/
def ChRd (S z : Sto) : Prop := (∀ b i, PRk b i → gI z b i = gI S b i) ∧ (∀ b i, gL z b i = gL S b i) ∧ (∀ b i, (b < 3 ∨ 171 < b) → gR z b i = gR S b i) ∧ Gz S z
/-- between modules -/
def CtF (u : Nat → Int) (n N : Nat) (fs : List Fin0) (S0 S : Sto) : Prop := (TpK S 4 u n ∧ LstT u n N ∧ fs.length ≤ 16) ∧
  (∀ i, i < fs.length → (MdK u n S (9 + 10 * i) (fs.getD i (0, 0, [], [])).2.2.1 ∧ MdOk i (fs.getD i (0, 0, [], [])).2.2.1) ∧ MdX S (9 + 10 * i) (fs.getD i (0, 0, [], [])).2.2.1 (fs.getD i (0, 0, [], [])).2.2.2 ((totS [] (fMs fs)).getD i (0, 0)).1 ((totS [] (fMs fs)).getD i (0, 0)).2) ∧
  (NmK u n S 5 (fMt fs) ∧ Dst u n (fMt fs)) ∧ gI S 3 4 = (fs.length : Int) ∧ (nC S0 ≤ 800000 ∧ nS S0 ≤ 5000000 ∧ okCap (gI S0 170 2)) ∧ Gz S0 S ∧ ∀ i, i < 16 → okCap (gI S (17 + 10 * i) 2)
section KMO
variable {S S0 x z y : Sto} {u : Nat → Int} {n N M : Nat} {fs : List Fin0} {ms : List Mdl} {cur m sub : Mdl} {gv mt : List Nat} {its its' : List Itm} {k k' : List Row3} {j b jn kl si own : Nat} {s w v fr : Int} {q : Qq}
theorem ChRd.refl : ChRd S S := ⟨fun _ _ _ => rfl, fun _ _ => rfl, fun _ _ _ => rfl, Gz.refl⟩
theorem ChRd.tr (h : ChRd S z) (g : ChRd z y) : ChRd S y := ⟨fun b i q => (g.1 b i q).trans (h.1 b i q), fun b i => (g.2.1 b i).trans (h.2.1 b i), fun b i q => (g.2.2.1 b i q).trans (h.2.2.1 b i q), h.2.2.2.tr g.2.2.2⟩
theorem ChIt.r {t : Nat} (ht : t ≤ 15) (eM : M = 9 + 10 * t) (g : ChIt M S z) : ChRd S z := ⟨fun b i q => g.1 b i (by unfold PRk at q; omega) (by unfold PRk at q; omega) (fun w => by unfold PRk at q; unfold PDx at w; omega) (fun w => by unfold PRk at q; omega), g.2.1, fun b i q => g.2.2.1 b i (by omega), g.2.2.2⟩
theorem ChXd.r (g : ChXd S z) : ChRd S z := (g.i (M := 9 + 10 * 0)).r (by omega) rfl
theorem ChW.r {P : Nat → Nat → Prop} (g : ChW P S z) (e : ∀ a i, P a i → 3 ≤ a ∧ a ≤ 169 ∧ ¬ (17 ≤ a ∧ a ≤ 167 ∧ a % 10 = 7 ∧ i = 2)) : ChRd S z := ⟨fun b i q => g.1 b i (fun w => by
  have := e _ _ w
  unfold PRk at q
  omega), g.2.1, fun b i _ => g.2.2.1 b i, g.gz (fun w => by have := e _ _ w; omega)⟩
theorem NmOk.mono {a b : Nat} {x : Nam} (h : NmOk a x) (g : a ≤ b) : NmOk b x := ⟨h.1, h.2.1, fun q => by have := h.2.2 q; omega⟩
theorem MdOk.mono {a b : Nat} (h : MdOk a m) (g : a ≤ b) : MdOk b m := ⟨h.1, fun i hi => (h.2 i hi).mono g⟩
theorem ok26 : ∀ {i : Nat}, i < 16 → 17 + 10 * i = 9 + 10 * i + 8 := fun {i} _ => by omega
/-- a module begins -/
theorem CtF.start (h : CtF u n N fs S0 S) (hb : fs.length ≤ 15) (gR5 : gR z 3 5 = 9 + 10 * fs.length) (e : ∀ a i, a ≠ 3 → ¬ ((a = 6 ∨ a = 7) ∧ True) → ¬ (a = 9 + 10 * fs.length ∧ 6 ≤ i ∧ i ≤ 10) → ¬ (a = 9 + 10 * fs.length + 1 ∧ i = 2) → ¬ (a = 9 + 10 * fs.length + 8 ∧ i = 1) → gI z a i = gI S a i) (e34 : gI z 3 4 = gI S 3 4) (e5 : NmK u n z 5 (fMt fs)) (er : gR z 4 0 = gR S 4 0) (g : Gz S z)
    (z1 : ∀ i, 6 ≤ i → i ≤ 10 → gI z (9 + 10 * fs.length) i = 0) (z2 : gI z (9 + 10 * fs.length + 1) 2 = 0) (z3 : gI z (9 + 10 * fs.length + 8) 1 = 0) : CtI u n N fs [] [] [] S0 z := by
  obtain ⟨⟨h1, h2, h3⟩, h4, h5, h6, h7, h8, h9⟩ := h
  have hc : okCap (gI z (9 + 10 * fs.length + 8) 2) := by
    rw [e _ _ (by omega) (by omega) (by omega) (by omega) (by omega), ← ok26 (by omega)]
    exact h9 _ (by omega)
  have hcr := hc.rng
  refine ⟨⟨h1.cg er (e _ _ (by omega) (by omega) (by omega) (by omega) (by omega)) (fun i => e _ _ (by omega) (by omega) (by omega) (by omega) (by omega)), h2, ⟨by rw [fMs_len]; exact gR5, by rw [fMs_len]; exact hb⟩, ?_, fun i hi => ?_, h7, h8.tr g⟩, ⟨⟨⟨z3, fun i hi => absurd hi (by show ¬ i < 0; omega), hc, by show ((0 : Nat) : Int) ≤ _; omega⟩, z1 _ (by omega) (by omega), z1 _ (by omega) (by omega), z1 _ (by omega) (by omega), ?_, ?_⟩, fun i hi => absurd hi (by show ¬ i < 0; omega), fun i hi => absurd hi (by show ¬ i < 0; omega), ⟨by show 0 ≤ _; omega, fun g hg => by cases hg⟩⟩, fun i hi => ?_, ⟨e5, h5.2⟩, e34.trans h6⟩
  · rw [fMs_len]
    refine ⟨⟨⟨z2, fun i hi => absurd hi (by show ¬ i < 0; omega), fun i hi => absurd hi (by show ¬ i < 0; omega)⟩, fun i hi => absurd hi (by show ¬ i < 0; omega), fun a b ha => absurd ha (by show ¬ a < 0; omega)⟩, by show 0 ≤ 40; omega, fun i hi => absurd hi (by show ¬ i < 0; omega)⟩
  · rw [fMs_len] at hi
    rw [fMs_d hi, fMs_len]
    exact ⟨(h4 i hi).1.1.cg (fun a x q1 q2 => e _ _ (by omega) (by omega) (by omega) (by omega) (by omega)), (h4 i hi).1.2.mono (by omega)⟩
  · rw [z1 _ (by omega) (by omega)]
    exact Or.inl ⟨rfl, Int.le_refl _, by show (0 : Int) ≤ 1000; omega⟩
  · rw [z1 _ (by omega) (by omega)]
    exact Or.inl ⟨rfl, Int.le_refl _, by show (0 : Int) ≤ 1000; omega⟩
  · exact (h4 i hi).2.cg (fun a x q1 q2 => e _ _ (by omega) (by omega) (by omega) (by omega) (by omega))
theorem getD_appF {x d : Fin0} {i : Nat} : (fs ++ [x]).getD i d = if i < fs.length then fs.getD i d else if i = fs.length then x else d := by
  rw [List.getD_eq_getElem?_getD, List.getD_eq_getElem?_getD]
  by_cases g : i < fs.length
  · rw [List.getElem?_append_left g, if_pos g]
  · rw [List.getElem?_append_right (by omega), if_neg g]
    by_cases e : i = fs.length
    · rw [if_pos e, e, Nat.sub_self]; rfl
    · rw [if_neg e, List.getElem?_eq_none (by show 1 ≤ _; omega)]; rfl
theorem getD_appT {T : List (Int × Int)} {x d : Int × Int} {i : Nat} : (T ++ [x]).getD i d = if i < T.length then T.getD i d else if i = T.length then x else d := by
  rw [List.getD_eq_getElem?_getD, List.getD_eq_getElem?_getD]
  by_cases g : i < T.length
  · rw [List.getElem?_append_left g, if_pos g]
  · rw [List.getElem?_append_right (by omega), if_neg g]
    by_cases e : i = T.length
    · rw [if_pos e, e, Nat.sub_self]; rfl
    · rw [if_neg e, List.getElem?_eq_none (by show 1 ≤ _; omega)]; rfl
theorem fMs_app {x : Fin0} : fMs (fs ++ [x]) = fMs fs ++ [x.2.2.1] := by unfold fMs; rw [List.map_append]; rfl
theorem fMt_app {x : Fin0} : fMt (fs ++ [x]) = fMt fs ++ [x.1] := by unfold fMt; rw [List.map_append]; rfl
/-- a module ends -/
theorem CtF.fin {bt : Nat} (hF : ∀ i, i < fs.length → MdOk i (fs.getD i (0, 0, [], [])).2.2.1) (h : CtI u n N fs cur gv its S0 y) (hc16 : ∀ i, i < 16 → okCap (gI y (17 + 10 * i) 2)) (hE : NmE u n y 5 fs.length jn) (hk : tkK u n jn = 1) (hin : inNm u n (fMt fs) jn = false) (e : ∀ a i, ¬ (a = 5 ∧ i = 2) → ¬ (a = 3 ∧ i = 4) → ¬ PSc 4 a i → gI z a i = gI y a i) (er : gR z 4 0 = gR y 4 0) (g : Gz y z) (e5 : gI z 5 2 = (fs.length : Int) + 1) (e3 : gI z 3 4 = (fs.length : Int) + 1) : CtF u n N (fs ++ [(jn, bt, cur, its)]) S0 z := by
  have hfs := h.b
  obtain ⟨⟨h1, h2, h3, h4, h5, h6, h7⟩, ⟨g1, g2, g3, g4⟩, o1, o2, o3⟩ := h
  have pS : ∀ a i, PSc 4 a i → a = 4 ∧ 2 ≤ i ∧ i ≤ 9 := fun _ _ w => w
  have e' : ∀ a i, ¬ (a = 5 ∧ i = 2) → ¬ (a = 3 ∧ i = 4) → a ≠ 4 → gI z a i = gI y a i := fun a i q1 q2 q3 => e a i q1 q2 (fun w => q3 (pS _ _ w).1)
  have hl : (fs ++ [(jn, bt, cur, its)]).length = fs.length + 1 := by rw [List.length_append]; rfl
  have eT : totS [] (fMs (fs ++ [(jn, bt, cur, its)])) = totS [] (fMs fs) ++ [(rgT (totS [] (fMs fs)) cur, inT (totS [] (fMs fs)) cur)] := by rw [fMs_app, totS_app]
  have lT : (totS [] (fMs fs)).length = fs.length := by rw [totS_len, fMs_len]; show 0 + _ = _; omega
  refine ⟨⟨h1.cg er (e _ _ (by omega) (by omega) (fun w => by have := pS _ _ w; omega)) (fun i => e' _ _ (by omega) (by omega) (by omega)), h2, by omega⟩, fun i hi => ?_, ⟨?_, ?_⟩, by rw [e3, hl]; omega, h6, h7.tr g, fun i hi => by rw [e' _ _ (by omega) (by omega) (by omega)]; exact hc16 i hi⟩
  · rw [hl] at hi
    rw [getD_appF, eT, getD_appT, lT]
    by_cases q : i < fs.length
    · rw [if_pos q, if_pos q]
      have := h5 i (by rw [fMs_len]; exact q)
      rw [fMs_d q] at this
      refine ⟨⟨this.1.cg (fun a x q1 q2 => e' _ _ (by omega) (by omega) (by omega)), hF i q⟩, (o1 i q).cg (fun a x q1 q2 => e' _ _ (by omega) (by omega) (by omega))⟩
    · have q2 : i = fs.length := by omega
      subst q2
      rw [if_neg q, if_pos rfl, if_neg q, if_pos rfl]
      refine ⟨⟨?_, ?_⟩, g1.cg (fun a x q1 q2 => e' _ _ (by omega) (by omega) (by omega))⟩
      · have := h4.1
        rw [fMs_len] at this
        exact this.cg (fun a x q1 q2 => e' _ _ (by omega) (by omega) (by omega))
      · have := h4.2
        rw [fMs_len] at this
        exact this
  · rw [fMt_app]
    refine o2.1.put hk (fun i hi => (o2.1.e i hi).cg (e' _ _ (by omega) (by omega) (by omega)) (fun t => e' _ _ (by omega) (by omega) (by omega))) ?_ ?_
    · rw [fMt_len]
      exact hE.cg (e' _ _ (by omega) (by omega) (by omega)) (fun t => e' _ _ (by omega) (by omega) (by omega))
    · rw [e5, fMt_len]; omega
  · rw [fMt_app]; exact o2.2.add hin
def kMb (y12 : Sto) : Option Sto := wf y12 3 6 (gI y12 4 4) fun S14 => bX (mX4_hold S14 5 4) fun x15 => rdA 16 (gI x15 3 4) fun i16 => wfR x15 3 5 (9 + 10 * i16) fun S17 => gk (gR S17 3 5) 7 fun g18 => bX (mX7_clear S17 g18) fun x19 => bX (mX3_next x19 4) fun x20 => bX (mX3_take x20 4 123) fun x21 => bX (lpF (mX2_module_L181) x21) fun y26 => bX (mX3_next y26 4) fun x27 => wf x27 5 2 ((gI x27 5 2) + 1) fun S28 => wf S28 3 4 ((gI S28 3 4) + 1) fun S29 => some S29
theorem module_eq2 : mX2_module S = bX (mX3_isWord S 4 1) fun x1 => bX (mX3_must S 4 x1) fun x2 => bX (mX3_next x2 4) fun x3 => kChk 4 (fun x5 => bX (mX4_find x5 5 4) fun x7 => if ¬ w32 x7 = (-1) then some true else some false) (fun y9 => if w32 (gI y9 3 4) = 16 then some true else some false) x3 (fun y12 => bX (mX3_ok y12 4) fun x13 => if w32 x13 = 0 then some y12 else kMb y12) := rfl
/-- what a module leaves -/
def MOut (u : Nat → Int) (n N : Nat) (fs : List Fin0) (S0 : Sto) (res : (Nat × List Row3 × Fin0) ⊕ (Int × Int)) (y : Sto) : Prop := match res with
  | .inl r => CtF u n N (fs ++ [r.2.2]) S0 y ∧ ScQ u n y 4 (.inl r.1) ∧ RwK y 170 (flat3 r.2.1) ∧ gI y 4 10 = 0 ∧ r.1 ≤ N ∧ r.2.1.length ≤ r.1 ∧ gI y 3 6 = (tkB u n r.2.2.1 : Int)
  | .inr f => ScQ u n y 4 (.inr f) ∧ okCap (gI y 170 2)
theorem ChRd.c16 (g : ChRd S z) (h : ∀ i, i < 16 → okCap (gI S (17 + 10 * i) 2)) : ∀ i, i < 16 → okCap (gI z (17 + 10 * i) 2) := fun i hi => by
  rw [g.1 _ _ (Or.inr (Or.inr ⟨by omega, by omega, by omega, rfl⟩))]; exact h i hi
/-- the body of a module -/
theorem k_body (hN : N ≤ 1500) (h : CtF u n N fs S0 S) (hb : fs.length ≤ 15) (hq : ScQ u n S 4 (.inl jn)) (hk1 : tkK u n jn = 1) (hjn : jn < N) (hin : inNm u n (fMt fs) jn = false) (hR : RwK S 170 (flat3 k)) (hl : k.length ≤ jn) (h10 : gI S 4 10 = 0) :
    WP (kMb S) (fun y => ChRd S y ∧ ∃ res, ((∃ f, tkT u n 123 (nxT u n jn) = .inr f ∧ res = .inr f) ∨ ∃ b, tkT u n 123 (nxT u n jn) = .inl b ∧ ∃ m a, Chs (IStp u n (fMt fs) (fMs fs)) m (b, k, [], [], []) a ∧
      ((isS u n 125 a.1 = true ∧ res = oB (nxT u n a.1) (fun e => .inl (e, a.2.1, (jn, b, a.2.2.1, a.2.2.2.2)))) ∨
       (isS u n 125 a.1 = false ∧ ∃ f, ItR u n (fMt fs) (fMs fs) a.2.2.1 a.2.2.2.1 a.1 a.2.1 (.inr f) ∧ res = .inr f))) ∧ MOut u n N fs S0 res y) := by
  have h0 := h
  obtain ⟨⟨h1, h2, h3⟩, h4, h5, h6, h7, h8, h9⟩ := h
  have hbn := h1.b
  have h44 : gI S 4 4 = (tkB u n jn : Nat) := hq.2.2.1
  have hBj := tkB_le (u := u) (n := n) jn
  unfold kMb
  rw [wf_eq, h44]
  generalize hA : sI S 3 6 ((tkB u n jn : Nat) : Int) = A
  have cA : ChW (fun a i => a = 3 ∧ i = 6) S A := by rw [← hA]; exact ChW.refl.sI ⟨rfl, rfl⟩
  have A36 : gI A 3 6 = (tkB u n jn : Int) := by rw [← hA, gI_sI_eq, w32_id (by omega)]
  have tA : TpK A 4 u n := h1.ch cA (fun w => by omega) (fun i w => by omega)
  have qA : ScQ u n A 4 (.inl jn) := hq.ch cA (fun i q1 q2 w => by omega)
  have nA : NmK u n A 5 (fMt fs) := h5.1.ch cA (fun w => by omega) (fun i w => by omega) (fun i w => by omega)
  refine WP_call (k_holdN tA qA hk1 nA (N := 17) (by rw [fMt_len]; omega) (by omega) (by decide) (by decide) (by omega)) (fun B hB => ?_)
  obtain ⟨B1, B2, B3⟩ := hB
  have pB : ∀ a i, PNm 5 a i → a = 6 ∨ a = 7 := fun a i w => by unfold PNm at w; omega
  have B34 : gI B 3 4 = (fs.length : Int) := by rw [B3.1 _ _ (fun w => by have := pB _ _ w; omega), cA.1 _ _ (fun w => by omega)]; exact h6
  have B36 : gI B 3 6 = (tkB u n jn : Int) := by rw [B3.1 _ _ (fun w => by have := pB _ _ w; omega)]; exact A36
  have eR : ∀ {τ : Type} {f : Nat → Option τ}, rdA 16 (gI B 3 4) f = f fs.length := fun {τ f} => by
    unfold rdA ixn
    rw [B34, w32_id (by omega), if_pos (by omega), Int.toNat_natCast]
  rw [eR, wfR_eq]
  generalize hC : sR B 3 5 (9 + 10 * fs.length) = C
  have cCI : ∀ a i, gI C a i = gI B a i := fun a i => by rw [← hC]; rfl
  have cCR : gR C 3 5 = 9 + 10 * fs.length := by rw [← hC, gR_sR, if_pos ⟨rfl, rfl⟩]
  have cCR2 : ∀ a i, ¬ (a = 3 ∧ i = 5) → gR C a i = gR B a i := fun a i q => by rw [← hC, gR_sR, if_neg q]
  rw [cCR, gk_M hb]
  unfold mX7_clear
  simp only [wf_eq]
  rw [bX_some]
  generalize hD : sI (sI (sI (sI (sI (sI (sI C (9 + 10 * fs.length + 1) 2 0) (9 + 10 * fs.length + 8) 1 0) (9 + 10 * fs.length) 6 0) (9 + 10 * fs.length) 7 0) (9 + 10 * fs.length) 8 0) (9 + 10 * fs.length) 9 0) (9 + 10 * fs.length) 10 0 = D
  have cD : ChW (fun a i => (a = 9 + 10 * fs.length ∧ 6 ≤ i ∧ i ≤ 10) ∨ (a = 9 + 10 * fs.length + 1 ∧ i = 2) ∨ (a = 9 + 10 * fs.length + 8 ∧ i = 1)) C D := by
    rw [← hD]
    refine ((((((ChW.refl.sI ?_).sI ?_).sI ?_).sI ?_).sI ?_).sI ?_).sI ?_ <;> omega
  have D0 : ∀ i, 6 ≤ i → i ≤ 10 → gI D (9 + 10 * fs.length) i = 0 := fun i q1 q2 => by
    rw [← hD]
    have q : i = 6 ∨ i = 7 ∨ i = 8 ∨ i = 9 ∨ i = 10 := by omega
    rcases q with q | q | q | q | q <;> subst q <;> simp (disch := omega) only [gI_sIn, gI_sIe] <;> rfl
  have D1 : gI D (9 + 10 * fs.length + 1) 2 = 0 := by rw [← hD]; simp (disch := omega) only [gI_sIn, gI_sIe]; rfl
  have D8 : gI D (9 + 10 * fs.length + 8) 1 = 0 := by rw [← hD]; simp (disch := omega) only [gI_sIn, gI_sIe]; rfl
  have eD : ∀ a i, ¬ (a = 3 ∧ i = 6) → ¬ (a = 6 ∨ a = 7) → ¬ (a = 9 + 10 * fs.length ∧ 6 ≤ i ∧ i ≤ 10) → ¬ (a = 9 + 10 * fs.length + 1 ∧ i = 2) → ¬ (a = 9 + 10 * fs.length + 8 ∧ i = 1) → gI D a i = gI S a i := fun a i q1 q2 q3 q4 q5 => by
    rw [cD.1 _ _ (by omega), cCI, B3.1 _ _ (fun w => q2 (pB _ _ w)), cA.1 _ _ q1]
  have hgz : Gz S D := ⟨by rw [cD.2.2.2.1, ← hC]; show nC S ≤ nC B; rw [B3.2.2.2.1, cA.2.2.2.1]; exact Nat.le_refl _, by
    have : nC D = nC S := by rw [cD.2.2.2.1, ← hC]; show nC B = nC S; rw [B3.2.2.2.1, cA.2.2.2.1]
    rw [this, Nat.sub_self, eD _ _ (by omega) (by omega) (by omega) (by omega) (by omega)]; show _ = _ * 1; omega, by
    have : nS D = nS S := by rw [cD.2.2.2.2, ← hC]; show nS B = nS S; rw [B3.2.2.2.2, cA.2.2.2.2]
    rw [this, eD _ _ (by omega) (by omega) (by omega) (by omega) (by omega)]; omega⟩
  have rD : ∀ a i, ¬ (a = 3 ∧ i = 5) → gR D a i = gR S a i := fun a i q => by rw [cD.2.2.1, cCR2 _ _ q, B3.2.2.1, cA.2.2.1]
  have nB : NmK u n D 5 (fMt fs) := by
    refine ⟨?_, fun i hi => ?_, h5.1.k⟩
    · rw [eD _ _ (by omega) (by omega) (by omega) (by omega) (by omega)]; exact h5.1.c
    · exact (B1 i hi).cg (by rw [cD.1 _ _ (by omega), cCI]) (fun t => by rw [cD.1 _ _ (by omega), cCI])
  have hE : NmE u n D 5 fs.length jn := by
    rw [fMt_len] at B2
    exact B2.cg (by rw [cD.1 _ _ (by omega), cCI]) (fun t => by rw [cD.1 _ _ (by omega), cCI])
  have ct : CtI u n N fs [] [] [] S0 D := h0.start hb (by rw [cD.2.2.1]; exact cCR) (fun a i q1 q2 q3 q4 q5 => eD a i (by omega) (fun w => q2 ⟨w, trivial⟩) q3 q4 q5) (eD _ _ (by omega) (by omega) (by omega) (by omega) (by omega)) nB (rD _ _ (by omega)) hgz D0 D1 D8
  have qD : ScQ u n D 4 (.inl jn) := hq.cg (fun i _ _ => eD _ _ (by omega) (by omega) (by omega) (by omega) (by omega))
  have kD : RwK D 170 (flat3 k) := hR.x (eD _ _ (by omega) (by omega) (by omega) (by omega) (by omega)) (eD _ _ (by omega) (by omega) (by omega) (by omega) (by omega)) (fun i => eD _ _ (by omega) (by omega) (by omega) (by omega) (by omega))
  have D36 : gI D 3 6 = (tkB u n jn : Int) := by rw [cD.1 _ _ (by omega), cCI]; exact B36
  have D10 : gI D 4 10 = 0 := by rw [eD _ _ (by omega) (by omega) (by omega) (by omega) (by omega)]; exact h10
  have rSD : ChRd S D := by
    refine ⟨fun b i q => eD _ _ (by unfold PRk at q; omega) (by unfold PRk at q; omega) (by unfold PRk at q; omega) (by unfold PRk at q; omega) (by unfold PRk at q; omega), fun b i => ?_, fun b i q => rD _ _ (by omega), hgz⟩
    rw [cD.2.1, ← hC]; show gL B b i = _; rw [B3.2.1, cA.2.1]
  refine WP_call (k_next3 ct.d.t qD) (fun x20 h20 => ?_)
  refine WP_call (k_take3 (ct.d.t.chS h20.2) h20.1 (by decide)) (fun x21 h21 => ?_)
  have s21 : ScQ u n x21 4 (tkT u n 123 (nxT u n jn)) := h21.1
  have x21x : ChXd D x21 := (ChXd.refl.p h20.2).p h21.2
  have c21 := ct.x x21x
  have k21 := (kD.p h20.2).p h21.2
  have h1021 : gI x21 4 10 = 0 := by rw [opnP h21.2, opnP h20.2]; exact D10
  have r21 : ChRd S x21 := rSD.tr x21x.r
  -- behind the items
  have tail : ∀ {v : Sto} {f : Int × Int}, ScQ u n v 4 (.inr f) → ChRd S v → TpK v 4 u n → okCap (gI v 170 2) → 0 ≤ gI v 5 2 → WP (bX (mX3_next v 4) fun x27 => wf x27 5 2 ((gI x27 5 2) + 1) fun S28 => wf S28 3 4 ((gI S28 3 4) + 1) fun S29 => some S29) (fun y => ChRd S y ∧ ScQ u n y 4 (.inr f) ∧ okCap (gI y 170 2)) := fun {v f} v1 v2 v3 v4 v5 => by
    refine WP_call (k_next3 v3 v1) (fun x hx => ?_)
    rw [wf_eq, wf_eq]
    generalize hG : sI (sI x 5 2 (gI x 5 2 + 1)) 3 4 (gI (sI x 5 2 (gI x 5 2 + 1)) 3 4 + 1) = G
    have cG : ChW (fun a i => (a = 5 ∧ i = 2) ∨ (a = 3 ∧ i = 4)) x G := by rw [← hG]; exact (ChW.refl.sI (Or.inl ⟨rfl, rfl⟩)).sI (Or.inr ⟨rfl, rfl⟩)
    refine WP_some.2 ⟨(v2.tr (ChXd.r (ChXd.refl.p hx.2))).tr (cG.r (fun a i w => by omega)), hx.1.ch cG (fun i q1 q2 w => by omega), ?_⟩
    rw [cG.1 _ _ (by omega), hx.2.1 _ _ (fun w => by unfold PSc at w; omega)]; exact v4
  cases hT : tkT u n 123 (nxT u n jn) with
  | inr f =>
    rw [hT] at s21
    have loop : lpF mX2_module_L181 x21 = some x21 := by
      refine WP.of (WP_lpF (fun s => s = x21) (fun _ => 0) rfl (by decide) (fun s hs => ?_))
      subst hs
      unfold mX2_module_L181
      rw [k_ok s21, bX_some, bIf, okQ_f, if_neg (by decide), bX_some, if_neg (by decide)]
      exact WP_some.2 rfl
    rw [loop, bX_some]
    refine (tail s21 r21 c21.d.t k21.2.2.1 (by rw [c21.2.2.2.1.1.c]; omega)).mono (fun y hy => ⟨hy.1, .inr f, Or.inl ⟨f, rfl, rfl⟩, hy.2⟩)
  | inl b =>
    rw [hT] at s21
    obtain ⟨a, q1, q2, q3⟩ := tkT_inq hT
    obtain ⟨n1, n2⟩ := nxT_ok q1
    subst n1
    have lt := lt3 h2 (isS_K q2) (by omega)
    refine WP_call (k_items hN (a0 := (b, k, [], [], [])) ⟨c21, s21, k21, h1021, by show b ≤ N; omega, by show k.length ≤ b; omega⟩) (fun y hy => ?_)
    obtain ⟨y1, m, a, y2, y3⟩ := hy
    have ry : ChRd S y := r21.tr (y1.r hb rfl)
    rcases y3 with ⟨y3, y4⟩ | ⟨y3, f, y4, y5, y6⟩
    · obtain ⟨c1, c2, c3, c4, c5, c6⟩ := y4
      have la := lt3 h2 (isS_K y3) c5
      have y52 : gI y 5 2 = (fs.length : Int) := by have := c1.2.2.2.1.1.c; rw [fMt_len] at this; exact this
      have y34 : gI y 3 4 = (fs.length : Int) := c1.2.2.2.2
      cases hA2 : nxT u n a.1 with
      | inr f =>
        refine WP_call (k_next3 c1.d.t c2) (fun x hx => ?_)
        have x1 : ScQ u n x 4 (nxT u n a.1) := hx.1
        rw [hA2] at x1
        generalize hG : sI (sI x 5 2 (gI x 5 2 + 1)) 3 4 (gI (sI x 5 2 (gI x 5 2 + 1)) 3 4 + 1) = G
        have cG : ChW (fun a i => (a = 5 ∧ i = 2) ∨ (a = 3 ∧ i = 4)) x G := by rw [← hG]; exact (ChW.refl.sI (Or.inl ⟨rfl, rfl⟩)).sI (Or.inr ⟨rfl, rfl⟩)
        refine WP_some.2 ⟨(ry.tr (ChXd.r (ChXd.refl.p hx.2))).tr (cG.r (fun a i w => by omega)), .inr f, Or.inr ⟨b, rfl, m, a, y2, Or.inl ⟨y3, by rw [hA2]; rfl⟩⟩, x1.ch cG (fun i q1 q2 w => by omega), ?_⟩
        rw [cG.1 _ _ (by omega)]
        exact (c3.p hx.2).2.2.1
      | inl e =>
        obtain ⟨n3, n4⟩ := nxT_ok hA2
        refine WP_call (k_next3 c1.d.t c2) (fun x hx => ?_)
        have x1 : ScQ u n x 4 (nxT u n a.1) := hx.1
        rw [hA2] at x1
        have pS : ∀ a i, PSc 4 a i → a = 4 ∧ 2 ≤ i ∧ i ≤ 9 := fun _ _ w => w
        have x52 : gI x 5 2 = (fs.length : Int) := by rw [hx.2.1 _ _ (fun w => by have := pS _ _ w; omega)]; exact y52
        have x34 : gI x 3 4 = (fs.length : Int) := by rw [hx.2.1 _ _ (fun w => by have := pS _ _ w; omega)]; exact y34
        rw [x52, hI_sI_a (show (3 : Nat) ≠ 5 by decide), x34]
        generalize hG : sI (sI x 5 2 ((fs.length : Int) + 1)) 3 4 ((fs.length : Int) + 1) = G
        have cG : ChW (fun a i => (a = 5 ∧ i = 2) ∨ (a = 3 ∧ i = 4)) x G := by rw [← hG]; exact (ChW.refl.sI (Or.inl ⟨rfl, rfl⟩)).sI (Or.inr ⟨rfl, rfl⟩)
        have G5 : gI G 5 2 = (fs.length : Int) + 1 := by rw [← hG, hI_sI_a (by decide), gI_sI_eq, w32_id (by omega)]
        have G3 : gI G 3 4 = (fs.length : Int) + 1 := by rw [← hG, gI_sI_eq, w32_id (by omega)]
        have cyG : ∀ a i, ¬ (a = 5 ∧ i = 2) → ¬ (a = 3 ∧ i = 4) → ¬ PSc 4 a i → gI G a i = gI y a i := fun a i w1 w2 w3 => (cG.1 _ _ (by omega)).trans (hx.2.1 _ _ w3)
        have hEy : NmE u n y 5 fs.length jn := (hE.cg (x21x.1 _ _ (by omega) (by omega) (fun w => by unfold PDx at w; omega)) (fun t => x21x.1 _ _ (by omega) (by omega) (fun w => by unfold PDx at w; omega))).cg (y1.1 _ _ (by omega) (by omega) (fun w => by unfold PDx at w; omega) (by omega)) (fun t => y1.1 _ _ (by omega) (by omega) (fun w => by unfold PDx at w; omega) (by omega))
        have y36 : gI y 3 6 = (tkB u n jn : Int) := by rw [y1.1 _ _ (by omega) (by omega) (fun w => by unfold PDx at w; omega) (by omega), x21x.1 _ _ (by omega) (by omega) (fun w => by unfold PDx at w; omega)]; exact D36
        have gzG : Gz y G := ((ChXd.refl.p hx.2).2.2.2).tr (cG.gz (fun w => by omega))
        refine WP_some.2 ⟨(ry.tr (ChXd.r (ChXd.refl.p hx.2))).tr (cG.r (fun a i w => by omega)), .inl (e, a.2.1, (jn, b, a.2.2.1, a.2.2.2.2)), Or.inr ⟨b, rfl, m, a, y2, Or.inl ⟨y3, by rw [hA2]; rfl⟩⟩, ?_, x1.ch cG (fun i q1 q2 w => by omega), (c3.p hx.2).i cG (fun a i w => by omega), ?_, by show e ≤ N; omega, by show a.2.1.length ≤ e; omega, ?_⟩
        · exact CtF.fin (fun i hi => (h4 i hi).1.2) c1 (ry.c16 h9) hEy hk1 hin cyG (by rw [cG.2.2.1, hx.2.2.2.1]) gzG G5 G3
        · show gI G 4 10 = 0
          rw [cG.1 _ _ (by omega), opnP hx.2]; exact c4
        · show gI G 3 6 = (tkB u n jn : Int)
          rw [cyG _ _ (by omega) (by omega) (fun w => by have := pS _ _ w; omega)]; exact y36
    · have ty : TpK y 4 u n := c21.d.t.cg (y1.2.2.1 _ _ (by omega)) (y1.1 _ _ (by omega) (by omega) (fun w => by unfold PDx at w; omega) (by omega)) (fun i => y1.1 _ _ (by omega) (by omega) (fun w => by unfold PDx at w; omega) (by omega))
      refine (tail y5 ry ty y6 ?_).mono (fun z hz => ⟨hz.1, .inr f, Or.inr ⟨b, rfl, m, a, y2, Or.inr ⟨y3, f, y4, rfl⟩⟩, hz.2⟩)
      rw [y1.1 _ _ (by omega) (by omega) (fun w => by unfold PDx at w; omega) (by omega), c21.2.2.2.1.1.c]; omega
/-- a module -/
theorem k_module (hN : N ≤ 1500) (h : CtF u n N fs S0 S) (hq : ScQ u n S 4 (.inl j)) (hj : j ≤ N) (hR : RwK S 170 (flat3 k)) (hl : k.length ≤ j) (h10 : gI S 4 10 = 0) :
    WP (mX2_module S) (fun y => ChRd S y ∧ ∃ res, MoR u n fs j k res ∧ MOut u n N fs S0 res y) := by
  have h0 := h
  obtain ⟨⟨h1, h2, h3⟩, h4, h5, h6, h7, h8, h9⟩ := h
  have hbn := h1.b
  have pS : ∀ a i, PSc 4 a i → a = 4 ∧ 2 ≤ i ∧ i ≤ 9 := fun _ _ w => w
  have pP : ∀ a i, PSc 4 a i → PSc 4 a i := fun _ _ w => w
  have pF : ∀ a i, PF89 4 a i → PSc 4 a i := fun a i w => by unfold PF89 at w; unfold PSc; omega
  have fr : ∀ {y : Sto}, ChW (PSc 4) S y → CtF u n N fs S0 y := fun {y} c => by
    have e : ∀ a i, a ≠ 4 → gI y a i = gI S a i := fun a i q => c.1 _ _ (fun w => q (pS _ _ w).1)
    refine ⟨⟨h1.chS c, h2, h3⟩, fun i hi => ⟨⟨(h4 i hi).1.1.cg (fun a x q1 q2 => e _ _ (by omega)), (h4 i hi).1.2⟩, (h4 i hi).2.cg (fun a x q1 q2 => e _ _ (by omega))⟩, ⟨h5.1.cgE (e _ _ (by omega)) (fun i => e _ _ (by omega)) (fun i => e _ _ (by omega)), h5.2⟩, (e _ _ (by omega)).trans h6, h7, h8.tr (c.gz (fun w => by have := pS _ _ w; omega)), fun i hi => by rw [e _ _ (by omega)]; exact h9 i hi⟩
  rw [module_eq2, k_isWord hq (by decide), bX_some]
  refine WP_call (k_must hq hbn) (fun y hy => ?_)
  obtain ⟨y1, y2⟩ := hy
  have cy : ChW (PSc 4) S y := ChW.refl.tr y2 pF
  refine WP_call (k_next3 (h1.chS cy) y1) (fun z hz => ?_)
  obtain ⟨z1, z2⟩ := hz
  have cz : ChW (PSc 4) S z := cy.tr z2 pP
  have z1 : ScQ u n z 4 (wT u n 1 (.inl j)) := by
    have e : bq (muT u n (isWq u n 1 (.inl j)) (.inl j)) (nxT u n) = wT u n 1 (.inl j) := by
      unfold muT bq isWq wT bq flT
      dsimp only
      by_cases g : tkK u n j = 6 ∧ tkV u n j = 1
      · rw [if_pos (decide_eq_true g), if_pos g]
      · rw [if_neg (fun q => g (of_decide_eq_true q)), if_neg g]
    rw [e] at z1; exact z1
  refine k_chkN (ps := fMt fs) (lim := 16) hbn z1 (fun v jj e1 e2 e3 e4 => ?_) (fun v e4 => ?_) (fun v e3 e4 => ?_)
  · have c := fr (cz.tr e4 pF)
    exact find_b c.1.1 e3 e2 c.2.2.1.1 (M := 17) (by rw [fMt_len]; omega) (by omega) (by decide) (by decide)
  · have c := fr (cz.tr e4 pF)
    rw [c.2.2.2.1, w32_id (by omega), fMt_len]
    by_cases e : fs.length = 16
    · rw [if_pos (by omega), decide_eq_true e]
    · rw [if_neg (by omega), decide_eq_false e]
  · have cv : ChW (PSc 4) S v := cz.tr e4 pF
    have c := fr cv
    have kv : RwK v 170 (flat3 k) := hR.p cv
    have rv : ChRd S v := ChXd.r (ChXd.refl.p cv)
    have h10v : gI v 4 10 = 0 := (opnP cv).trans h10
    rw [k_ok e3, bX_some, bIf2]
    cases hc : chT u n 16 (fMt fs) (wT u n 1 (.inl j)) with
    | inr f =>
      rw [hc] at e3
      rw [okQ_f, if_neg (by decide)]
      refine WP_some.2 ⟨rv, .inr f, Or.inl ⟨f, ?_, rfl⟩, e3, kv.2.2.1⟩
      unfold moH
      rw [chT_inr hc]; rfl
    | inl jn =>
      rw [hc] at e3
      obtain ⟨c1, c2, c3, c4⟩ := chT_inl hc
      obtain ⟨w, w1, w2, w3, _⟩ := wT_inl c1
      injection w1 with w1; subst w1
      subst w2
      rw [fMt_len] at c4
      have hlt : j < N := lt6 h2 w3 hj
      have hlt2 : j + 1 < N := lt1 h2 c2 (by omega)
      rw [show okQ (.inl (j + 1)) = true from rfl, if_pos rfl]
      have eH : moH u n (fMt fs) j = tkT u n 123 (nxT u n (j + 1)) := by
        unfold moH newT
        rw [hc]; rfl
      refine (k_body hN c (by omega) e3 c2 hlt2 c3 kv (by omega) h10v).mono (fun y hy => ?_)
      obtain ⟨y1, res, y2, y3⟩ := hy
      refine ⟨rv.tr y1, res, ?_, y3⟩
      rcases y2 with ⟨f, y2, y4⟩ | ⟨b, y2, y4⟩
      · exact Or.inl ⟨f, eH.trans y2, y4⟩
      · exact Or.inr ⟨b, eH.trans y2, y4⟩
end KMO
