/-! the class reads items: what stands while a module is read -/
def ChIt (M : Nat) (S z : Sto) : Prop := (∀ b i, b ≠ 171 → ¬ (b = 170 ∧ (i = 1 ∨ i = 2)) → ¬ PDx b i → ¬ (M ≤ b ∧ b ≤ M + 9 ∧ (b ≠ M + 8 ∨ i = 1)) → gI z b i = gI S b i) ∧ (∀ b i, gL z b i = gL S b i) ∧ (∀ b i, ¬ (b = 170 ∧ i = 0) → gR z b i = gR S b i) ∧ Gz S z
def gvC (gv : List Nat) (i : Nat) : Nat := if gv.contains i = true then 1 else 0
def ItN (cur : Mdl) (gv : List Nat) (its : List Itm) : Prop := its.length ≤ cur.length + smN (gvC gv) cur.length ∧ (∀ g, gv.contains g = true → g < cur.length)
def CtI (u : Nat → Int) (n N : Nat) (fs : List Fin0) (cur : Mdl) (gv : List Nat) (its : List Itm) (S0 S : Sto) : Prop :=
  CtD u n N (fMs fs) cur S0 S ∧ (MdX S (9 + 10 * fs.length) cur its (rgT (totS [] (fMs fs)) cur) (inT (totS [] (fMs fs)) cur) ∧ GvF S (9 + 10 * fs.length) cur gv ∧ WdOk cur ∧ ItN cur gv its) ∧
  (∀ i, i < fs.length → MdX S (9 + 10 * i) (fs.getD i (0, 0, [], [])).2.2.1 (fs.getD i (0, 0, [], [])).2.2.2 ((totS [] (fMs fs)).getD i (0, 0)).1 ((totS [] (fMs fs)).getD i (0, 0)).2) ∧
  (NmK u n S 5 (fMt fs) ∧ Dst u n (fMt fs)) ∧ gI S 3 4 = (fs.length : Int)
theorem fMs_len {fs : List Fin0} : (fMs fs).length = fs.length := List.length_map _
theorem fMt_len {fs : List Fin0} : (fMt fs).length = fs.length := List.length_map _
theorem fMs_d {fs : List Fin0} {i : Nat} (h : i < fs.length) : (fMs fs).getD i [] = (fs.getD i (0, 0, [], [])).2.2.1 := by
  unfold fMs
  rw [List.getD_eq_getElem?_getD, List.getD_eq_getElem?_getD, List.getElem?_map, List.getElem?_eq_getElem h]; rfl
theorem fMt_d {fs : List Fin0} {i : Nat} (h : i < fs.length) : (fMt fs).getD i 0 = (fs.getD i (0, 0, [], [])).1 := by
  unfold fMt
  rw [List.getD_eq_getElem?_getD, List.getD_eq_getElem?_getD, List.getElem?_map, List.getElem?_eq_getElem h]; rfl
section KTO
variable {S S0 x z y : Sto} {u : Nat → Int} {n N M : Nat} {fs : List Fin0} {ms : List Mdl} {cur m : Mdl} {gv : List Nat} {its : List Itm} {k : List Row3}
theorem ChIt.refl : ChIt M S S := ⟨fun _ _ _ _ _ _ => rfl, fun _ _ => rfl, fun _ _ _ => rfl, Gz.refl⟩
theorem ChIt.tr (h : ChIt M S z) (g : ChIt M z y) : ChIt M S y := ⟨fun b i q1 q2 q3 q4 => (g.1 b i q1 q2 q3 q4).trans (h.1 b i q1 q2 q3 q4), fun b i => (g.2.1 b i).trans (h.2.1 b i), fun b i q => (g.2.2.1 b i q).trans (h.2.2.1 b i q), h.2.2.2.tr g.2.2.2⟩
theorem ChXd.i (g : ChXd S z) : ChIt M S z := ⟨fun b i q1 q2 q3 _ => g.1 b i q1 q2 q3, g.2.1, g.2.2.1, g.2.2.2⟩
theorem ChW.i {P : Nat → Nat → Prop} (g : ChW P S z) (e : ∀ a i, P a i → PDx a i ∨ (M ≤ a ∧ a ≤ M + 9 ∧ a ≤ 169 ∧ (a ≠ M + 8 ∨ i = 1))) : ChIt M S z := ⟨fun b i q1 q2 q3 q4 => g.1 b i (fun w => by rcases e b i w with r | r; exact q3 r; exact q4 ⟨r.1, r.2.1, r.2.2.2⟩), g.2.1, fun b i _ => g.2.2.1 b i, g.gz (fun w => by rcases e _ _ w with r | r; unfold PDx at r; omega; omega)⟩
theorem PNn_i (hM : M ≤ 160) : ∀ a i, PNn M a i → PDx a i ∨ (M ≤ a ∧ a ≤ M + 9 ∧ a ≤ 169 ∧ (a ≠ M + 8 ∨ i = 1)) := fun a i w => by
  unfold PNn PSc at w
  unfold PDx
  omega
end KTO
theorem MdX.x {S z : Sto} {M : Nat} {m : Mdl} {its : List Itm} {rg ins : Int} (hM : 5 ≤ M ∧ M ≤ 160) (h : MdX S M m its rg ins) (g : ChXd S z) : MdX z M m its rg ins := h.cg (fun a i q1 q2 => g.1 _ _ (by omega) (by omega) (fun w => by unfold PDx at w; omega))
section KTO
variable {S S0 x z y : Sto} {u : Nat → Int} {n N M : Nat} {fs : List Fin0} {ms : List Mdl} {cur m : Mdl} {gv : List Nat} {its : List Itm} {k : List Row3}
end KTO
theorem MdX.n {S z : Sto} {M : Nat} {m : Mdl} {its : List Itm} {rg ins : Int} {P : Nat → Nat → Prop} (h : MdX S M m its rg ins) (g : ChW P S z) (e : ∀ a i, P a i → M ≤ a → a ≤ M + 9 → a = M + 1 ∨ a = M + 2 ∨ a = M + 3 ∨ a = M + 4 ∨ a = M + 5 ∨ a = M + 6 ∨ a = M + 7) : MdX z M m its rg ins := by
  have p : ∀ a i, M ≤ a → a ≤ M + 9 → (a = M ∨ a = M + 8 ∨ a = M + 9) → gI z a i = gI S a i := fun a i q1 q2 q3 => g.1 _ _ (fun w => by have := e _ _ w q1 q2; omega)
  obtain ⟨h1, h2, h3, h4, h5, h6⟩ := h
  refine ⟨h1.x (p _ _ (by omega) (by omega) (by omega)) (p _ _ (by omega) (by omega) (by omega)) (fun i => p _ _ (by omega) (by omega) (by omega)), ?_, ?_, ?_, ?_, ?_⟩
  · rw [p _ _ (by omega) (by omega) (by omega)]; exact h2
  · rw [p _ _ (by omega) (by omega) (by omega)]; exact h3
  · rw [p _ _ (by omega) (by omega) (by omega)]; exact h4
  · rw [p _ _ (by omega) (by omega) (by omega)]; exact h5
  · rw [p _ _ (by omega) (by omega) (by omega)]; exact h6
section KTO
variable {S S0 x z y : Sto} {u : Nat → Int} {n N M : Nat} {fs : List Fin0} {ms : List Mdl} {cur m : Mdl} {gv : List Nat} {its : List Itm} {k : List Row3}
theorem GvF.cg (h : GvF S M m gv) (e : ∀ i, gI z (M + 7) i = gI S (M + 7) i) : GvF z M m gv := fun i hi => (e i).trans (h i hi)
theorem CtI.d {S : Sto} (h : CtI u n N fs cur gv its S0 S) : CtD u n N (fMs fs) cur S0 S := h.1
theorem CtI.b (h : CtI u n N fs cur gv its S0 S) : fs.length ≤ 15 := by have := h.1.r.2; rw [fMs_len] at this; exact this
/-- other parts are kept -/
theorem CtI.oth (h : CtI u n N fs cur gv its S0 S) (g : ChIt (9 + 10 * fs.length) S z) : (∀ i, i < fs.length → MdX z (9 + 10 * i) (fs.getD i (0, 0, [], [])).2.2.1 (fs.getD i (0, 0, [], [])).2.2.2 ((totS [] (fMs fs)).getD i (0, 0)).1 ((totS [] (fMs fs)).getD i (0, 0)).2) ∧ (NmK u n z 5 (fMt fs) ∧ Dst u n (fMt fs)) ∧ gI z 3 4 = (fs.length : Int) := by
  have hb := h.b
  obtain ⟨_, _, h3, h4, h5⟩ := h
  have e : ∀ a i, a ≠ 4 → a < 9 + 10 * fs.length → gI z a i = gI S a i := fun a i q1 q2 => g.1 _ _ (by omega) (by omega) (fun w => by unfold PDx at w; omega) (by omega)
  refine ⟨fun i hi => (h3 i hi).cg (fun a x q1 q2 => e _ _ (by omega) (by omega)), ⟨h4.1.cgE (e _ _ (by omega) (by omega)) (fun i => e _ _ (by omega) (by omega)) (fun i => e _ _ (by omega) (by omega)), h4.2⟩, (e _ _ (by omega) (by omega)).trans h5⟩
end KTO
theorem CtI.x {S S0 z : Sto} {u : Nat → Int} {n N : Nat} {fs : List Fin0} {cur : Mdl} {gv : List Nat} {its : List Itm} (h : CtI u n N fs cur gv its S0 S) (g : ChXd S z) : CtI u n N fs cur gv its S0 z := by
  have hb := h.b
  have o := h.oth g.i
  obtain ⟨h1, ⟨h2, h3, h4⟩, _⟩ := h
  exact ⟨h1.ch g, ⟨h2.x (by omega) g, h3.cg (fun i => g.1 _ _ (by omega) (by omega) (fun w => by unfold PDx at w; omega)), h4⟩, o⟩
section KTO
variable {S S0 x z y : Sto} {u : Nat → Int} {n N M : Nat} {fs : List Fin0} {ms : List Mdl} {cur m : Mdl} {gv : List Nat} {its : List Itm} {k : List Row3}
end KTO
theorem CtI.n {S S0 z : Sto} {u : Nat → Int} {nn N : Nat} {fs : List Fin0} {cur : Mdl} {gv : List Nat} {its : List Itm} (h : CtI u nn N fs cur gv its S0 S) (g : ChW (PNn (9 + 10 * fs.length)) S z) (c : CtD u nn N (fMs fs) cur S0 z) : CtI u nn N fs cur gv its S0 z := by
  have hb := h.b
  have o := h.oth (g.i (PNn_i (by omega)))
  obtain ⟨h1, ⟨h2, h3, h4⟩, _⟩ := h
  exact ⟨c, ⟨h2.n g (fun a i w q1 q2 => by unfold PNn PSc at w; omega), h3.cg (fun i => g.1 _ _ (fun w => by unfold PNn PSc at w; omega)), h4⟩, o⟩
section KTO
variable {S S0 x z y : Sto} {u : Nat → Int} {n N M : Nat} {fs : List Fin0} {ms : List Mdl} {cur m : Mdl} {gv : List Nat} {its : List Itm} {k : List Row3}
theorem gvC_le {i : Nat} : gvC gv i ≤ 1 := by unfold gvC; split <;> omega
/-- a name is told: what stands then -/
theorem k_told7 {jn : Nat} {s w v : Int} (hms : ms.length ≤ 15) (eM : M = 9 + 10 * ms.length) (hd : CtD u n N ms cur S0 x) {rg ins : Int} (hX : MdX x M cur its rg ins) (hG : GvF x M cur gv) (hW : WdOk cur) (hI : ItN cur gv its) (hE : NmE u n x (M + 1) cur.length jn) (hk : tkK u n jn = 1) (hin : inNm u n (mTk cur) jn = false) (hc : cur.length < 40)
    (hN : NmOk ms.length (jn, s, w, v)) (hw : 0 ≤ w ∧ w ≤ 8) (hv : -2147483648 ≤ v ∧ v < 2147483648) :
    WP (mX7_tell x M s w v) (fun y => y.1 = (cur.length : Int) ∧ ChW (PTl M cur.length) x y.2 ∧ CtD u n N ms (cur ++ [(jn, s, w, v)]) S0 y.2 ∧ MdX y.2 M (cur ++ [(jn, s, w, v)]) its (rg + if s = 3 then w else 0) ins ∧ GvF y.2 M (cur ++ [(jn, s, w, v)]) gv ∧ WdOk (cur ++ [(jn, s, w, v)]) ∧ its.length ≤ cur.length + smN (gvC gv) (cur ++ [(jn, s, w, v)]).length ∧ (∀ g, gv.contains g = true → g < cur.length)) := by
  have hs : 0 ≤ s ∧ s ≤ 4 := hN.1
  have hl := insL_le (m := cur)
  have r0 := sumW_rng (s := 0) hW
  have r1 := sumW_rng (s := 1) hW
  have hX10 := hX.2.2.2.2.1
  have hX7 := hX.2.2.2.2.2
  have g10 := hX10.rng
  have hcb : capB cur = 1000000 + 8 * (cur.length : Int) := rfl
  have hcnt : gI x (M + 1) 2 = (cur.length : Int) := by have := hd.m.1.1.c; rw [mTk_len] at this; rw [eM]; exact this
  have hlen : ∀ X : Nam, (cur ++ [X]).length = cur.length + 1 := fun X => by rw [List.length_append]; rfl
  refine (k_tell7 (M := M) (c := cur.length) hc hcnt (s := s) (w := w) (v := v) hs hw hv (by rw [hX.2.1]; omega) (by rw [hX.2.2.1]; omega) (by rw [hX.2.2.2.1]; omega) (by omega)).mono (fun y hy => ?_)
  obtain ⟨y1, y2, y3, ⟨y4, y5, y6, y7⟩, y8, y9, y10, y11⟩ := hy
  have pT : ∀ a i, PTl M cur.length a i → (a = M + 1 ∧ i = 2) ∨ ((M + 4 ≤ a ∧ a ≤ M + 7) ∧ i = cur.length) ∨ (a = M ∧ (i = 6 ∨ (8 ≤ i ∧ i ≤ 10))) := fun _ _ w => w
  refine ⟨y1, y2, ?_, ?_, ?_, ?_, ?_, hI.2⟩
  · -- the context
    obtain ⟨h1, h2, h3, h4, h5, h6, h7⟩ := hd
    have e1 : NmK u n y.2 (M + 1) (mTk cur ++ [jn]) := by
      have nm := h4.1.1
      rw [← eM] at nm
      refine nm.put hk (fun i hi => (nm.e i hi).cg (y2.1 _ _ (fun w => by have := pT _ _ w; omega)) (fun t => y2.1 _ _ (fun w => by have := pT _ _ w; omega))) ?_ ?_
      · rw [mTk_len]
        exact hE.cg (y2.1 _ _ (fun w => by have := pT _ _ w; omega)) (fun t => y2.1 _ _ (fun w => by have := pT _ _ w; omega))
      · rw [y3, mTk_len]; omega
    have e2 : mTk (cur ++ [(jn, s, w, v)]) = mTk cur ++ [jn] := by unfold mTk; rw [List.map_append]; rfl
    refine ⟨h1.ch y2 (fun w => by have := pT _ _ w; omega) (fun i w => by have := pT _ _ w; omega), h2, ⟨(y2.2.2.1 _ _).trans h3.1, h3.2⟩, ⟨⟨?_, fun i hi => ?_, ?_⟩, ?_, fun i hi => ?_⟩, fun i hi => ⟨(h5 i hi).1.cg (fun a x q1 q2 => y2.1 _ _ (fun w => by have := pT _ _ w; omega)), (h5 i hi).2⟩, h6, h7.tr (y2.gz (fun w => by have := pT _ _ w; omega))⟩
    · rw [e2, ← eM]; exact e1
    · rw [hlen] at hi
      rw [← eM, getD_appN]
      by_cases g : i < cur.length
      · rw [if_pos g, y2.1 _ _ (fun w => by have := pT _ _ w; omega), y2.1 _ _ (fun w => by have := pT _ _ w; omega), y2.1 _ _ (fun w => by have := pT _ _ w; omega), eM]
        exact h4.1.2.1 i g
      · have g2 : i = cur.length := by omega
        subst g2
        rw [if_neg g, if_pos rfl]
        exact ⟨y4, y5, y6⟩
    · rw [e2]; exact h4.1.2.2.add hin
    · rw [hlen]; omega
    · rw [hlen] at hi
      rw [getD_appN]
      by_cases g : i < cur.length
      · rw [if_pos g]; exact h4.2.2 i g
      · rw [if_neg g, if_pos (by omega)]; exact hN
  · -- its counters
    have hcb2 : capB (cur ++ [(jn, s, w, v)]) = capB cur + 8 := by unfold capB; rw [hlen]; omega
    refine ⟨hX.1.x (y2.1 _ _ (fun w => by have := pT _ _ w; omega)) (y2.1 _ _ (fun w => by have := pT _ _ w; omega)) (fun i => y2.1 _ _ (fun w => by have := pT _ _ w; omega)), ?_, ?_, ?_, ?_, ?_⟩
    · rw [y8, hX.2.1, insL_app, List.length_append]
      show _ = (((insL cur).length + (if s = 0 then [cur.length] else []).length : Nat) : Int)
      by_cases e : s = 0
      · rw [if_pos e, if_pos e]; rfl
      · rw [if_neg e, if_neg e]; rfl
    · rw [y9, hX.2.2.1, sumW_app]
    · rw [y10, hX.2.2.2.1, sumW_app]
    · rw [y11, hcb2]
      exact hX10.add (by omega) (by split <;> omega)
    · rw [hcb2, y2.1 _ _ (fun w => by have := pT _ _ w; omega)]
      have := hX7.add (w := 0) (by omega) (by omega)
      rw [Int.add_zero, Int.add_zero] at this
      exact this
  · intro i hi
    rw [hlen] at hi
    by_cases g : i < cur.length
    · rw [y2.1 _ _ (fun w => by have := pT _ _ w; omega)]; exact hG i g
    · have g2 : i = cur.length := by omega
      subst g2
      rw [y7, if_neg (fun e => by have := hI.2 _ e; omega)]
  · intro i hi
    rw [hlen] at hi
    rw [getD_appN]
    by_cases g : i < cur.length
    · rw [if_pos g]; exact hW i g
    · rw [if_neg g, if_pos (by omega)]; exact hw
  · rw [hlen]
    show _ ≤ cur.length + (smN (gvC gv) cur.length + gvC gv cur.length)
    have := hI.1
    omega
end KTO
