/-! the reference makes designs: what stands, expressions -/
def CmG (u : Nat → Int) (n N : Nat) (fs : List Fin0) (S : Sto) : Prop := (MTk u n N S ∧ gI S 2000 27 = 1 ∧ fs.length ≤ 16) ∧
  (∀ i, i < fs.length → RMd S i (fAt fs i).2.2.1 ∧ (MdOk i (fAt fs i).2.2.1 ∧ KnM u n N (mTk (fAt fs i).2.2.1)) ∧ gI S 2008 i = ((fAt fs i).2.1 : Int) ∧ gI S 2015 i = sumW 0 (fAt fs i).2.2.1) ∧ gI S 2000 12 = (fs.length : Int)
def GrM (S : Sto) (fa : Nat) (g : GSt) : Prop := HshM S fa g.1 ∧ gI S 2000 53 = (g.2.1 : Int) ∧ (∀ b, b < g.2.1 → gI S 2034 b = g.2.2.1 b) ∧ gI S 2000 52 = g.2.2.2
/-- names of the frame -/
def FrM (S : Sto) (sl : Nat) (ms : List Mdl) (cur : Mdl) (ub : Nat) (F : Frm) : Prop :=
  (∀ a, a < cur.length → (cur.getD a nm0).2.1 ≠ 4 → ∀ i : Nat, (i : Int) < (cur.getD a nm0).2.2.1 → gI S 2027 (320 * sl + 8 * a + i) = F.1 a i) ∧
  (∀ a, a < cur.length → (cur.getD a nm0).2.1 = 4 → ∀ o, o < (sbM ms cur a).length → ((sbM ms cur a).getD o nm0).2.1 = 1 → ∀ i : Nat, (i : Int) < ((sbM ms cur a).getD o nm0).2.2.1 → gI S 2028 (12800 * sl + 320 * a + 8 * o + i) = F.2.1 a o i) ∧
  (∀ a, a < cur.length → (cur.getD a nm0).2.1 = 3 → gI S 2033 (40 * sl + a) = (F.2.2 a : Int) ∧ F.2.2 a + (cur.getD a nm0).2.2.1.toNat ≤ ub)
def msT (fs : List Fin0) (M : Nat) : List Mdl := fMs (fs.take M)
section MK0
variable {S z y : Sto} {u : Nat → Int} {n N M sl fa nin : Nat} {fs : List Fin0} {cur m : Mdl} {j d c : Nat} {k k' r K : List Row3} {w : Int} {g : GSt} {F : Frm} {q : Qq}
theorem msT_len (h : M ≤ fs.length) : (msT fs M).length = M := by unfold msT; rw [fMs_len, List.length_take]; omega
theorem fAt_take {i : Nat} (h : i < M) : fAt (fs.take M) i = fAt fs i := by
  unfold fAt
  rw [List.getD_eq_getElem?_getD, List.getD_eq_getElem?_getD, List.getElem?_take, if_pos h]
theorem msT_d {i : Nat} (h : i < M) (hM : M ≤ fs.length) : (msT fs M).getD i [] = (fAt fs i).2.2.1 := by
  unfold msT
  rw [fMs_d (by rw [List.length_take]; omega)]
  show (fAt (fs.take M) i).2.2.1 = _
  rw [fAt_take h]
theorem fMs_a {i : Nat} (h : i < fs.length) : (fMs fs).getD i [] = (fAt fs i).2.2.1 := fMs_d h
theorem CmG.t {u : Nat → Int} {n N : Nat} {fs : List Fin0} {S : Sto} (h : CmG u n N fs S) : MTk u n N S := h.1.1
theorem CmG.rc (h : CmG u n N fs S) (hM : M < fs.length) (h28 : gI S 2000 28 = (M : Int)) : RCx u n N (msT fs M) (fAt fs M).2.2.1 M S := by
  have hl := h.1.2.2
  have el := msT_len (fs := fs) (M := M) (by omega)
  refine ⟨⟨(h.2.1 M hM).1, by omega, h28⟩, fun k hk => ?_, ?_, fun k hk => ?_, by omega⟩
  · rw [el] at hk
    rw [msT_d hk (by omega)]
    exact (h.2.1 k (by omega)).1
  · rw [el]; exact (h.2.1 M hM).2.1
  · rw [el] at hk ⊢
    rw [msT_d hk (by omega)]
    exact ⟨(h.2.1 k (by omega)).2.1.1.mono (by omega), (h.2.1 k (by omega)).2.1.2⟩
theorem CmG.ch (h : CmG u n N fs S) {P : Nat → Nat → Prop} (gg : ChW P S z) (e : ∀ a i, P a i → ¬ (2002 ≤ a ∧ a ≤ 2018) ∧ ¬ (a = 2000 ∧ (i = 12 ∨ i = 27))) : CmG u n N fs z := by
  obtain ⟨⟨h1, h2, h3⟩, h4, h5⟩ := h
  have p : ∀ a i, (2002 ≤ a ∧ a ≤ 2018) ∨ (a = 2000 ∧ (i = 12 ∨ i = 27)) → gI z a i = gI S a i := fun a i q => gg.1 _ _ (fun w => by have := e _ _ w; omega)
  exact ⟨⟨h1.ch gg (fun a i l1 l2 w => by have := e _ _ w; omega), (p _ _ (by omega)).trans h2, h3⟩, fun i hi => ⟨(h4 i hi).1.cg (p _ _ (by omega)) (fun a i l1 l2 l3 l4 => p _ _ (by omega)), (h4 i hi).2.1, (p _ _ (by omega)).trans (h4 i hi).2.2.1, (p _ _ (by omega)).trans (h4 i hi).2.2.2⟩, (p _ _ (by omega)).trans h5⟩
/-- the environment out of the store says what the frame says -/
theorem FrM.en (h : FrM S sl (msT fs M) cur g.2.1 F) (hp : PrefM cur m) (hM : M ≤ fs.length) (ho : MdOk M cur) : EnEq (msT fs M) cur (EnvM S sl (msT fs M) m) (envF (fMs fs) m F) := by
  have hd := hp.d
  refine ⟨fun a ha hs => ⟨?_, ?_, fun i hi => h.1 a ha hs i hi⟩, fun a ha hs o h1 h2 => ?_⟩
  · show (m.getD a nm0).2.2.1 = _
    rw [hd.2 a ha]
  · show (m.getD a nm0).2.2.1 = _
    rw [hd.2 a ha]
  · have hk := (ho.2 a ha).2.2 hs
    have e1 : sbM (fMs fs) m a = sbM (msT fs M) cur a := by
      unfold sbM
      rw [hd.2 a ha, fMs_a (by omega), msT_d (by omega) hM]
    have e2 : sbM (msT fs M) m a = sbM (msT fs M) cur a := by
      unfold sbM
      rw [hd.2 a ha]
    refine ⟨?_, ?_, fun i hi => h.2.1 a ha hs o h1 h2 i hi⟩
    · show ((sbM (msT fs M) m a).getD o nm0).2.2.1 = _
      rw [e2]
    · show ((sbM (fMs fs) m a).getD o nm0).2.2.1 = _
      rw [e1]
theorem envE (hp : PrefM cur m) (hM : M ≤ fs.length) (ho : MdOk M cur) : EnEq (msT fs M) cur (envF (fMs fs) m F) (envF (fMs fs) m F) := by
  have hd := hp.d
  refine ⟨fun a ha hs => ⟨?_, ?_, fun i hi => rfl⟩, fun a ha hs o h1 h2 => ?_⟩
  · show (m.getD a nm0).2.2.1 = _
    rw [hd.2 a ha]
  · show (m.getD a nm0).2.2.1 = _
    rw [hd.2 a ha]
  · have hk := (ho.2 a ha).2.2 hs
    have e1 : sbM (fMs fs) m a = sbM (msT fs M) cur a := by
      unfold sbM
      rw [hd.2 a ha, fMs_a (by omega), msT_d (by omega) hM]
    refine ⟨?_, ?_, fun i hi => rfl⟩
    · show ((sbM (fMs fs) m a).getD o nm0).2.2.1 = _
      rw [e1]
    · show ((sbM (fMs fs) m a).getD o nm0).2.2.1 = _
      rw [e1]
theorem CmG.os (h : CmG u n N fs S) (hM : M < fs.length) : ∀ i, i < (msT fs M).length → MdOk M ((msT fs M).getD i []) := fun i hi => by
  rw [msT_len (by omega)] at hi
  rw [msT_d hi (by omega)]
  exact (h.2.1 i (by omega)).2.1.1.mono (by omega)
theorem MdOk.pre (h : MdOk M m) (hp : PrefM cur m) : MdOk M cur := by
  have hd := hp.d
  exact ⟨by have := h.1; omega, fun i hi => by have := h.2 i (by omega); rw [hd.2 i hi] at this; exact this⟩
/-- an expression: its rows, evaluated -/
theorem m_ex1 (h : CmG u n N fs S) (hM : M < fs.length) (h28 : gI S 2000 28 = (M : Int)) (hsl : gI S 2000 29 = (sl : Int) ∧ sl ≤ 15) (hp : PrefM cur (fAt fs M).2.2.1) (hF : FrM S sl (msT fs M) cur g.2.1 F) (hH : HshM S fa g.1) (hq : MsQ u n N S (.inl c)) (hg : oGr (XD u n (msT fs M) cur) (gE 0) c 0 (k, []) (.inl (d, (k', [w])))) :
    WP (mX23_expression S) (fun z => ChW (PAq Q1) S z ∧ MsQ u n N z (.inl d) ∧ ∃ r, k' = k ++ r ∧ tyL (msT fs M) cur r [] = some [w] ∧ HshM z fa (exL fa (envF (fMs fs) (fAt fs M).2.2.1 F) r (g.1, [])).1 ∧ (1 ≤ w ∧ w ≤ 8) ∧ wdS (exL fa (envF (fMs fs) (fAt fs M).2.2.1 F) r (g.1, [])).2 = [w] ∧ ∀ i : Nat, (i : Int) < w → gI z 2022 i = tpF (exL fa (envF (fMs fs) (fAt fs M).2.2.1 F) r (g.1, [])).2 i) := by
  obtain ⟨r, e1, e2⟩ := hg.rows
  have ho := (h.2.1 M hM).2.1.1.pre hp
  refine (m_expr1 h.1.1 h.1.2.1 hq (h.rc hM h28) hsl hH (hg.monoM hp _ _ rfl)).mono (fun z hz => ?_)
  obtain ⟨z1, z2, r2, f, z3, z4, z5, z6, z7⟩ := hz
  have er : r2 = r := List.append_cancel_left (z3.symm.trans e1)
  subst er
  obtain ⟨q1, q2, q3, q4⟩ := exL_eq (fa := fa) (A := g.1) (s := []) (s' := []) ho (h.os hM) (hF.en hp (by omega) ho) trivial rfl OkW.nil e2
  refine ⟨z1, z2, r2, e1, e2, by rw [← q1]; exact z4, z6, ?_, fun i hi => ?_⟩
  · generalize exL fa (EnvM S sl (msT fs M) (fAt fs M).2.2.1) r2 (g.1, []) = X at q2 q3 z5
    generalize exL fa (envF (fMs fs) (fAt fs M).2.2.1 F) r2 (g.1, []) = Y at q2
    obtain ⟨X1, X2⟩ := X
    obtain ⟨Y1, Y2⟩ := Y
    dsimp only at z5 q2 q3 ⊢
    subst z5
    match Y2, q2 with
    | [y], ⟨y1, _, _⟩ => show [y.1] = [w]; rw [← y1]
  · rw [z7 i hi]
    generalize exL fa (EnvM S sl (msT fs M) (fAt fs M).2.2.1) r2 (g.1, []) = X at q2 q3 z5
    generalize exL fa (envF (fMs fs) (fAt fs M).2.2.1 F) r2 (g.1, []) = Y at q2
    obtain ⟨X1, X2⟩ := X
    obtain ⟨Y1, Y2⟩ := Y
    dsimp only at z5 q2 q3 ⊢
    subst z5
    match Y2, q2 with
    | [y], ⟨_, y2, _⟩ => exact y2 i hi
/-- to a sign and behind it -/
theorem m_behind (t : MTk u n N S) (h9 : gI S 2000 9 = (j : Int)) {s : Int} (hs : 0 ≤ s ∧ s < 1000) {e : Nat} (hje : j ≤ e) (he : e ≤ N) (hno : ∀ i, j ≤ i → i < e → isS u n s i = false) (hyes : isS u n s e = true) :
    WP (mX23_behindSign S s) (fun y => ChW (fun a i => a = 2000 ∧ i = 9) S y ∧ gI y 2000 9 = ((e + 1 : Nat) : Int)) := by
  have hb := t.b; have hn := t.e
  unfold mX23_behindSign
  refine WP_call (R := fun y => ChW (fun a i => a = 2000 ∧ i = 9) S y ∧ gI y 2000 9 = (e : Int)) ?_ (fun y hy => ?_)
  · refine WP_cnt (e - j) (fun i s => ChW (fun a i => a = 2000 ∧ i = 9) S s ∧ gI s 2000 9 = ((j + i : Nat) : Int)) (by unfold cFU; omega) ⟨ChW.refl, h9⟩ (fun i x hi hx => ?_) (fun x hx => ?_)
    · obtain ⟨x1, x2⟩ := hx
      have tx := t.ch x1 (fun a i l1 l2 w => by omega)
      unfold mX23_behindSign_L0
      rw [m_isAt tx (by omega) x2 hs, bX_some, bIf2, hno (j + i) (by omega) (by omega), if_neg (by decide), wf_eq, x2]
      exact WP_some.2 ⟨x1.sI ⟨rfl, rfl⟩, by rw [gI_sI_eq, w32_id (by omega)]; omega⟩
    · obtain ⟨x1, x2⟩ := hx
      have tx := t.ch x1 (fun a i l1 l2 w => by omega)
      have ee : j + (e - j) = e := by omega
      rw [ee] at x2
      unfold mX23_behindSign_L0
      rw [m_isAt tx he x2 hs, bX_some, bIf2, hyes, if_pos rfl]
      exact WP_some.2 ⟨x1, x2⟩
  · rw [wf_eq, hy.2]
    exact WP_some.2 ⟨hy.1.sI ⟨rfl, rfl⟩, by rw [gI_sI_eq, w32_id (by omega)]; omega⟩
/-- no sign among names and numbers -/
theorem isS_nk {s : Int} {i : Nat} (h : tkK u n i ≠ 3) : isS u n s i = false := by
  unfold isS
  exact decide_eq_false (fun w => h w.1)
theorem isS_ne {s t : Int} {i : Nat} (h : isS u n s i = true) (g : s ≠ t) : isS u n t i = false := by
  unfold isS at h ⊢
  have := of_decide_eq_true h
  exact decide_eq_false (fun w => g (by rw [← this.2, w.2]))
/-- from the word to where the width ends no such sign -/
theorem head_no {s : Int} (hs : s ≠ 58) {t : Nat × Int} (k6 : tkK u n j ≠ 3) (k1 : tkK u n (j + 1) = 1) (h : widD u n (j + 2) = .inl t) : ∀ i, j ≤ i → i < t.1 → isS u n s i = false := fun i h1 h2 => by
  by_cases e0 : i = j
  · rw [e0]; exact isS_nk k6
  by_cases e1 : i = j + 1
  · rw [e1]; exact isS_nk (by omega)
  unfold widD at h
  split at h
  · rename_i gg
    obtain ⟨a, q1, h⟩ := oB_inv h
    obtain ⟨d, q2, h⟩ := oB_inv h
    injection h with h; subst h
    obtain ⟨a1, a2⟩ := nxT_ok q1
    obtain ⟨d1, d2, _⟩ := nuT_ok q2
    have h2 : i < d := h2
    by_cases e2 : i = j + 2
    · rw [e2]; exact isS_ne gg (fun w => hs w.symm)
    · have : i = a := by omega
      rw [this]; exact isS_nk (by omega)
  · injection h with h; subst h
    have h2 : i < j + 2 := h2
    omega
end MK0
