/-! designs are made: modules evaluated; plain -/
/-- nodes, bits of registers used, next values, the beginning -/
abbrev GSt : Type := Nds × Nat × (Nat → Int) × Int
/-- names' bits; outputs' bits of instances; the first bit of each register -/
abbrev Frm : Type := (Nat → Nat → Int) × (Nat → Nat → Nat → Int) × (Nat → Nat)
def envF (ms : List Mdl) (m : Mdl) (F : Frm) : Env7 := (fun a => (m.getD a nm0).2.2.1, F.1, fun a o => ((sbM ms m a).getD o nm0).2.2.1, F.2.1)
def tpF : List VlS → Nat → Int
  | v :: _ => v.2
  | [] => fun _ => 0
def begP (v : Int) (ub : Nat) : Nat → Int → Int
  | 0, b => b
  | k + 1, b => aOr (begP v ub k b) (aShl (aAnd (aShr v (k : Int)) 1) ((ub + k : Nat) : Int))
/-- an item: its name's code, its rows -/
def evI (fa nin : Nat) (ms : List Mdl) (m : Mdl) (sub : Nat → List VlS → GSt → GSt × Frm) (it : Int × List Row3) (s : GSt × Frm) : GSt × Frm :=
  if it.1 < 0 then
    (((exL fa (envF ms m s.2) it.2 (s.1.1, [])).1, s.1.2.1, (fun b => if s.2.2.2 (-1 - it.1).toNat ≤ b ∧ b < s.2.2.2 (-1 - it.1).toNat + (m.getD (-1 - it.1).toNat nm0).2.2.1.toNat then tpF (exL fa (envF ms m s.2) it.2 (s.1.1, [])).2 (b - s.2.2.2 (-1 - it.1).toNat) else s.1.2.2.1 b), s.1.2.2.2), s.2)
  else if (m.getD it.1.toNat nm0).2.1 = 3 then
    ((s.1.1, s.1.2.1 + (m.getD it.1.toNat nm0).2.2.1.toNat, (fun b => if s.1.2.1 ≤ b ∧ b < s.1.2.1 + (m.getD it.1.toNat nm0).2.2.1.toNat then 2 * ((1 + nin + b : Nat) : Int) else s.1.2.2.1 b), begP (m.getD it.1.toNat nm0).2.2.2 s.1.2.1 (m.getD it.1.toNat nm0).2.2.1.toNat s.1.2.2.2),
      ((fun a => if a = it.1.toNat then (fun i => 2 * ((1 + nin + (s.1.2.1 + i) : Nat) : Int)) else s.2.1 a), s.2.2.1, fun a => if a = it.1.toNat then s.1.2.1 else s.2.2.2 a))
  else if (m.getD it.1.toNat nm0).2.1 = 4 then
    ((sub (m.getD it.1.toNat nm0).2.2.2.toNat (exL fa (envF ms m s.2) it.2 (s.1.1, [])).2 ((exL fa (envF ms m s.2) it.2 (s.1.1, [])).1, s.1.2)).1,
      (s.2.1, (fun a => if a = it.1.toNat then (sub (m.getD it.1.toNat nm0).2.2.2.toNat (exL fa (envF ms m s.2) it.2 (s.1.1, [])).2 ((exL fa (envF ms m s.2) it.2 (s.1.1, [])).1, s.1.2)).2.1 else s.2.2.1 a), s.2.2.2))
  else (((exL fa (envF ms m s.2) it.2 (s.1.1, [])).1, s.1.2), ((fun a => if a = it.1.toNat then tpF (exL fa (envF ms m s.2) it.2 (s.1.1, [])).2 else s.2.1 a), s.2.2))
def evL (fa nin : Nat) (ms : List Mdl) (m : Mdl) (sub : Nat → List VlS → GSt → GSt × Frm) : List (Int × List Row3) → GSt × Frm → GSt × Frm
  | [], s => s
  | it :: l, s => evL fa nin ms m sub l (evI fa nin ms m sub it s)
theorem evL_app {fa nin : Nat} {ms : List Mdl} {m : Mdl} {sub : Nat → List VlS → GSt → GSt × Frm} : ∀ {k l : List (Int × List Row3)} {s : GSt × Frm}, evL fa nin ms m sub (k ++ l) s = evL fa nin ms m sub l (evL fa nin ms m sub k s)
  | [], _, _ => rfl
  | _ :: k, _, _ => evL_app (k := k)
/-- inputs of a module: the last one is on top -/
def frI (m : Mdl) (l : List VlS) : Frm := ((fun a => (l.getD ((insL m).length - 1 - cInp m a) (0, fun _ => 0)).2), fun _ _ _ => 0, fun _ => 0)
def rwsK (K : List Row3) (t : Itm) : Int × List Row3 := (t.1, (K.drop t.2.1).take (t.2.2 - t.2.1))
def itsR (K : List Row3) (its : List Itm) : List (Int × List Row3) := its.map (rwsK K)
def fAt (fs : List Fin0) (i : Nat) : Fin0 := fs.getD i (0, 0, [], [])
/-- a module -/
def evM (fa nin : Nat) (K : List Row3) (fs : List Fin0) : Nat → Nat → List VlS → GSt → GSt × Frm
  | 0, _, _, g => (g, frI [] [])
  | fu + 1, i, l, g => evL fa nin (fMs fs) (fAt fs i).2.2.1 (evM fa nin K fs fu) (itsR K (fAt fs i).2.2.2) (g, frI (fAt fs i).2.2.1 l)
section EVM
variable {fa nin : Nat} {ms : List Mdl} {m cur : Mdl} {sub : Nat → List VlS → GSt → GSt × Frm} {K k r rest : List Row3} {its : List Itm} {fs : List Fin0} {u : Nat → Int} {n N : Nat} {j o : Nat} {lx : Gx} {v : VD} {res : Rv VD}
theorem itsR_app {t : Itm} : itsR K (its ++ [t]) = itsR K its ++ [rwsK K t] := by unfold itsR; rw [List.map_append]; rfl
theorem rwsK_e {x : Int} : rwsK ((k ++ r) ++ rest) (x, k.length, (k ++ r).length) = (x, r) := by
  unfold rwsK
  dsimp only
  rw [List.append_assoc, List.drop_append_of_le_length (Nat.le_refl _), List.drop_length, List.nil_append, List.length_append, Nat.add_sub_cancel_left, List.take_append_of_le_length (Nat.le_refl _), List.take_length]
/-- names are found at the same place among more names -/
theorem inNm_app {ps qs : List Nat} (h : inNm u n ps j = true) : inNm u n (ps ++ qs) j = true ∧ fiN u n (ps ++ qs) j = fiN u n ps j := by
  induction ps with
  | nil => cases h
  | cons x ps ih =>
    by_cases e : smB u n x j = true
    · refine ⟨?_, ?_⟩
      · show (smB u n x j || inNm u n (ps ++ qs) j) = true
        rw [e]; rfl
      · show (if smB u n x j = true then 0 else _) = if smB u n x j = true then 0 else _
        rw [if_pos e, if_pos e]
    · have h' : inNm u n ps j = true := by
        have h : (smB u n x j || inNm u n ps j) = true := h
        rw [bool_f e] at h; exact h
      obtain ⟨h1, h2⟩ := ih h'
      refine ⟨?_, ?_⟩
      · show (smB u n x j || inNm u n (ps ++ qs) j) = true
        rw [h1, Bool.or_true]
      · show (if smB u n x j = true then 0 else fiN u n (ps ++ qs) j + 1) = if smB u n x j = true then 0 else fiN u n ps j + 1
        rw [if_neg e, if_neg e, h2]
def PrefM (cur m : Mdl) : Prop := ∃ more, m = cur ++ more
theorem PrefM.d (h : PrefM cur m) : cur.length ≤ m.length ∧ ∀ a, a < cur.length → m.getD a nm0 = cur.getD a nm0 := by
  obtain ⟨more, rfl⟩ := h
  refine ⟨by rw [List.length_append]; omega, fun a ha => ?_⟩
  rw [List.getD_eq_getElem?_getD, List.getD_eq_getElem?_getD, List.getElem?_append_left ha]
theorem PrefM.nm (h : PrefM cur m) (g : inNm u n (mTk cur) j = true) : inNm u n (mTk m) j = true ∧ fiN u n (mTk m) j = fiN u n (mTk cur) j ∧ m.getD (fiN u n (mTk cur) j) nm0 = cur.getD (fiN u n (mTk cur) j) nm0 := by
  have hl := h.d.2 _ (fi_lt g)
  obtain ⟨more, rfl⟩ := h
  have e : mTk (cur ++ more) = mTk cur ++ mTk more := by unfold mTk; rw [List.map_append]
  rw [e]
  exact ⟨(inNm_app g).1, (inNm_app g).2, hl⟩
/-- an operand, told among more names -/
theorem opD_m (h : PrefM cur m) {t : Nat × List Row3 × Int} (e : opD u n ms cur j = .inl t) : opD u n ms m j = .inl t := by
  unfold opD at e ⊢
  by_cases k2 : tkK u n j = 2
  · rw [if_pos k2] at e ⊢; exact e
  rw [if_neg k2] at e ⊢
  by_cases k1 : tkK u n j = 1
  · rw [if_pos k1] at e ⊢
    unfold namD at e ⊢
    by_cases g : inNm u n (mTk cur) j = true
    · obtain ⟨g1, g2, g3⟩ := h.nm g
      rw [if_pos g] at e
      rw [if_pos g1, g2, g3]
      exact e
    · rw [if_neg g] at e; cases e
  · rw [if_neg k1] at e; cases e
theorem oGr.monoM (hp : PrefM cur m) (h : oGr (XD u n ms cur) lx j o v res) : ∀ j' v', res = .inl (j', v') → oGr (XD u n ms m) lx j o v res := by
  refine h (fun lx j o v res => ∀ j' v', res = .inl (j', v') → oGr (XD u n ms m) lx j o v res) ⟨?_, ?_, ?_, ?_, ?_, ?_, ?_, ?_, ?_, ?_, ?_, ?_, ?_, ?_, ?_, ?_, ?_, ?_, ?_, ?_, ?_, ?_, ?_, ?_, ?_, ?_, ?_, ?_⟩
  · intro r j o v f _ _ _ j' v' e; cases e
  · intro r j o v j1 v1 res h1 h5 a b j' v' e
    exact oGr.el h1 h5 (a j1 v1 rfl) (b j' v' e)
  · intro r j o v hr j' v' _; exact oGr.ls hr
  · intro r j o v f _ _ j' v' e; cases e
  · intro r j o v j1 f _ _ _ j' v' e; cases e
  · intro r j o v j1 j2 v2 f _ _ _ _ j' v' e; cases e
  · intro r j o v j1 j2 v2 v3 res r4 hr hx a hap b j' v' e
    exact oGr.lc r4 hr hx (a j2 v2 rfl) hap (b j' v' e)
  · intro r j o v j1 j2 v2 v3 r4 hr hx a hap j' v' e
    exact oGr.lq r4 hr hx (a j2 v2 rfl) hap
  · intro j o v f _ j' v' e; cases e
  · intro j o v j1 v1 a hq j' v' e
    exact oGr.qs (a j1 v1 rfl) hq
  · intro j o v j1 v1 _ _ _ j' v' e; cases e
  · intro j o v j1 v1 _ _ _ _ j' v' e; cases e
  · intro j o v j1 v1 f _ _ _ _ _ j' v' e; cases e
  · intro j o v j1 v1 j2 f _ _ _ _ _ _ j' v' e; cases e
  · intro j o v j1 v1 j2 j3 v2 f _ _ _ _ _ _ _ j' v' e; cases e
  · intro j o v j1 v1 j2 j3 v2 j4 f _ _ _ _ _ _ _ _ j' v' e; cases e
  · intro j o v j1 v1 j2 j3 v2 j4 j5 v3 f _ _ _ _ _ _ _ _ _ j' v' e; cases e
  · intro j o v j1 v1 j2 j3 v2 j4 j5 v3 v4 a hq ho ht hx b hk g hh j' v' e
    exact oGr.qe (a j1 v1 rfl) hq ho ht hx (b j3 v2 rfl) hk (g j5 v3 rfl) hh
  · intro b j o v f _ _ j' v' e; cases e
  · intro b j o v j1 res h1 hx a j' v' e
    exact oGr.nc h1 hx (a j' v' e)
  · intro b j o v j1 v1 h1 a j' v' e
    exact oGr.np h1 (a j1 v1 rfl)
  · intro b j o v f _ _ j' v' e; cases e
  · intro j o v _ _ j' v' e; cases e
  · intro j o v f _ _ _ j' v' e; cases e
  · intro j o v j1 f _ _ _ _ j' v' e; cases e
  · intro j o v j1 j2 v2 f _ _ _ _ _ j' v' e; cases e
  · intro j o v j1 j2 v2 j3 h1 ho hx a hk j' v' e
    exact oGr.pc h1 ho hx (a j2 v2 rfl) hk
  · intro j o v h1 j' v' e
    have e : oB (opD u n ms cur j) (fun t => (.inl (t.1, v.1 ++ t.2.1, t.2.2 :: v.2) : Rv VD)) = .inl (j', v') := e
    obtain ⟨t, e1, e2⟩ := oB_inv e
    have e3 : (XD u n ms cur).op j v = (XD u n ms m).op j v := by
      show oB (opD u n ms cur j) (fun t => (.inl (t.1, v.1 ++ t.2.1, t.2.2 :: v.2) : Rv VD)) = oB (opD u n ms m j) (fun t => (.inl (t.1, v.1 ++ t.2.1, t.2.2 :: v.2) : Rv VD))
      rw [e1, opD_m hp e1]
    rw [e3]
    exact oGr.pn h1
end EVM
