/-! rows of code: only bits below the widths matter -/
def OkW (ws : List Int) : Prop := ∀ w, w ∈ ws → 1 ≤ w ∧ w ≤ 8
def StEq : List VlS → List VlS → Prop
  | [], [] => True
  | v :: l, v' :: l' => v.1 = v'.1 ∧ (∀ i : Nat, (i : Int) < v.1 → v.2 i = v'.2 i) ∧ StEq l l'
  | _, _ => False
def sbM (ms : List Mdl) (cur : Mdl) (a : Nat) : Mdl := ms.getD (cur.getD a nm0).2.2.2.toNat []
/-- two environments say the same of the names that are told -/
def EnEq (ms : List Mdl) (cur : Mdl) (E E' : Env7) : Prop :=
  (∀ a, a < cur.length → (cur.getD a nm0).2.1 ≠ 4 → E.1 a = (cur.getD a nm0).2.2.1 ∧ E'.1 a = (cur.getD a nm0).2.2.1 ∧ ∀ i : Nat, (i : Int) < (cur.getD a nm0).2.2.1 → E.2.1 a i = E'.2.1 a i) ∧
  (∀ a, a < cur.length → (cur.getD a nm0).2.1 = 4 → ∀ o, o < (sbM ms cur a).length → ((sbM ms cur a).getD o nm0).2.1 = 1 → E.2.2.1 a o = ((sbM ms cur a).getD o nm0).2.2.1 ∧ E'.2.2.1 a o = ((sbM ms cur a).getD o nm0).2.2.1 ∧ ∀ i : Nat, (i : Int) < ((sbM ms cur a).getD o nm0).2.2.1 → E.2.2.2 a o i = E'.2.2.2 a o i)
section EXQ
variable {fa : Nat} {ms ms' : List Mdl} {cur cur' : Mdl} {E E' : Env7} {A : Nds} {s s' base : List VlS} {ws ws' : List Int} {r : Row3} {l : List Row3}
theorem StEq.refl : ∀ {s : List VlS}, StEq s s
  | [] => trivial
  | _ :: _ => ⟨rfl, fun _ _ => rfl, StEq.refl⟩
theorem wdS_c {v : VlS} {l : List VlS} : wdS (v :: l) = v.1 :: wdS l := rfl
theorem OkW.c {w : Int} {l : List Int} (h : OkW (w :: l)) : (1 ≤ w ∧ w ≤ 8) ∧ OkW l := ⟨h w (List.mem_cons_self ..), fun v hv => h v (List.mem_cons_of_mem _ hv)⟩
theorem OkW.k {w : Int} {l : List Int} (h : OkW l) (g : 1 ≤ w ∧ w ≤ 8) : OkW (w :: l) := fun v hv => by
  rcases List.mem_cons.1 hv with e | e
  · rw [e]; exact g
  · exact h v e
theorem OkW.nil : OkW [] := fun w h => by cases h
/-- widths stay within 1 to 8 -/
theorem tyR_W {k : Nat} (hc : MdOk k cur) (ho : ∀ i, i < ms.length → MdOk k (ms.getD i [])) (hW : OkW ws) (ht : tyR ms cur r ws = some ws') : OkW ws' := by
  unfold tyR at ht
  split at ht
  · split at ht
    · rename_i g
      injection ht with ht; subst ht
      exact hW.k ⟨g.1, g.2.1⟩
    · cases ht
  · split at ht
    · split at ht
      · rename_i g
        injection ht with ht; subst ht
        exact hW.k ((hc.2 _ g.1).2.1 g.2.2)
      · cases ht
    · split at ht
      · split at ht
        · rename_i g
          injection ht with ht; subst ht
          refine hW.k ?_
          by_cases q : (cur.getD r.2.1.toNat nm0).2.2.2.toNat < ms.length
          · exact ((ho _ q).2 _ g.2.1).2.1 (by rw [g.2.2]; decide)
          · have e : ms.getD (cur.getD r.2.1.toNat nm0).2.2.2.toNat [] = [] := by rw [List.getD_eq_getElem?_getD, List.getElem?_eq_none (by omega)]; rfl
            rw [e] at g
            exact absurd g.2.1 (by show ¬ _ < 0; omega)
        · cases ht
      · split at ht
        · match ws, ht with
          | w :: l, ht =>
            have ht : (if 0 ≤ r.2.1 ∧ r.2.1 < w then some (1 :: l) else none) = some ws' := ht
            split at ht
            · injection ht with ht; subst ht
              exact hW.c.2.k (by omega)
            · cases ht
        · split at ht
          · match ws, ht with
            | w :: l, ht =>
              have ht : some (w :: l) = some ws' := ht
              injection ht with ht; subst ht; exact hW
          · split at ht
            · match ws, ht with
              | b :: a :: d :: l, ht =>
                have ht : (if a = b then some (a :: l) else none) = some ws' := ht
                split at ht
                · injection ht with ht; subst ht
                  exact hW.c.2.c.2.c.2.k hW.c.2.c.1
                · cases ht
            · split at ht
              · match ws, ht with
                | b :: a :: l, ht =>
                  have ht : (if a = b then some ((if r.1 = 8 then 1 else a) :: l) else none) = some ws' := ht
                  split at ht
                  · injection ht with ht; subst ht
                    refine hW.c.2.c.2.k ?_
                    have := hW.c.2.c.1
                    split <;> omega
                  · cases ht
              · cases ht
theorem sg8 {o : Int} (h : 5 ≤ o ∧ o ≤ 9) : sgD o = 257 ↔ o = 8 := by
  have e : o = 5 ∨ o = 6 ∨ o = 7 ∨ o = 8 ∨ o = 9 := by omega
  rcases e with e | e | e | e | e <;> subst e <;> decide
/-- one row -/
theorem exR_eq (hE : EnEq ms cur E E') (hs : StEq s s') (hw : wdS s = ws) (hW : OkW ws) (ht : tyR ms cur r ws = some ws') : (exR fa E r (A, s)).1 = (exR fa E' r (A, s')).1 ∧ StEq (exR fa E r (A, s)).2 (exR fa E' r (A, s')).2 ∧ wdS (exR fa E r (A, s)).2 = ws' := by
  unfold tyR at ht
  unfold exR
  by_cases h0 : r.1 = 0
  · rw [if_pos h0] at ht
    split at ht
    · injection ht with ht; subst ht
      rw [if_pos h0, if_pos h0]
      exact ⟨rfl, ⟨rfl, fun _ _ => rfl, hs⟩, by rw [← hw]; rfl⟩
    · cases ht
  rw [if_neg h0] at ht ⊢
  rw [if_neg h0]
  by_cases h1 : r.1 = 1
  · rw [if_pos h1] at ht
    split at ht
    · rename_i g
      injection ht with ht; subst ht
      rw [if_pos h1, if_pos h1]
      obtain ⟨e1, e2, e3⟩ := hE.1 _ g.1 g.2.2
      exact ⟨rfl, ⟨e1.trans e2.symm, fun i hi => e3 i (by have hi : (i : Int) < E.1 r.2.1.toNat := hi; rw [e1] at hi; exact hi), hs⟩, by rw [wdS_c, hw]; show E.1 _ :: ws = _; rw [e1]⟩
    · cases ht
  rw [if_neg h1] at ht ⊢
  rw [if_neg h1]
  by_cases h2 : r.1 = 2
  · rw [if_pos h2] at ht
    split at ht
    · rename_i g
      injection ht with ht; subst ht
      rw [if_pos h2, if_pos h2]
      obtain ⟨e1, e2, e3⟩ := hE.2 _ g.1.1 g.1.2.2.2 _ g.2.1 g.2.2
      exact ⟨rfl, ⟨e1.trans e2.symm, fun i hi => e3 i (by have hi : (i : Int) < E.2.2.1 r.2.1.toNat r.2.2.toNat := hi; rw [e1] at hi; exact hi), hs⟩, by rw [wdS_c, hw]; show E.2.2.1 _ _ :: ws = _; rw [e1]; rfl⟩
    · cases ht
  rw [if_neg h2] at ht ⊢
  rw [if_neg h2]
  by_cases h3 : r.1 = 3
  · rw [if_pos h3] at ht ⊢
    rw [if_pos h3]
    match s, s', hs, hw, ht with
    | [], [], _, hw, ht => subst hw; cases ht
    | v :: l, v' :: l', ⟨e1, e2, e3⟩, hw, ht =>
      subst hw
      have ht : (if 0 ≤ r.2.1 ∧ r.2.1 < v.1 then some (1 :: wdS l) else none) = some ws' := ht
      split at ht
      · rename_i g
        injection ht with ht; subst ht
        refine ⟨rfl, ⟨rfl, fun i hi => ?_, e3⟩, rfl⟩
        have hi : (i : Int) < 1 := hi
        show (if i = 0 then v.2 r.2.1.toNat else v.2 i) = if i = 0 then v'.2 r.2.1.toNat else v'.2 i
        rw [if_pos (by omega), if_pos (by omega), e2 _ (by omega)]
      · cases ht
  rw [if_neg h3] at ht ⊢
  rw [if_neg h3]
  by_cases h4 : r.1 = 4
  · rw [if_pos h4] at ht ⊢
    rw [if_pos h4]
    match s, s', hs, hw, ht with
    | [], [], _, hw, ht => subst hw; cases ht
    | v :: l, v' :: l', ⟨e1, e2, e3⟩, hw, ht =>
      subst hw
      have ht : some (v.1 :: wdS l) = some ws' := ht
      injection ht with ht; subst ht
      exact ⟨rfl, ⟨e1, fun i hi => by show aXor (v.2 i) 1 = aXor (v'.2 i) 1; rw [e2 i hi], e3⟩, rfl⟩
  rw [if_neg h4] at ht ⊢
  rw [if_neg h4]
  by_cases h10 : r.1 = 10
  · rw [if_pos h10] at ht ⊢
    rw [if_pos h10]
    match s, s', hs, hw, ht with
    | [], [], _, hw, ht => subst hw; cases ht
    | [_], [_], _, hw, ht => subst hw; cases ht
    | [_, _], [_, _], _, hw, ht => subst hw; cases ht
    | b :: a :: d :: l, b' :: a' :: d' :: l', ⟨b1, b2, a1, a2, d1, d2, e3⟩, hw, ht =>
      subst hw
      have ht : (if a.1 = b.1 then some (a.1 :: wdS l) else none) = some ws' := ht
      split at ht
      · rename_i g
        injection ht with ht; subst ht
        have hd := hW.c.2.c.2.c.1
        have ec : cnP fa A (d.2 0) a.2 b.2 a.1.toNat = cnP fa A (d'.2 0) a'.2 b'.2 a'.1.toNat := by
          rw [← a1, ← d2 0 (by have hd : 1 ≤ d.1 ∧ d.1 ≤ 8 := hd; omega)]
          exact cnP_cg (fun i hi => ⟨a2 i (by omega), b2 i (by omega)⟩)
        refine ⟨?_, ⟨a1, fun i hi => ?_, e3⟩, rfl⟩
        · show (cnP fa A (d.2 0) a.2 b.2 a.1.toNat).1 = (cnP fa A (d'.2 0) a'.2 b'.2 a'.1.toNat).1
          rw [ec]
        · show (cnP fa A (d.2 0) a.2 b.2 a.1.toNat).2 i = (cnP fa A (d'.2 0) a'.2 b'.2 a'.1.toNat).2 i
          rw [ec]
      · cases ht
  rw [if_neg h10] at ht ⊢
  rw [if_neg h10]
  split at ht
  · rename_i h59
    match s, s', hs, hw, ht with
    | [], [], _, hw, ht => subst hw; cases ht
    | [_], [_], _, hw, ht => subst hw; cases ht
    | b :: a :: l, b' :: a' :: l', ⟨b1, b2, a1, a2, e3⟩, hw, ht =>
      subst hw
      have ht : (if a.1 = b.1 then some ((if r.1 = 8 then 1 else a.1) :: wdS l) else none) = some ws' := ht
      split at ht
      · rename_i g
        injection ht with ht; subst ht
        have ec : joP fa (sgD r.1) A a.1.toNat a.2 b.2 = joP fa (sgD r.1) A a'.1.toNat a'.2 b'.2 := by
          rw [← a1]
          exact joP_cg (fun i hi => ⟨a2 i (by omega), b2 i (by omega)⟩)
        refine ⟨?_, ⟨?_, fun i hi => ?_, e3⟩, ?_⟩
        · show (joP fa (sgD r.1) A a.1.toNat a.2 b.2).1 = (joP fa (sgD r.1) A a'.1.toNat a'.2 b'.2).1
          rw [ec]
        · show (if sgD r.1 = 257 then 1 else a.1) = if sgD r.1 = 257 then 1 else a'.1
          rw [a1]
        · show (joP fa (sgD r.1) A a.1.toNat a.2 b.2).2 i = (joP fa (sgD r.1) A a'.1.toNat a'.2 b'.2).2 i
          rw [ec]
        · show (if sgD r.1 = 257 then 1 else a.1) :: wdS l = _
          by_cases q : r.1 = 8
          · rw [if_pos q, if_pos ((sg8 h59).2 q)]
          · rw [if_neg q, if_neg (fun w => q ((sg8 h59).1 w))]
      · cases ht
  · cases ht
/-- what lies below is not touched -/
theorem exR_fr (hw : wdS s = ws) (ht : tyR ms cur r ws = some ws') : exR fa E r (A, s ++ base) = ((exR fa E r (A, s)).1, (exR fa E r (A, s)).2 ++ base) := by
  unfold tyR at ht
  unfold exR
  by_cases h0 : r.1 = 0
  · rw [if_pos h0, if_pos h0]; rfl
  rw [if_neg h0] at ht ⊢
  rw [if_neg h0]
  by_cases h1 : r.1 = 1
  · rw [if_pos h1, if_pos h1]; rfl
  rw [if_neg h1] at ht ⊢
  rw [if_neg h1]
  by_cases h2 : r.1 = 2
  · rw [if_pos h2, if_pos h2]; rfl
  rw [if_neg h2] at ht ⊢
  rw [if_neg h2]
  by_cases h3 : r.1 = 3
  · rw [if_pos h3] at ht ⊢
    rw [if_pos h3]
    match s, hw, ht with
    | [], hw, ht => subst hw; cases ht
    | v :: l, _, _ => rfl
  rw [if_neg h3] at ht ⊢
  rw [if_neg h3]
  by_cases h4 : r.1 = 4
  · rw [if_pos h4] at ht ⊢
    rw [if_pos h4]
    match s, hw, ht with
    | [], hw, ht => subst hw; cases ht
    | v :: l, _, _ => rfl
  rw [if_neg h4] at ht ⊢
  rw [if_neg h4]
  by_cases h10 : r.1 = 10
  · rw [if_pos h10] at ht ⊢
    rw [if_pos h10]
    match s, hw, ht with
    | [], hw, ht => subst hw; cases ht
    | [_], hw, ht => subst hw; cases ht
    | [_, _], hw, ht => subst hw; cases ht
    | b :: a :: d :: l, _, _ => rfl
  rw [if_neg h10] at ht ⊢
  rw [if_neg h10]
  split at ht
  · match s, hw, ht with
    | [], hw, ht => subst hw; cases ht
    | [_], hw, ht => subst hw; cases ht
    | b :: a :: l, _, _ => rfl
  · cases ht
theorem exL_eq {k : Nat} (hc : MdOk k cur) (ho : ∀ i, i < ms.length → MdOk k (ms.getD i [])) (hE : EnEq ms cur E E') : ∀ {l : List Row3} {A : Nds} {s s' : List VlS} {ws ws' : List Int}, StEq s s' → wdS s = ws → OkW ws → tyL ms cur l ws = some ws' → (exL fa E l (A, s)).1 = (exL fa E' l (A, s')).1 ∧ StEq (exL fa E l (A, s)).2 (exL fa E' l (A, s')).2 ∧ wdS (exL fa E l (A, s)).2 = ws' ∧ OkW ws'
  | [], A, s, s', ws, ws', hs, hw, hW, ht => by
    have ht : some ws = some ws' := ht
    injection ht with ht; subst ht
    exact ⟨rfl, hs, hw, hW⟩
  | r :: l, A, s, s', ws, ws', hs, hw, hW, ht => by
    have ht : (match tyR ms cur r ws with | some v => tyL ms cur l v | none => none) = some ws' := ht
    cases e : tyR ms cur r ws with
    | none => rw [e] at ht; cases ht
    | some v =>
      rw [e] at ht
      obtain ⟨a1, a2, a3⟩ := exR_eq (fa := fa) (A := A) hE hs hw hW e
      have hW' := tyR_W hc ho hW e
      show (exL fa E l (exR fa E r (A, s))).1 = (exL fa E' l (exR fa E' r (A, s'))).1 ∧ StEq (exL fa E l (exR fa E r (A, s))).2 (exL fa E' l (exR fa E' r (A, s'))).2 ∧ wdS (exL fa E l (exR fa E r (A, s))).2 = ws' ∧ OkW ws'
      have ih := exL_eq hc ho hE (l := l) (A := (exR fa E r (A, s)).1) a2 a3 hW' ht
      rw [show exR fa E r (A, s) = ((exR fa E r (A, s)).1, (exR fa E r (A, s)).2) from rfl, show exR fa E' r (A, s') = ((exR fa E' r (A, s')).1, (exR fa E' r (A, s')).2) from rfl, ← a1]
      exact ih
theorem exL_fr {k : Nat} (hc : MdOk k cur) (ho : ∀ i, i < ms.length → MdOk k (ms.getD i [])) (hE : EnEq ms cur E E) : ∀ {l : List Row3} {A : Nds} {s : List VlS} {ws ws' : List Int}, wdS s = ws → OkW ws → tyL ms cur l ws = some ws' → exL fa E l (A, s ++ base) = ((exL fa E l (A, s)).1, (exL fa E l (A, s)).2 ++ base)
  | [], A, s, ws, ws', _, _, _ => rfl
  | r :: l, A, s, ws, ws', hw, hW, ht => by
    have ht : (match tyR ms cur r ws with | some v => tyL ms cur l v | none => none) = some ws' := ht
    cases e : tyR ms cur r ws with
    | none => rw [e] at ht; cases ht
    | some v =>
      rw [e] at ht
      obtain ⟨_, _, a3⟩ := exR_eq (fa := fa) (A := A) hE StEq.refl hw hW e
      have hW' := tyR_W hc ho hW e
      show exL fa E l (exR fa E r (A, s ++ base)) = ((exL fa E l (exR fa E r (A, s))).1, (exL fa E l (exR fa E r (A, s))).2 ++ base)
      rw [exR_fr hw e]
      exact exL_fr hc ho hE (l := l) (A := (exR fa E r (A, s)).1) (s := (exR fa E r (A, s)).2) a3 hW' ht
/-- more names, more modules: rows stay well typed -/
theorem tyR_mono (hm : ∀ i, i < ms.length → ms'.getD i [] = ms.getD i []) (hc : cur.length ≤ cur'.length ∧ ∀ a, a < cur.length → cur'.getD a nm0 = cur.getD a nm0) (ht : tyR ms cur r ws = some ws') : tyR ms' cur' r ws = some ws' := by
  unfold tyR at ht ⊢
  by_cases h0 : r.1 = 0
  · rw [if_pos h0] at ht ⊢; exact ht
  rw [if_neg h0] at ht ⊢
  by_cases h1 : r.1 = 1
  · rw [if_pos h1] at ht ⊢
    split at ht
    · rename_i g
      rw [if_pos ⟨by omega, g.2.1, by rw [hc.2 _ g.1]; exact g.2.2⟩, hc.2 _ g.1]; exact ht
    · cases ht
  rw [if_neg h1] at ht ⊢
  by_cases h2 : r.1 = 2
  · rw [if_pos h2] at ht ⊢
    split at ht
    · rename_i g
      have q : (cur.getD r.2.1.toNat nm0).2.2.2.toNat < ms.length := Classical.byContradiction (fun q => by
        have e : ms.getD (cur.getD r.2.1.toNat nm0).2.2.2.toNat [] = [] := by rw [List.getD_eq_getElem?_getD, List.getElem?_eq_none (by omega)]; rfl
        rw [e] at g
        exact absurd g.2.1 (by show ¬ _ < 0; omega))
      rw [hc.2 _ g.1.1, hm _ q, if_pos ⟨⟨by omega, g.1.2.1, g.1.2.2.1, g.1.2.2.2⟩, g.2.1, g.2.2⟩]; exact ht
    · cases ht
  rw [if_neg h2] at ht ⊢
  exact ht
theorem tyL_mono (hm : ∀ i, i < ms.length → ms'.getD i [] = ms.getD i []) (hc : cur.length ≤ cur'.length ∧ ∀ a, a < cur.length → cur'.getD a nm0 = cur.getD a nm0) : ∀ {l : List Row3} {ws ws' : List Int}, tyL ms cur l ws = some ws' → tyL ms' cur' l ws = some ws'
  | [], ws, ws', h => h
  | r :: l, ws, ws', h => by
    have h : (match tyR ms cur r ws with | some v => tyL ms cur l v | none => none) = some ws' := h
    show (match tyR ms' cur' r ws with | some v => tyL ms' cur' l v | none => none) = some ws'
    cases e : tyR ms cur r ws with
    | none => rw [e] at h; cases h
    | some v => rw [e] at h; rw [tyR_mono hm hc e]; exact tyL_mono hm hc h
end EXQ
