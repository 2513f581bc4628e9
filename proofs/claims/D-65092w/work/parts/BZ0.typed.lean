/-! rows of code: widths fit -/
/-- one row on widths that wait -/
def tyR (ms : List Mdl) (cur : Mdl) (r : Row3) (ws : List Int) : Option (List Int) :=
  if r.1 = 0 then (if 1 ≤ r.2.2 ∧ r.2.2 ≤ 8 ∧ 0 ≤ r.2.1 ∧ r.2.1 < 2 ^ r.2.2.toNat then some (r.2.2 :: ws) else none)
  else if r.1 = 1 then (if r.2.1.toNat < cur.length ∧ 0 ≤ r.2.1 ∧ (cur.getD r.2.1.toNat nm0).2.1 ≠ 4 then some ((cur.getD r.2.1.toNat nm0).2.2.1 :: ws) else none)
  else if r.1 = 2 then (if (r.2.1.toNat < cur.length ∧ 0 ≤ r.2.1 ∧ 0 ≤ r.2.2 ∧ (cur.getD r.2.1.toNat nm0).2.1 = 4) ∧ r.2.2.toNat < (ms.getD (cur.getD r.2.1.toNat nm0).2.2.2.toNat []).length ∧ ((ms.getD (cur.getD r.2.1.toNat nm0).2.2.2.toNat []).getD r.2.2.toNat nm0).2.1 = 1 then some (((ms.getD (cur.getD r.2.1.toNat nm0).2.2.2.toNat []).getD r.2.2.toNat nm0).2.2.1 :: ws) else none)
  else if r.1 = 3 then match ws with
    | w :: l => if 0 ≤ r.2.1 ∧ r.2.1 < w then some (1 :: l) else none
    | [] => none
  else if r.1 = 4 then match ws with
    | w :: l => some (w :: l)
    | [] => none
  else if r.1 = 10 then match ws with
    | b :: a :: _ :: l => if a = b then some (a :: l) else none
    | _ => none
  else if 5 ≤ r.1 ∧ r.1 ≤ 9 then match ws with
    | b :: a :: l => if a = b then some ((if r.1 = 8 then 1 else a) :: l) else none
    | _ => none
  else none
def tyL (ms : List Mdl) (cur : Mdl) : List Row3 → List Int → Option (List Int)
  | [], ws => some ws
  | r :: l, ws => match tyR ms cur r ws with
    | some v => tyL ms cur l v
    | none => none
section TYP
variable {u : Nat → Int} {n N : Nat} {ms : List Mdl} {cur : Mdl} {j o : Nat} {v : VD} {lx : Gx} {res : Rv VD} {ws ws' : List Int}
theorem tyL_app : ∀ {k l : List Row3} {ws ws' : List Int}, tyL ms cur k ws = some ws' → tyL ms cur (k ++ l) ws = tyL ms cur l ws'
  | [], l, ws, ws', h => by
    have h : some ws = some ws' := h
    injection h with h; subst h; rfl
  | r :: k, l, ws, ws', h => by
    show (match tyR ms cur r ws with | some v => tyL ms cur (k ++ l) v | none => none) = _
    have h : (match tyR ms cur r ws with | some v => tyL ms cur k v | none => none) = some ws' := h
    cases e : tyR ms cur r ws with
    | none => rw [e] at h; cases h
    | some v => rw [e] at h; exact tyL_app (k := k) h
theorem tyL_one {r : Row3} : tyL ms cur [r] ws = tyR ms cur r ws := by
  show (match tyR ms cur r ws with | some v => some v | none => none) = _
  cases tyR ms cur r ws <;> rfl
theorem tyL_snoc {k : List Row3} {r : Row3} {ws2 : List Int} (h : tyL ms cur k ws = some ws') (g : tyR ms cur r ws' = some ws2) : tyL ms cur (k ++ [r]) ws = some ws2 := by
  rw [tyL_app h, tyL_one]; exact g
/-- rows are well typed: the end of a part -/
def GdT (ms : List Mdl) (cur : Mdl) (v : VD) (res : Rv VD) : Prop := ∀ j' v', res = .inl (j', v') → ∃ r, v'.1 = v.1 ++ r ∧ tyL ms cur r v.2 = some v'.2
theorem GdT.refl : GdT ms cur v (.inl (j, v)) := fun j' v' e => by
  injection e with e; injection e with e e2; subst e2
  exact ⟨[], (List.append_nil _).symm, rfl⟩
theorem GdT.inr {f : Int × Int} : GdT ms cur v (.inr f) := fun j' v' e => by cases e
theorem GdT.tr {v1 : VD} {j1 : Nat} (h : GdT ms cur v (.inl (j1, v1))) (g : GdT ms cur v1 res) : GdT ms cur v res := fun j' v' e => by
  obtain ⟨r1, a1, a2⟩ := h j1 v1 rfl
  obtain ⟨r2, b1, b2⟩ := g j' v' e
  exact ⟨r1 ++ r2, by rw [b1, a1, List.append_assoc], by rw [tyL_app a2]; exact b2⟩
theorem GdT.row {v1 v2 : VD} {j1 j2 : Nat} {r : Row3} (h : GdT ms cur v (.inl (j1, v1))) (e1 : v2.1 = v1.1 ++ [r]) (e2 : tyR ms cur r v1.2 = some v2.2) : GdT ms cur v (.inl (j2, v2)) := h.tr (fun j' v' e => by
  injection e with e; injection e with e e3; subst e3
  exact ⟨[r], e1, by rw [tyL_one]; exact e2⟩)
theorem tyR_op {c a b : Int} {l : List Int} (hc : 1 ≤ oR c) (h : a = b) : tyR ms cur (cdD c, 0, 0) (b :: a :: l) = some ((if c = 257 then 1 else a) :: l) := by
  obtain ⟨i1, i2, i3, i4, i5⟩ := oR_iff (c := c)
  have h5 := oR_le c
  have e : c = 124 ∨ c = 94 ∨ c = 38 ∨ c = 257 ∨ c = 43 := by omega
  unfold tyR
  dsimp only
  rcases e with e | e | e | e | e <;> subst e
  · rw [show cdD 124 = 6 from rfl, if_neg (by decide), if_neg (by decide), if_neg (by decide), if_neg (by decide), if_neg (by decide), if_neg (by decide), if_pos (by decide), if_pos h]; rfl
  · rw [show cdD 94 = 7 from rfl, if_neg (by decide), if_neg (by decide), if_neg (by decide), if_neg (by decide), if_neg (by decide), if_neg (by decide), if_pos (by decide), if_pos h]; rfl
  · rw [show cdD 38 = 5 from rfl, if_neg (by decide), if_neg (by decide), if_neg (by decide), if_neg (by decide), if_neg (by decide), if_neg (by decide), if_pos (by decide), if_pos h]; rfl
  · rw [show cdD 257 = 8 from rfl, if_neg (by decide), if_neg (by decide), if_neg (by decide), if_neg (by decide), if_neg (by decide), if_neg (by decide), if_pos (by decide), if_pos h]; rfl
  · rw [show cdD 43 = 9 from rfl, if_neg (by decide), if_neg (by decide), if_neg (by decide), if_neg (by decide), if_neg (by decide), if_neg (by decide), if_pos (by decide), if_pos h]; rfl
theorem tyR_ch {a b d : Int} {l : List Int} (h : a = b) : tyR ms cur (10, 0, 0) (b :: a :: d :: l) = some (a :: l) := by
  unfold tyR
  dsimp only
  rw [if_neg (by decide), if_neg (by decide), if_neg (by decide), if_neg (by decide), if_neg (by decide), if_pos rfl, if_pos h]
theorem tyR_not {a : Int} {l : List Int} : tyR ms cur (4, 0, 0) (a :: l) = some (a :: l) := by
  unfold tyR
  dsimp only
  rw [if_neg (by decide), if_neg (by decide), if_neg (by decide), if_neg (by decide), if_pos rfl]
theorem tyR_bit {k w : Int} {l : List Int} (h : 0 ≤ k ∧ k < w) : tyR ms cur (3, k, 0) (w :: l) = some (1 :: l) := by
  unfold tyR
  dsimp only
  rw [if_neg (by decide), if_neg (by decide), if_neg (by decide), if_pos rfl, if_pos h]
/-- an operand's rows -/
theorem biD_ty {w : Int} {a : Nat} {t : Nat × List Row3 × Int} {r0 : Row3} (h : biD u n w a = .inl t) (h0 : tyR ms cur r0 ws = some (w :: ws)) : tyL ms cur (r0 :: t.2.1) ws = some (t.2.2 :: ws) := by
  unfold biD at h
  split at h
  · obtain ⟨b, h1, h⟩ := oB_inv h
    obtain ⟨c, h2, h⟩ := oB_inv h
    injection h with h; subst h
    obtain ⟨_, _, _, d4, d5⟩ := nuT_ok h2
    show (match tyR ms cur r0 ws with | some v => tyL ms cur [(3, tkV u n b, 0)] v | none => none) = _
    rw [h0]
    show tyL ms cur [(3, tkV u n b, 0)] (w :: ws) = _
    rw [tyL_one, tyR_bit (by omega)]
  · injection h with h; subst h
    show (match tyR ms cur r0 ws with | some v => some v | none => none) = _
    rw [h0]
theorem opD_ty {t : Nat × List Row3 × Int} (h : opD u n ms cur j = .inl t) : tyL ms cur t.2.1 ws = some (t.2.2 :: ws) := by
  unfold opD at h
  split at h
  · rename_i k2
    unfold conD at h
    obtain ⟨a, h1, h⟩ := oB_inv h
    obtain ⟨b, h2, h⟩ := oB_inv h
    obtain ⟨c, h3, h⟩ := oB_inv h
    obtain ⟨_, _, _, d4, d5⟩ := nuT_ok h3
    have hv : 0 ≤ tkV u n j := (tK_2 (show tK u n (tkB u n j) = 2 from k2)).2.1
    split at h
    · cases h
    · rename_i hq
      injection h with h; subst h
      dsimp only
      rw [tyL_one]
      unfold tyR
      dsimp only
      rw [if_pos rfl, if_pos ⟨d4, d5, hv, by omega⟩]
  · split at h
    · unfold namD at h
      split at h
      · rename_i hin
        have hfi := fi_lt hin
        obtain ⟨a, h1, h⟩ := oB_inv h
        split at h
        · unfold dotD at h
          obtain ⟨b, h2, h⟩ := oB_inv h
          split at h
          · cases h
          · rename_i hs
            split at h
            · rename_i kb
              have hs4 : (cur.getD (fiN u n (mTk cur) j) nm0).2.1 = 4 := Classical.byContradiction (fun w => hs (Or.inl ⟨kb, w⟩))
              unfold ofD at h
              split at h
              · rename_i ho
                obtain ⟨c, h3, h⟩ := oB_inv h
                obtain ⟨s, h4, h⟩ := oB_inv h
                injection h with h; subst h
                have hol := fi_lt ho.1
                refine biD_ty h4 ?_
                unfold tyR
                dsimp only
                rw [Int.toNat_natCast, Int.toNat_natCast, if_neg (by decide), if_neg (by decide), if_pos rfl, if_pos ⟨⟨hfi, by omega, by omega, hs4⟩, hol, ho.2⟩]
              · cases h
            · rename_i kb
              obtain ⟨c, h3, h⟩ := oB_inv h
              injection h with h; subst h
              obtain ⟨k2, _, _, d4, d5⟩ := nuT_ok h3
              have hs4 : (cur.getD (fiN u n (mTk cur) j) nm0).2.1 ≠ 4 := fun w => hs (Or.inr ⟨k2, w⟩)
              dsimp only
              show (match tyR ms cur (1, (fiN u n (mTk cur) j : Int), 0) ws with | some v => tyL ms cur [(3, tkV u n b, 0)] v | none => none) = _
              have e1 : tyR ms cur (1, (fiN u n (mTk cur) j : Int), 0) ws = some ((cur.getD (fiN u n (mTk cur) j) nm0).2.2.1 :: ws) := by
                unfold tyR
                dsimp only
                rw [Int.toNat_natCast, if_neg (by decide), if_pos rfl, if_pos ⟨hfi, by omega, hs4⟩]
              rw [e1]
              show tyL ms cur [(3, tkV u n b, 0)] _ = _
              rw [tyL_one, tyR_bit (by omega)]
        · split at h
          · cases h
          · rename_i hs4
            injection h with h; subst h
            dsimp only
            rw [tyL_one]
            unfold tyR
            dsimp only
            rw [Int.toNat_natCast, if_neg (by decide), if_pos rfl, if_pos ⟨hfi, by omega, hs4⟩]
      · cases h
    · cases h
theorem apD_ty {c : Int} {p : Nat} {v w : VD} (hc : 1 ≤ oR c) (e : apD u n c p v = .inl w) : (∃ b a l, v.2 = b :: a :: l ∧ w.1 = v.1 ++ [(cdD c, 0, 0)] ∧ tyR ms cur (cdD c, 0, 0) v.2 = some w.2) ∨ w = v := by
  obtain ⟨k, l⟩ := v
  match l, e with
  | [], e =>
    have e : (Sum.inl (k, ([] : List Int)) : VD ⊕ (Int × Int)) = .inl w := e
    injection e with e; exact Or.inr e.symm
  | [a], e =>
    have e : (Sum.inl (k, [a]) : VD ⊕ (Int × Int)) = .inl w := e
    injection e with e; exact Or.inr e.symm
  | b :: a :: l, e =>
    obtain ⟨h1, h2⟩ := apD_l (l := l) rfl e
    subst h2
    exact Or.inl ⟨b, a, l, rfl, rfl, tyR_op hc h1⟩
theorem chD_ty {p : Nat} {v w : VD} (e : chD u n p v = .inl w) : w.1 = v.1 ++ [(10, 0, 0)] ∧ tyR ms cur (10, 0, 0) v.2 = some w.2 := by
  obtain ⟨k, l⟩ := v
  match l, e with
  | [], e => cases e
  | [a], e => cases e
  | [a, b], e => cases e
  | b :: a :: d :: l, e =>
    obtain ⟨h1, h2⟩ := chD_l (l := l) rfl e
    subst h2
    exact ⟨rfl, tyR_ch h1⟩
/-- rows of an expression are well typed -/
def GdT7 (ms : List Mdl) (cur : Mdl) (lx : Gx) (v : VD) (res : Rv VD) : Prop := nzL lx → GdT ms cur v res ∧ ∀ j' v', res = .inl (j', v') → (isLx lx = true → v.2 ≠ []) → v'.2 ≠ []
theorem apD_ne {c : Int} {p : Nat} {v w : VD} (e : apD u n c p v = .inl w) (h : v.2 ≠ []) : w.2 ≠ [] := by
  obtain ⟨k, l⟩ := v
  match l, e, h with
  | [], e, h => exact absurd rfl h
  | [a], e, _ =>
    have e : (Sum.inl (k, [a]) : VD ⊕ (Int × Int)) = .inl w := e
    injection e with e; rw [← e]; exact fun q => by cases q
  | b :: a :: l, e, _ =>
    obtain ⟨h1, h2⟩ := apD_l (l := l) rfl e
    subst h2
    exact fun q => by cases q
theorem chD_ne {p : Nat} {v w : VD} (e : chD u n p v = .inl w) : w.2 ≠ [] := by
  obtain ⟨k, l⟩ := v
  match l, e with
  | [], e => cases e
  | [a], e => cases e
  | [a, b], e => cases e
  | b :: a :: d :: l, e =>
    obtain ⟨h1, h2⟩ := chD_l (l := l) rfl e
    subst h2
    exact fun q => by cases q
theorem GdT.op {v1 v2 : VD} {j1 j2 p : Nat} {c : Int} (hc : 1 ≤ oR c) (h : GdT ms cur v (.inl (j1, v1))) (e : apD u n c p v1 = .inl v2) : GdT ms cur v (.inl (j2, v2)) := by
  rcases apD_ty (ms := ms) (cur := cur) hc e with ⟨b, a, l, _, e1, e2⟩ | e1
  · exact h.row e1 e2
  · subst e1
    exact fun j' v' q => by injection q with q; injection q with q1 q2; subst q2; exact h j1 v2 rfl
theorem oGr.tyD (h : oGr (XD u n ms cur) lx j o v res) : GdT7 ms cur lx v res := by
  have no : ∀ {lx v} {f : Int × Int}, GdT7 ms cur lx v (.inr f) := fun _ => ⟨GdT.inr, fun j' v' e => by cases e⟩
  refine h (fun lx j o v res => GdT7 ms cur lx v res) ⟨?_, ?_, ?_, ?_, ?_, ?_, ?_, ?_, ?_, ?_, ?_, ?_, ?_, ?_, ?_, ?_, ?_, ?_, ?_, ?_, ?_, ?_, ?_, ?_, ?_, ?_, ?_, ?_⟩
  · intro r j o v f _ _ _; exact no
  · intro r j o v j1 v1 res h1 h5 a b _
    obtain ⟨a1, a2⟩ := a (isLx_gS r).2.2
    obtain ⟨b1, b2⟩ := b (show r ≠ 0 by omega)
    have hn := a2 j1 v1 rfl (fun q => by rw [(isLx_gS r).1] at q; cases q)
    exact ⟨a1.tr b1, fun j' v' e _ => b2 j' v' e (fun _ => hn)⟩
  · intro r j o v hr _
    exact ⟨GdT.refl, fun j' v' e q => by injection e with e; injection e with e1 e2; subst e2; exact q rfl⟩
  · intro r j o v f _ _; exact no
  · intro r j o v j1 f _ _ _; exact no
  · intro r j o v j1 j2 v2 f _ _ _ _; exact no
  · intro r j o v j1 j2 v2 v3 res r4 hr hx a hap b r0
    have r0 : r ≠ 0 := r0
    obtain ⟨a1, a2⟩ := a (isLx_gS r).2.2
    obtain ⟨b1, b2⟩ := b r0
    have hn := a2 j2 v2 rfl (fun q => by rw [(isLx_gS r).1] at q; cases q)
    have hor : 1 ≤ oR (tkV u n j) := by
      have := (r_pos (X := XD u n ms cur) (j := j) (by omega)).2.1
      have e : oR (tkV u n j) = (XD u n ms cur).r j := this
      omega
    have h3 : GdT ms cur v (.inl (j2, v3)) := a1.op hor hap
    exact ⟨h3.tr b1, fun j' v' e _ => b2 j' v' e (fun _ => apD_ne hap hn)⟩
  · intro r j o v j1 j2 v2 v3 r4 hr hx a hap r0
    have r0 : r ≠ 0 := r0
    obtain ⟨a1, a2⟩ := a (isLx_gS r).2.2
    have hn := a2 j2 v2 rfl (fun q => by rw [(isLx_gS r).1] at q; cases q)
    have hor : 1 ≤ oR (tkV u n j) := by
      have := (r_pos (X := XD u n ms cur) (j := j) (by omega)).2.1
      have e : oR (tkV u n j) = (XD u n ms cur).r j := this
      omega
    exact ⟨a1.op hor hap, fun j' v' e _ => by injection e with e; injection e with e1 e2; subst e2; exact apD_ne hap hn⟩
  · intro j o v f _; exact no
  · intro j o v j1 v1 a _ _
    obtain ⟨a1, a2⟩ := a trivial
    exact ⟨a1, fun j' v' e _ => a2 j' v' e (fun q => by cases q)⟩
  · intro j o v j1 v1 _ _ _; exact no
  · intro j o v j1 v1 _ _ _ _; exact no
  · intro j o v j1 v1 f _ _ _ _ _; exact no
  · intro j o v j1 v1 j2 f _ _ _ _ _ _; exact no
  · intro j o v j1 v1 j2 j3 v2 f _ _ _ _ _ _ _; exact no
  · intro j o v j1 v1 j2 j3 v2 j4 f _ _ _ _ _ _ _ _; exact no
  · intro j o v j1 v1 j2 j3 v2 j4 j5 v3 f _ _ _ _ _ _ _ _ _; exact no
  · intro j o v j1 v1 j2 j3 v2 j4 j5 v3 v4 a hq ho ht hx b hk g hh _
    obtain ⟨a1, _⟩ := a trivial
    obtain ⟨b1, _⟩ := b trivial
    obtain ⟨g1, _⟩ := g trivial
    obtain ⟨e1, e2⟩ := chD_ty (ms := ms) (cur := cur) hh
    exact ⟨((a1.tr b1).tr g1).row e1 e2, fun j' v' e _ => by injection e with e; injection e with e1 e2; subst e2; exact chD_ne hh⟩
  · intro b j o v f _ _; exact no
  · intro b j o v j1 res h1 hx a _
    obtain ⟨a1, a2⟩ := a trivial
    exact ⟨a1, fun j' v' e _ => a2 j' v' e (fun q => by cases q)⟩
  · intro b j o v j1 v1 h1 a _
    obtain ⟨a1, a2⟩ := a trivial
    have hn := a2 j1 v1 rfl (fun q => by cases q)
    cases b
    · exact ⟨a1, fun j' v' e _ => a2 j' v' e (fun q => by cases q)⟩
    · refine ⟨a1.row (r := (4, 0, 0)) rfl ?_, fun j' v' e _ => by injection e with e; injection e with e1 e2; subst e2; exact hn⟩
      show tyR ms cur (4, 0, 0) v1.2 = some v1.2
      cases hv : v1.2 with
      | nil => exact absurd hv hn
      | cons w l => exact tyR_not
  · intro b j o v f _ _; exact no
  · intro j o v _ _; exact no
  · intro j o v f _ _ _; exact no
  · intro j o v j1 f _ _ _ _; exact no
  · intro j o v j1 j2 v2 f _ _ _ _ _; exact no
  · intro j o v j1 j2 v2 j3 h1 ho hx a hk _
    obtain ⟨a1, a2⟩ := a trivial
    exact ⟨fun j' v' e => by injection e with e; injection e with e1 e2; subst e2; exact a1 j2 v2 rfl, fun j' v' e _ => by injection e with e; injection e with e1 e2; subst e2; exact a2 j2 v2 rfl (fun q => by cases q)⟩
  · intro j o v h1 _
    show GdT ms cur v (oB (opD u n ms cur j) (fun t => (.inl (t.1, v.1 ++ t.2.1, t.2.2 :: v.2) : Rv VD))) ∧ _
    cases hC : opD u n ms cur j with
    | inr f => exact ⟨GdT.inr, fun j' v' e _ => by
        have e : (XD u n ms cur).op j v = .inl (j', v') := e
        have e : oB (opD u n ms cur j) (fun t => (.inl (t.1, v.1 ++ t.2.1, t.2.2 :: v.2) : Rv VD)) = .inl (j', v') := e
        rw [hC] at e; cases e⟩
    | inl t =>
      refine ⟨fun j' v' e => ?_, fun j' v' e _ => ?_⟩
      · injection e with e; injection e with e1 e2; subst e2
        exact ⟨t.2.1, rfl, opD_ty hC⟩
      · have e : oB (opD u n ms cur j) (fun t => (.inl (t.1, v.1 ++ t.2.1, t.2.2 :: v.2) : Rv VD)) = .inl (j', v') := e
        rw [hC] at e
        have e : (.inl (t.1, v.1 ++ t.2.1, t.2.2 :: v.2) : Rv VD) = .inl (j', v') := e
        injection e with e; injection e with e1 e2; subst e2
        exact fun q => by cases q
/-- a whole expression: its rows, well typed -/
theorem oGr.rows {k k' : List Row3} {d : Nat} {w : Int} (h : oGr (XD u n ms cur) (gE 0) j 0 (k, []) (.inl (d, (k', [w])))) : ∃ r, k' = k ++ r ∧ tyL ms cur r [] = some [w] := (oGr.tyD h trivial).1 d (k', [w]) rfl
end TYP
