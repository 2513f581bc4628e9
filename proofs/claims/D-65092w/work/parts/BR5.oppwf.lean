/-! the machine's stack stays well formed -/
def oLv (c : Int) : Nat := if c = 33 then 6 else oR c
def oVs (c : Int) : Nat := if 1 ≤ oR c then 1 else if c = 63 then 1 else if c = 58 then 2 else 0
def oIm (c : Int) : Nat := if c = 40 ∨ c = 63 ∨ c = 58 then 1 else 0
def oMk : List (Int × Nat) → Nat
  | [] => 0
  | (c, _) :: l => oMk l + oIm c
def oCn : List (Int × Nat) → Nat
  | [] => 0
  | (c, _) :: l => oCn l + oVs c
section OWF
variable {V : Type} {X : OM V} {N : Nat}
def oCl (X : OM V) (N : Nat) (c : Int) (p : Nat) (l : List (Int × Nat)) : Prop := (c = 33 ∧ p ≤ 1 ∧ oTop l ≠ 33) ∨ (1 ≤ oR c ∧ p ≤ N ∧ oLow (oR c) l ∧ (X.m = true → oR c < 4)) ∨ (c = 40 ∧ p ≤ N) ∨ ((c = 63 ∨ c = 58) ∧ p ≤ N ∧ X.m = false ∧ oTop l ≠ 33)
def oWf (X : OM V) (N : Nat) : List (Int × Nat) → Prop
  | [] => True
  | (c, p) :: l => oCl X N c p l ∧ oWf X N l
def OX (X : OM V) (N : Nat) : Prop := LstT X.u X.n N ∧ (∀ j v t, j ≤ N → tkK X.u X.n j ≠ 4 → isS X.u X.n 33 j = false → isS X.u X.n 40 j = false → X.op j v = .inl t → j < t.1 ∧ t.1 ≤ N ∧ tkK X.u X.n t.1 ≠ 4 ∧ X.hv t.2 = X.hv v + 1) ∧ (∀ v, X.hv (X.ng v) = X.hv v) ∧ (∀ c p v w, 2 ≤ X.hv v → X.ap c p v = .inl w → X.hv w + 1 = X.hv v) ∧ (∀ p v w, 3 ≤ X.hv v → X.ch p v = .inl w → X.hv w + 2 = X.hv v)
theorem OX.l (h : OX X N) : LstT X.u X.n N := h.1
theorem OX.op (h : OX X N) : ∀ j v t, j ≤ N → tkK X.u X.n j ≠ 4 → isS X.u X.n 33 j = false → isS X.u X.n 40 j = false → X.op j v = .inl t → j < t.1 ∧ t.1 ≤ N ∧ tkK X.u X.n t.1 ≠ 4 ∧ X.hv t.2 = X.hv v + 1 := h.2.1
theorem OX.ng (h : OX X N) : ∀ v, X.hv (X.ng v) = X.hv v := h.2.2.1
theorem OX.ap (h : OX X N) : ∀ c p v w, 2 ≤ X.hv v → X.ap c p v = .inl w → X.hv w + 1 = X.hv v := h.2.2.2.1
theorem OX.ch (h : OX X N) : ∀ p v w, 3 ≤ X.hv v → X.ch p v = .inl w → X.hv w + 2 = X.hv v := h.2.2.2.2
theorem oTop_R {r : Nat} {l : List (Int × Nat)} (h : oLow r l) (hr : 1 ≤ r) : oLv (oTop l) < r := by
  cases l with
  | nil => show 0 < r; omega
  | cons a l => obtain ⟨c, p⟩ := a; have := h c p l rfl; show oLv c < r; unfold oLv; rw [if_neg this.2]; exact this.1
theorem oLv_top {l : List (Int × Nat)} (h : oTop l ≠ 33) : oLv (oTop l) ≤ 5 := by
  unfold oLv; rw [if_neg h]; exact oR_le _
theorem oLv_le (c : Int) : oLv c ≤ 6 := by
  unfold oLv; have := oR_le c; split <;> omega
theorem oWf_len : ∀ {l : List (Int × Nat)}, oWf X N l → l.length ≤ 7 * oMk l + oLv (oTop l)
  | [], _ => by show 0 ≤ _; omega
  | (c, p) :: l, h => by
    have ih := oWf_len h.2
    show l.length + 1 ≤ 7 * (oMk l + oIm c) + oLv c
    rcases h.1 with ⟨h1, h2, h3⟩ | ⟨h1, h2, h3, _⟩ | ⟨h1, h2⟩ | ⟨h1, h2, h4, h3⟩
    · have := oLv_top h3; subst h1; have : oLv 33 = 6 := rfl; omega
    · have := oTop_R h3 h1
      have hc : oLv c = oR c := by unfold oLv; rw [if_neg (fun e => by subst e; have : oR 33 = 0 := rfl; omega)]
      omega
    · have := oLv_le (oTop l); have : oIm c = 1 := by unfold oIm; rw [if_pos (Or.inl h1)]
      omega
    · have := oLv_top h3; have : oIm c = 1 := by unfold oIm; rw [if_pos (Or.inr h1)]
      omega
theorem oCn_le : ∀ (l : List (Int × Nat)), oCn l ≤ 2 * l.length
  | [] => by show 0 ≤ _; omega
  | (c, p) :: l => by
    have := oCn_le l
    have hc : oVs c ≤ 2 := by unfold oVs; split <;> (try omega) <;> (split <;> (try omega) <;> (split <;> omega))
    show oCn l + oVs c ≤ 2 * (l.length + 1); omega
def oNt (ops : List (Int × Nat)) : Prop := oTop ops ≠ 33
theorem oWf_op {c : Int} {p : Nat} {l : List (Int × Nat)} (h : oWf X N ((c, p) :: l)) (hc : 1 ≤ oR c) : oIm c = 0 ∧ oVs c = 1 ∧ p ≤ N ∧ oLow (oR c) l ∧ (X.m = true → oR c < 4) ∧ oWf X N l := by
  have h0 : ∀ d : Int, c = d → oR d = 0 → False := fun d e q => by subst e; omega
  have h33 : c ≠ 33 := fun e => h0 _ e rfl
  have h40 : c ≠ 40 := fun e => h0 _ e rfl
  have h63 : c ≠ 63 := fun e => h0 _ e rfl
  have h58 : c ≠ 58 := fun e => h0 _ e rfl
  refine ⟨?_, ?_, ?_⟩
  · unfold oIm; rw [if_neg (by omega)]
  · unfold oVs; rw [if_pos hc]
  · rcases h.1 with ⟨h1, h2, h3⟩ | ⟨h1, h2, h3, h4⟩ | ⟨h1, h2⟩ | ⟨h1, h2, h4, h3⟩
    · omega
    · exact ⟨h2, h3, h4, h.2⟩
    · omega
    · omega
/-- what holds of a stack and its values while it settles -/
def oSt (X : OM V) (N k : Nat) (ops : List (Int × Nat)) (v : V) : Prop := oWf X N ops ∧ oMk ops = k ∧ X.hv v = oCn ops + 1 ∧ oTop ops ≠ 33
theorem oSt.ap (hX : OX X N) {k p : Nat} {c : Int} {l : List (Int × Nat)} {v w : V} (h : oSt X N k ((c, p) :: l) v) (hc : 1 ≤ oR c) (ha : X.ap c p v = .inl w) : oSt X N k l w := by
  obtain ⟨h1, h2, h3, h4⟩ := h
  obtain ⟨a1, a2, a3, a4, a5, a6⟩ := oWf_op h1 hc
  have e2 : oMk l + oIm c = k := h2
  have e3 : X.hv v = oCn l + oVs c + 1 := h3
  have := hX.ap c p v w (by omega) ha
  exact ⟨a6, by omega, by omega, oLow_top a4⟩
theorem oSt.h2 {k p : Nat} {c : Int} {l : List (Int × Nat)} {v : V} (h : oSt X N k ((c, p) :: l) v) (hc : 1 ≤ oR c) : 2 ≤ X.hv v := by
  obtain ⟨h1, h2, h3, h4⟩ := h
  obtain ⟨a1, a2, a3, a4, a5, a6⟩ := oWf_op h1 hc
  have e3 : X.hv v = oCn l + oVs c + 1 := h3
  omega
theorem oStl_ok (hX : OX X N) {k y : Nat} : ∀ {ops : List (Int × Nat)} {v : V} {t : List (Int × Nat) × V}, oSt X N k ops v → oStl X y ops v = .inl t → oSt X N k t.1 t.2 ∧ (1 ≤ oR (oTop t.1) → oR (oTop t.1) < y)
  | [], v, t, h, e => by
    have e : (Sum.inl ([], v) : (List (Int × Nat) × V) ⊕ (Int × Int)) = .inl t := e
    injection e with e; subst e; exact ⟨h, fun q => absurd (show 1 ≤ 0 from q) (by decide)⟩
  | (c, p) :: l, v, t, h, e => by
    unfold oStl at e
    by_cases g : 1 ≤ oR c ∧ y ≤ oR c
    · rw [if_pos g] at e
      cases ha : X.ap c p v with
      | inr f => rw [ha, oB_r] at e; cases e
      | inl w => rw [ha, oB_l] at e; exact oStl_ok hX (h.ap hX g.1 ha) e
    · rw [if_neg g] at e
      injection e with e; subst e
      exact ⟨h, fun q => by have q : 1 ≤ oR c := q; show oR c < y; omega⟩
theorem oSt.ch (hX : OX X N) {k p : Nat} {l : List (Int × Nat)} {v w : V} (h : oSt X N k ((58, p) :: l) v) (ha : X.ch p v = .inl w) : 1 ≤ k ∧ oSt X N (k - 1) l w := by
  obtain ⟨h1, h2, h3, h4⟩ := h
  have e2 : oMk l + 1 = k := h2
  have e3 : X.hv v = oCn l + 2 + 1 := h3
  have := hX.ch p v w (by omega) ha
  refine ⟨by omega, h1.2, by omega, by omega, ?_⟩
  rcases h1.1 with ⟨a1, a2, a3⟩ | ⟨a1, a2, a3, a4⟩ | ⟨a1, a2⟩ | ⟨a1, a2, a4, a3⟩
  · omega
  · exact absurd a1 (by decide)
  · omega
  · exact a3
theorem oAll_ok (hX : OX X N) : ∀ {ops : List (Int × Nat)} {o : Nat} {v : V} {t : List (Int × Nat) × Nat × V}, oSt X N o ops v → oAll X ops o v = .inl t → oSt X N t.2.1 t.1 t.2.2 ∧ t.2.1 ≤ o ∧ (∀ c p l, t.1 = (c, p) :: l → c = 40 ∨ c = 63)
  | [], o, v, t, h, e => by
    have e : (Sum.inl ([], o, v) : (List (Int × Nat) × Nat × V) ⊕ (Int × Int)) = .inl t := e
    injection e with e; subst e; exact ⟨h, Nat.le_refl _, fun _ _ _ q => by cases q⟩
  | (c, p) :: l, o, v, t, h, e => by
    unfold oAll at e
    by_cases g : 1 ≤ oR c
    · rw [if_pos g] at e
      cases ha : X.ap c p v with
      | inr f => rw [ha, oB_r] at e; cases e
      | inl w => rw [ha, oB_l] at e; exact oAll_ok hX (h.ap hX g ha) e
    · rw [if_neg g] at e
      by_cases g2 : c = 58
      · rw [if_pos g2] at e
        subst g2
        cases ha : X.ch p v with
        | inr f => rw [ha, oB_r] at e; cases e
        | inl w =>
          rw [ha, oB_l] at e
          have := oAll_ok hX (h.ch hX ha).2 e
          exact ⟨this.1, by omega, this.2.2⟩
      · rw [if_neg g2] at e
        injection e with e; subst e
        refine ⟨h, Nat.le_refl _, fun c' p' l' q => ?_⟩
        injection q with q1 q2; injection q1 with q1 q3; subst q1
        rcases h.1.1 with ⟨a1, a2, a3⟩ | ⟨a1, a2, a3, a4⟩ | ⟨a1, a2⟩ | ⟨a1, a2, a4, a3⟩
        · exact absurd a1 h.2.2.2
        · omega
        · exact Or.inl a1
        · omega
theorem oTrn_ok (hX : OX X N) : ∀ {ops : List (Int × Nat)} {v : V}, oWf X N ops → oWf X N (oTrn X ops v).1 ∧ oMk (oTrn X ops v).1 = oMk ops ∧ oCn (oTrn X ops v).1 = oCn ops ∧ oTop (oTrn X ops v).1 ≠ 33 ∧ X.hv (oTrn X ops v).2 = X.hv v
  | [], v, h => ⟨h, rfl, rfl, by show (0 : Int) ≠ 33; decide, rfl⟩
  | (c, p) :: l, v, h => by
    by_cases g : c = 33
    · have e : oTrn X ((c, p) :: l) v = oTrn X l (if p = 1 then X.ng v else v) := by
        conv => lhs; unfold oTrn
        rw [if_pos g]
      rw [e]
      obtain ⟨h1, h2, h3, h4, h5⟩ := oTrn_ok hX (v := if p = 1 then X.ng v else v) h.2
      have hm : oMk ((c, p) :: l) = oMk l := by subst g; rfl
      have hc : oCn ((c, p) :: l) = oCn l := by subst g; rfl
      refine ⟨h1, by omega, by omega, h4, ?_⟩
      rw [h5]; split
      · exact hX.ng v
      · rfl
    · have e : oTrn X ((c, p) :: l) v = ((c, p) :: l, v) := by
        conv => lhs; unfold oTrn
        rw [if_neg g]
      rw [e]
      exact ⟨h, rfl, rfl, g, rfl⟩
theorem oFlp_ok : ∀ {ops : List (Int × Nat)}, oWf X N ops → oWf X N (oFlp ops) ∧ oMk (oFlp ops) = oMk ops ∧ oCn (oFlp ops) = oCn ops
  | [], h => ⟨⟨Or.inl ⟨rfl, by omega, by show (0 : Int) ≠ 33; decide⟩, h⟩, rfl, rfl⟩
  | (c, p) :: l, h => by
    by_cases g : c = 33
    · have e : oFlp ((c, p) :: l) = (33, 1 - p) :: l := if_pos g
      rw [e]
      subst g
      refine ⟨⟨Or.inl ⟨rfl, by omega, ?_⟩, h.2⟩, rfl, rfl⟩
      rcases h.1 with ⟨a1, a2, a3⟩ | ⟨a1, a2, a3, a4⟩ | ⟨a1, a2⟩ | ⟨a1, a2, a4, a3⟩
      · exact a3
      · exact absurd a1 (by decide)
      · omega
      · omega
    · have e : oFlp ((c, p) :: l) = (33, 1) :: (c, p) :: l := if_neg g
      rw [e]
      exact ⟨⟨Or.inl ⟨rfl, by omega, g⟩, h⟩, rfl, rfl⟩
/-- a state of the machine that can be -/
def okC (X : OM V) (N : Nat) (c : Cf V) : Prop := match c with
  | .inl (m, j, ops, o, v) => j ≤ N ∧ tkK X.u X.n j ≠ 4 ∧ oWf X N ops ∧ oMk ops = o ∧ o ≤ 60 ∧ X.hv v = oCn ops + (if m = 0 then 0 else 1) ∧ (m ≠ 0 → oTop ops ≠ 33)
  | .inr _ => True
def oGo (j : Nat) (c : Cf V) : Prop := match c with
  | .inl (m, i, _, _, _) => m = 2 ∨ j < i
  | .inr _ => True
theorem nxT_ok {u : Nat → Int} {n j j1 : Nat} (h : nxT u n j = .inl j1) : j1 = j + 1 ∧ tkK u n j1 ≠ 4 := by
  have := nxT_inl h
  subst this
  unfold nxT at h
  split at h
  · cases h
  · rename_i g; exact ⟨rfl, g⟩
theorem tkT_ok {u : Nat → Int} {n j j1 : Nat} {c : Int} (h : tkT u n c (.inl j) = .inl j1) : j1 = j + 1 ∧ tkK u n j1 ≠ 4 ∧ tkK u n j = 3 := by
  have h1 := tkT_inl h
  unfold tkT bq at h
  dsimp only at h
  rw [if_pos h1.1] at h
  exact ⟨h1.2, (nxT_ok h).2, isS_K h1.1⟩
theorem sg_lt (hX : OX X N) {j : Nat} (h : tkK X.u X.n j = 3) (hj : j ≤ N) : j < N := hX.l.le (by rw [h]; decide) hj
theorem okC_st {m j o : Nat} {ops : List (Int × Nat)} {v : V} (h : okC X N (.inl (m, j, ops, o, v))) (hm : m = 1) : oSt X N o ops v := by
  obtain ⟨h1, h2, h3, h4, h5, h6, h7⟩ := h
  rw [if_neg (by omega)] at h6
  exact ⟨h3, h4, h6, h7 (by omega)⟩
theorem ok_op (hX : OX X N) {j o : Nat} {ops : List (Int × Nat)} {v : V} (h : okC X N (.inl (0, j, ops, o, v))) : okC X N (oOp X j ops o v) ∧ oGo j (oOp X j ops o v) := by
  obtain ⟨h1, h2, h3, h4, h5, h6, h7⟩ := h
  rw [if_pos rfl] at h6
  unfold oOp
  by_cases c33 : isS X.u X.n 33 j = true
  · rw [if_pos c33]
    cases hx : nxT X.u X.n j with
    | inr f => exact ⟨trivial, trivial⟩
    | inl j1 =>
      rw [oB_l]
      obtain ⟨n1, n2⟩ := nxT_ok hx
      have := sg_lt hX (isS_K c33) h1
      obtain ⟨f1, f2, f3⟩ := oFlp_ok h3
      exact ⟨⟨by omega, n2, f1, by omega, h5, by rw [if_pos rfl]; omega, fun q => absurd rfl q⟩, Or.inr (by omega)⟩
  · rw [if_neg c33]
    by_cases c40 : isS X.u X.n 40 j = true
    · rw [if_pos c40]
      by_cases ho : o = 60
      · rw [if_pos ho]; exact ⟨trivial, trivial⟩
      · rw [if_neg ho]
        cases hx : nxT X.u X.n j with
        | inr f => exact ⟨trivial, trivial⟩
        | inl j1 =>
          rw [oB_l]
          obtain ⟨n1, n2⟩ := nxT_ok hx
          have := sg_lt hX (isS_K c40) h1
          exact ⟨⟨by omega, n2, ⟨Or.inr (Or.inr (Or.inl ⟨rfl, h1⟩)), h3⟩, by show oMk ops + 1 = o + 1; omega, by omega, by rw [if_pos rfl]; show _ = oCn ops + 0 + 0; omega, fun q => absurd rfl q⟩, Or.inr (by omega)⟩
    · rw [if_neg c40]
      cases hx : X.op j v with
      | inr f => exact ⟨trivial, trivial⟩
      | inl t =>
        rw [oB_l]
        obtain ⟨a1, a2, a3, a4⟩ := hX.op j v t h1 h2 (bool_f c33) (bool_f c40) hx
        obtain ⟨b1, b2, b3, b4, b5⟩ := oTrn_ok hX (v := t.2) h3
        exact ⟨⟨a2, a3, b1, by omega, h5, by rw [if_neg (by omega)]; omega, fun _ => b4⟩, Or.inr a1⟩
theorem ok_bh (hX : OX X N) {j o : Nat} {ops : List (Int × Nat)} {v : V} (h : okC X N (.inl (1, j, ops, o, v))) : okC X N (oBh X false j ops o v) ∧ oGo j (oBh X false j ops o v) := by
  have hs := okC_st h rfl
  obtain ⟨h1, h2, h3, h4, h5, h6, h7⟩ := h
  unfold oBh
  cases e : oStl X (oY (X.e false j)) ops v with
  | inr f => exact ⟨trivial, trivial⟩
  | inl t =>
    rw [oB_l]
    obtain ⟨⟨t1, t2, t3, t4⟩, tr⟩ := oStl_ok hX hs e
    have he : X.e false j = X.r j := by unfold OM.e; rw [if_neg (fun q => absurd q.1 (by decide))]
    by_cases c1 : 0 < X.e false j ∧ (X.e false j = 4 → oTop t.1 ≠ 257)
    · rw [if_pos c1]
      cases hx : nxT X.u X.n j with
      | inr f => exact ⟨trivial, trivial⟩
      | inl j1 =>
        rw [oB_l]
        obtain ⟨n1, n2⟩ := nxT_ok hx
        obtain ⟨r1, r2, r3⟩ := r_pos (X := X) (j := j) (by omega)
        have := sg_lt hX r1 h1
        have low : oLow (oR (tkV X.u X.n j)) t.1 := by
          intro c p l q
          have q1 : oTop t.1 = c := by rw [q]; rfl
          rw [q1] at tr t4 c1
          refine ⟨?_, t4⟩
          have hr5 := r_le (X := X) j
          have hy : oY (X.r j) = if X.r j = 4 then 5 else X.r j := by
            unfold oY; split
            · rfl
            · rw [if_pos (by omega)]
          rw [he, hy] at tr
          by_cases g4 : X.r j = 4
          · rw [if_pos g4] at tr
            have hne : oR c ≠ 4 := fun z => c1.2 (by omega) (oR_iff.2.2.2.1.1 z)
            omega
          · rw [if_neg g4] at tr; omega
        have hv : oVs (tkV X.u X.n j) = 1 := by unfold oVs; rw [if_pos (by omega)]
        have hi : oIm (tkV X.u X.n j) = 0 := by
          have h0 : ∀ d : Int, tkV X.u X.n j = d → oR d = 0 → False := fun d z q => by rw [← z] at q; omega
          unfold oIm; rw [if_neg (fun z => by rcases z with z | z | z; exact h0 _ z rfl; exact h0 _ z rfl; exact h0 _ z rfl)]
        exact ⟨⟨by omega, n2, ⟨Or.inr (Or.inl ⟨by omega, h1, low, fun q => by have := r3 q; omega⟩), t1⟩, by show oMk t.1 + oIm (tkV X.u X.n j) = o; omega, h5, by rw [if_pos rfl]; show _ = oCn t.1 + oVs (tkV X.u X.n j) + 0; omega, fun q => absurd rfl q⟩, Or.inr (by omega)⟩
    · rw [if_neg c1]
      by_cases cq : X.q j = true
      · rw [if_pos cq]
        cases e2 : oStl X 1 t.1 t.2 with
        | inr f => exact ⟨trivial, trivial⟩
        | inl s =>
          rw [oB_l]
          obtain ⟨⟨s1, s2, s3, s4⟩, sr⟩ := oStl_ok hX ⟨t1, t2, t3, t4⟩ e2
          by_cases ho : o = 60
          · rw [if_pos ho]; exact ⟨trivial, trivial⟩
          · rw [if_neg ho]
            by_cases hw : X.ts s.2 = false
            · rw [if_pos hw]; exact ⟨trivial, trivial⟩
            · rw [if_neg hw]
              cases hx : nxT X.u X.n j with
              | inr f => exact ⟨trivial, trivial⟩
              | inl j1 =>
                rw [oB_l]
                obtain ⟨n1, n2⟩ := nxT_ok hx
                have k3 : tkK X.u X.n j = 3 := by
                  unfold OM.q at cq; rw [Bool.and_eq_true] at cq; exact isS_K cq.2
                have := sg_lt hX k3 h1
                exact ⟨⟨by omega, n2, ⟨Or.inr (Or.inr (Or.inr ⟨Or.inl rfl, h1, q_m cq, s4⟩)), s1⟩, by show oMk s.1 + 1 = o + 1; omega, by omega, by rw [if_pos rfl]; show _ = oCn s.1 + 1 + 0; omega, fun q => absurd rfl q⟩, Or.inr (by omega)⟩
      · rw [if_neg cq]
        cases e2 : oAll X t.1 o t.2 with
        | inr f => exact ⟨trivial, trivial⟩
        | inl s =>
          rw [oB_l]
          obtain ⟨⟨s1, s2, s3, s4⟩, so, st⟩ := oAll_ok hX (show oSt X N o t.1 t.2 from ⟨t1, t2, t3, t4⟩) e2
          obtain ⟨ops2, o2, v2⟩ := s
          dsimp only at s1 s2 s3 s4 so st ⊢
          cases ops2 with
          | nil => exact ⟨⟨h1, h2, s1, s2, by omega, by rw [if_neg (by omega)]; exact s3, fun _ => s4⟩, Or.inl rfl⟩
          | cons a l =>
            obtain ⟨c, p⟩ := a
            unfold oFin
            dsimp only
            by_cases g : X.m = false ∧ c = 63
            · rw [if_pos g]
              cases hx : tkT X.u X.n 58 (.inl j) with
              | inr f => exact ⟨trivial, trivial⟩
              | inl j1 =>
                rw [oB_l]
                obtain ⟨n1, n2, k3⟩ := tkT_ok hx
                have := sg_lt hX k3 h1
                have hg := g.2
                subst hg
                have w1 := s1.1
                have e2' : oMk l + 1 = o2 := s2
                have e3 : X.hv v2 = oCn l + 1 + 1 := s3
                rcases w1 with ⟨a1, a2, a3⟩ | ⟨a1, a2, a3, a4⟩ | ⟨a1, a2⟩ | ⟨a1, a2, a4, a3⟩
                · omega
                · exact absurd a1 (by decide)
                · omega
                · exact ⟨⟨by omega, n2, ⟨Or.inr (Or.inr (Or.inr ⟨Or.inr rfl, a2, a4, a3⟩)), s1.2⟩, by show oMk l + 1 = o2; omega, by omega, by rw [if_pos rfl]; show _ = oCn l + 2 + 0; omega, fun q => absurd rfl q⟩, Or.inr (by omega)⟩
            · rw [if_neg g]
              have hc : c = 40 := by
                rcases st c p l rfl with q | q
                · exact q
                · rcases s1.1 with ⟨a1, a2, a3⟩ | ⟨a1, a2, a3, a4⟩ | ⟨a1, a2⟩ | ⟨a1, a2, a4, a3⟩
                  · omega
                  · subst q; exact absurd a1 (by decide)
                  · omega
                  · exact absurd ⟨a4, q⟩ g
              cases hx : tkT X.u X.n 41 (.inl j) with
              | inr f => exact ⟨trivial, trivial⟩
              | inl j1 =>
                rw [oB_l]
                obtain ⟨n1, n2, k3⟩ := tkT_ok hx
                have := sg_lt hX k3 h1
                subst hc
                have e2' : oMk l + 1 = o2 := s2
                have e3 : X.hv v2 = oCn l + 0 + 1 := s3
                obtain ⟨b1, b2, b3, b4, b5⟩ := oTrn_ok hX (v := v2) s1.2
                exact ⟨⟨by omega, n2, b1, by omega, by omega, by rw [if_neg (by omega)]; omega, fun _ => b4⟩, Or.inr (by omega)⟩
theorem ok_stp (hX : OX X N) {m j o : Nat} {ops : List (Int × Nat)} {v : V} (h : okC X N (.inl (m, j, ops, o, v))) (hm : m ≤ 1) : okC X N (oStp X (.inl (m, j, ops, o, v))) ∧ oGo j (oStp X (.inl (m, j, ops, o, v))) := by
  by_cases e : m = 0
  · subst e; exact ok_op hX h
  · have e : m = 1 := by omega
    subst e; exact ok_bh hX h
end OWF
