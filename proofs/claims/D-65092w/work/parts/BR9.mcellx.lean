/-! expressions of a cell in the reference -/
def fiN (u : Nat → Int) (n : Nat) : List Nat → Nat → Nat
  | [], _ => 0
  | x :: l, j => if smB u n x j = true then 0 else fiN u n l j + 1
/-- no name twice -/
def Dst (u : Nat → Int) (n : Nat) (ps : List Nat) : Prop := ∀ a b, a < ps.length → b < ps.length → smNm u n (ps.getD a 0) (ps.getD b 0) → a = b
section FIN
variable {u : Nat → Int} {n : Nat} {ps : List Nat} {i j k : Nat}
theorem fiN_ok : ∀ {ps : List Nat}, inNm u n ps j = true → fiN u n ps j < ps.length ∧ smNm u n (ps.getD (fiN u n ps j) 0) j
  | [], h => by cases h
  | x :: l, h => by
    unfold fiN
    by_cases g : smB u n x j = true
    · rw [if_pos g]; exact ⟨Nat.succ_pos _, smB_iff.1 g⟩
    · rw [if_neg g]
      have h2 : inNm u n l j = true := by
        unfold inNm at h ⊢
        rw [List.any_cons, Bool.or_eq_true] at h
        exact h.resolve_left g
      obtain ⟨a, b⟩ := fiN_ok h2
      exact ⟨Nat.succ_lt_succ a, by rw [List.getD_cons_succ]; exact b⟩
theorem fiN_eq (hd : Dst u n ps) (hi : i < ps.length) (h : smNm u n (ps.getD i 0) j) : inNm u n ps j = true ∧ fiN u n ps j = i := by
  have h1 : inNm u n ps j = true := inN_iff.2 ⟨i, hi, h⟩
  obtain ⟨a, b⟩ := fiN_ok h1
  exact ⟨h1, hd _ _ a hi (b.tr h.sy)⟩
theorem Dst.add (hd : Dst u n ps) (h : inNm u n ps j = false) : Dst u n (ps ++ [j]) := by
  have hn : ∀ a, a < ps.length → ¬ smNm u n (ps.getD a 0) j := fun a ha q => by
    have := inN_iff.2 ⟨a, ha, q⟩; rw [h] at this; cases this
  intro a b ha hb q
  rw [List.length_append] at ha hb
  simp only [List.length] at ha hb
  by_cases ga : a < ps.length
  · by_cases gb : b < ps.length
    · rw [getD_app ga, getD_app gb] at q; exact hd a b ga gb q
    · have eb : b = ps.length := by omega
      subst eb
      rw [getD_app ga, getD_last] at q; exact absurd q (hn a ga)
  · have ea : a = ps.length := by omega
    subst ea
    by_cases gb : b < ps.length
    · rw [getD_last, getD_app gb] at q; exact absurd q.sy (hn b gb)
    · omega
end FIN
def opL (u : Nat → Int) (n : Nat) (ps : List Nat) (j : Nat) (v : List Int) : Rv (List Int) := if tkK u n j = 1 then (if inNm u n ps j = true then oB (nxT u n j) (fun j1 => .inl (j1, vlI (fiN u n ps j) :: v)) else .inr (11, (tkB u n j : Int))) else .inr (2, (tkB u n j : Int))
def ngL : List Int → List Int
  | [] => []
  | x :: l => aXor x 255 :: l
def apL (c : Int) (_ : Nat) : List Int → List Int ⊕ (Int × Int)
  | w :: v :: l => .inl (cmb (oR c) v w :: l)
  | l => .inl l
def XL (u : Nat → Int) (n : Nat) (ps : List Nat) : OM (List Int) := (u, n, true, opL u n ps, ngL, apL, fun _ _ => .inr (1, 1), fun _ => true, List.length)
section XLK
variable {u : Nat → Int} {n N : Nat} {ps : List Nat} {j o : Nat} {vs : List Int}
theorem XL_r {j r : Nat} (hr : 1 ≤ r ∧ r ≤ 3) : (XL u n ps).r j = r ↔ isS u n (opc r) j = true := by
  have key : isS u n (opc r) j = true ↔ tkK u n j = 3 ∧ tkV u n j = opc r := by unfold isS; rw [decide_eq_true_eq]
  rw [key]
  unfold OM.r
  show (if tkK u n j = 3 then (if true = true ∧ 4 ≤ oR (tkV u n j) then 0 else oR (tkV u n j)) else 0) = r ↔ _
  by_cases k : tkK u n j = 3
  · rw [if_pos k]
    have hi := oR_iff (c := tkV u n j)
    have hc : tkV u n j = opc r ↔ oR (tkV u n j) = r := by
      have : r = 1 ∨ r = 2 ∨ r = 3 := by omega
      rcases this with e | e | e <;> subst e
      · exact hi.1.symm
      · exact hi.2.1.symm
      · exact hi.2.2.1.symm
    constructor
    · intro h
      refine ⟨k, hc.2 ?_⟩
      split at h
      · omega
      · exact h
    · intro h
      have := hc.1 h.2
      rw [if_neg (by omega)]; exact this
  · rw [if_neg k]
    exact ⟨fun h => by omega, fun h => absurd h.1 k⟩
theorem XL_r4 (j : Nat) : (XL u n ps).r j ≤ 3 := by
  unfold OM.r
  show (if tkK u n j = 3 then (if true = true ∧ 4 ≤ oR (tkV u n j) then 0 else oR (tkV u n j)) else 0) ≤ 3
  split
  · split
    · omega
    · rename_i g
      by_cases h : 4 ≤ oR (tkV u n j)
      · exact absurd ⟨rfl, h⟩ g
      · omega
  · omega
theorem XL_q (j : Nat) : (XL u n ps).q j = false := rfl
/-- the class's meaning is the machine's grammar -/
def lxG : Lx → Gx
  | .inl r => gE r
  | .inr (.inl (r, _)) => .inr (.inl r)
  | .inr (.inr (.inl b)) => gN b
  | .inr (.inr (.inr _)) => gP
def rsV (vs : List Int) : Rsv → Rv (List Int)
  | .inl (j, v) => .inl (j, v :: vs)
  | .inr f => .inr f
def lxV : Lx → List Int → List Int
  | .inr (.inl (_, v)), vs => v :: vs
  | _, vs => vs
def lxOk (ps : List Nat) : Lx → Prop
  | .inl r => 1 ≤ r ∧ r ≤ 3
  | .inr (.inl (r, _)) => 1 ≤ r ∧ r ≤ 3
  | _ => True
/-- a turned part as a level of its own -/
theorem gN_E {res : Rv (List Int)} (h : oGr (XL u n ps) (gN false) j o vs res) : oGr (XL u n ps) (gE 4) j o vs res := by
  have h5 : oGr (XL u n ps) (gE 5) j o vs res := by
    cases res with
    | inr f => exact oGr.ef (by omega) (by omega) h
    | inl t => obtain ⟨i, w⟩ := t; exact oGr.el (by omega) (by omega) h (oGr.ls (by have := XL_r4 (u := u) (n := n) (ps := ps) i; omega))
  cases res with
  | inr f => exact oGr.ef (by omega) (by omega) h5
  | inl t => obtain ⟨i, w⟩ := t; exact oGr.el (by omega) (by omega) h5 (oGr.ls (by have := XL_r4 (u := u) (n := n) (ps := ps) i; omega))
theorem sbL_G {r : Nat} (hr : 1 ≤ r ∧ r ≤ 3) {res : Rv (List Int)} (h : (lxOk ps (sbL r) → oGr (XL u n ps) (lxG (sbL r)) j o (lxV (sbL r) vs) res)) : oGr (XL u n ps) (gS r) j o vs res := by
  unfold gS
  rw [if_neg (by omega)]
  unfold sbL at h
  by_cases e : r = 3
  · rw [if_pos e] at h
    subst e
    exact gN_E (h trivial)
  · rw [if_neg e] at h
    exact h ⟨by omega, by omega⟩
theorem XL_ap {r : Nat} (hr : 1 ≤ r ∧ r ≤ 3) (h : isS u n (opc r) j = true) {v w : Int} : (XL u n ps).ap (tkV (XL u n ps).u (XL u n ps).n j) j (w :: v :: vs) = .inl (cmb r v w :: vs) := by
  have h2 : tkV u n j = opc r := (of_decide_eq_true h).2
  show (.inl (cmb (oR (tkV u n j)) v w :: vs) : List Int ⊕ (Int × Int)) = _
  have : oR (opc r) = r := by
    have : r = 1 ∨ r = 2 ∨ r = 3 := by omega
    rcases this with e | e | e <;> subst e <;> rfl
  rw [h2, this]
theorem LE.gr (hd : Dst u n ps) {lx : Lx} {res : Rsv} (h : LE u n ps lx j o res) : lxOk ps lx → ∀ vs, oGr (XL u n ps) (lxG lx) j o (lxV lx vs) (rsV vs res) := by
  refine h (fun lx j o res => lxOk ps lx → ∀ vs, oGr (XL u n ps) (lxG lx) j o (lxV lx vs) (rsV vs res)) ⟨?_, ?_, ?_, ?_, ?_, ?_, ?_, ?_, ?_, ?_, ?_, ?_, ?_, ?_, ?_, ?_, ?_⟩
  · intro r j o f a hr vs
    have hr : 1 ≤ r ∧ r ≤ 3 := hr
    have sub := sbL_G (vs := vs) hr (fun q => a q vs)
    exact oGr.ef (by omega) (by omega) sub
  · intro r j o j1 v res a b hr vs
    have hr : 1 ≤ r ∧ r ≤ 3 := hr
    have sub := sbL_G (vs := vs) hr (fun q => a q vs)
    exact oGr.el (by omega) (by omega) sub (b hr vs)
  · intro r v j o h hr vs
    have hr : 1 ≤ r ∧ r ≤ 3 := hr
    exact oGr.ls (fun q => by rw [XL_r hr, h] at q; cases q)
  · intro r v j o f h g hr vs
    have hr : 1 ≤ r ∧ r ≤ 3 := hr
    exact oGr.lf ((XL_r hr).2 h) g
  · intro r v j o j1 f h g a hr vs
    have hr : 1 ≤ r ∧ r ≤ 3 := hr
    have sub := sbL_G (vs := v :: vs) hr (fun q => a q (v :: vs))
    exact oGr.lg ((XL_r hr).2 h) g sub
  · intro r v j o j1 j2 w res h g a b hr vs
    have hr : 1 ≤ r ∧ r ≤ 3 := hr
    have sub := sbL_G (vs := v :: vs) hr (fun q => a q (v :: vs))
    exact oGr.lc (by omega) ((XL_r hr).2 h) g sub (XL_ap hr h) (b hr vs)
  · intro par j o f h g _ vs; exact oGr.nf h g
  · intro par j o j1 res h g a _ vs; exact oGr.nc h g (a trivial vs)
  · intro par j o j1 v h a _ vs
    have := oGr.np (X := XL u n ps) (b := par) h (a trivial vs)
    cases par
    · exact this
    · exact this
  · intro par j o f h a _ vs; exact oGr.ng h (a trivial vs)
  · intro j o h ho _ vs; exact oGr.po h ho
  · intro j o f h ho g _ vs; exact oGr.pf h ho g
  · intro j o j1 f h ho g a _ vs
    exact oGr.pg h ho g (oGr.qf (a ⟨by omega, by omega⟩ vs))
  · intro j o j1 j2 v h ho g a _ vs
    have e0 : oGr (XL u n ps) (gE 0) j1 (o + 1) vs (.inl (j2, v :: vs)) := oGr.qs (a ⟨by omega, by omega⟩ vs) rfl
    cases hx : tkT u n 41 (.inl j2) with
    | inr f => exact oGr.pb h ho g e0 hx
    | inl j3 => exact oGr.pc h ho g e0 hx
  · intro j o h k _ vs
    have := oGr.pn (X := XL u n ps) (o := o) (v := vs) h
    have e : (XL u n ps).op j vs = .inr (2, (tkB u n j : Int)) := if_neg k
    rw [e] at this
    exact this
  · intro j o h k g _ vs
    have := oGr.pn (X := XL u n ps) (o := o) (v := vs) h
    have e : (XL u n ps).op j vs = .inr (11, (tkB u n j : Int)) := (if_pos k).trans (if_neg (by rw [g]; decide))
    rw [e] at this
    exact this
  · intro j o i h k hi g _ vs
    have := oGr.pn (X := XL u n ps) (o := o) (v := vs) h
    obtain ⟨f1, f2⟩ := fiN_eq hd hi g
    have e : (XL u n ps).op j vs = oB (nxT u n j) (fun j1 => .inl (j1, vlI (fiN u n ps j) :: vs)) := (if_pos k).trans (if_pos f1)
    rw [e, f2] at this
    cases hx : nxT u n j with
    | inr f => rw [hx] at this; exact this
    | inl j1 => rw [hx] at this; exact this
theorem XL_ok (hL : LstT u n N) : OX (XL u n ps) N := by
  refine ⟨hL, ?_, ?_, ?_, ?_⟩
  · intro j v t hj h4 h33 h40 e
    have e : opL u n ps j v = .inl t := e
    unfold opL at e
    split at e
    · rename_i k
      split at e
      · cases hx : nxT u n j with
        | inr f => rw [hx, oB_r] at e; cases e
        | inl j1 =>
          rw [hx, oB_l] at e
          injection e with e; subst e
          obtain ⟨n1, n2⟩ := nxT_ok hx
          have : j < N := hL.le (by rw [k]; decide) hj
          exact ⟨by show j < j1; omega, by show j1 ≤ N; omega, n2, rfl⟩
      · cases e
    · cases e
  · intro v; cases v <;> rfl
  · intro c p v w hv e
    match v, hv, e with
    | a :: b :: l, _, e =>
      have e : (.inl (cmb (oR c) b a :: l) : List Int ⊕ (Int × Int)) = .inl w := e
      injection e with e; subst e; rfl
  · intro p v w _ e; cases e
end XLK
