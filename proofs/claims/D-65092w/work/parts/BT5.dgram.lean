/-! where expressions of a design end, how many rows they make -/
def isLx : Gx → Bool
  | .inr (.inl _) => true
  | _ => false
def bLx : Gx → Nat
  | .inr (.inr (.inl b)) => if b = true then 1 else 0
  | _ => 0
def nzL : Gx → Prop
  | .inr (.inl r) => r ≠ 0
  | _ => True
/-- the end of a part -/
def GdE (u : Nat → Int) (n N : Nat) (lx : Gx) (j : Nat) (v : VD) (res : Rv VD) : Prop := nzL lx → ∀ j' v', res = .inl (j', v') → j ≤ N → j ≤ j' ∧ (isLx lx = false → j < j') ∧ j' ≤ N ∧ v'.1.length + j ≤ j' + v.1.length + bLx lx ∧ (isLx lx = false → ∃ w, v'.2 = w :: v.2) ∧ (isLx lx = true → ∀ a ws, v.2 = a :: ws → ∃ w, v'.2 = w :: ws)
section DGR
variable {u : Nat → Int} {n N : Nat} {ms : List Mdl} {cur : Mdl} {j o : Nat} {v : VD} {lx : Gx} {res : Rv VD}
theorem isLx_gS (r : Nat) : isLx (gS r) = false ∧ bLx (gS r) = 0 ∧ nzL (gS r) := by
  unfold gS
  split
  · exact ⟨rfl, rfl, trivial⟩
  · exact ⟨rfl, rfl, trivial⟩
theorem apD_l {c : Int} {p : Nat} {v w : VD} {a b : Int} {l : List Int} (h : v.2 = b :: a :: l) (e : apD u n c p v = .inl w) : a = b ∧ w = (v.1 ++ [(cdD c, 0, 0)], (if c = 257 then 1 else a) :: l) := by
  obtain ⟨k, x⟩ := v
  have h : x = b :: a :: l := h
  subst h
  have e : (if a = b then .inl (k ++ [(cdD c, 0, 0)], (if c = 257 then 1 else a) :: l) else .inr (13, (tkB u n p : Int)) : VD ⊕ (Int × Int)) = .inl w := e
  split at e
  · rename_i g; injection e with e; exact ⟨g, e.symm⟩
  · cases e
theorem chD_l {p : Nat} {v w : VD} {a b d : Int} {l : List Int} (h : v.2 = b :: a :: d :: l) (e : chD u n p v = .inl w) : a = b ∧ w = (v.1 ++ [(10, 0, 0)], a :: l) := by
  obtain ⟨k, x⟩ := v
  have h : x = b :: a :: d :: l := h
  subst h
  have e : (if a = b then .inl (k ++ [(10, 0, 0)], a :: l) else .inr (13, (tkB u n p : Int)) : VD ⊕ (Int × Int)) = .inl w := e
  split at e
  · rename_i g; injection e with e; exact ⟨g, e.symm⟩
  · cases e
theorem len1 {k : List Row3} {x : Row3} : (k ++ [x]).length = k.length + 1 := by rw [List.length_append]; rfl
theorem oGr.leD (hL : LstT u n N) (h : oGr (XD u n ms cur) lx j o v res) : GdE u n N lx j v res := by
  have no : ∀ {lx j v} {f : Int × Int}, GdE u n N lx j v (.inr f) := fun _ j' v' e => by cases e
  have l3 : ∀ {c : Int} {j : Nat}, isS u n c j = true → j ≤ N → j < N := fun h g => lt3 hL (isS_K h) g
  have lr : ∀ {r j : Nat}, r ≠ 0 → (XD u n ms cur).r j = r → j ≤ N → j < N := fun {r j} r0 hr hj => lt3 hL (r_pos (X := XD u n ms cur) (j := j) (by omega)).1 hj
  refine h (fun lx j o v res => GdE u n N lx j v res) ⟨?_, ?_, ?_, ?_, ?_, ?_, ?_, ?_, ?_, ?_, ?_, ?_, ?_, ?_, ?_, ?_, ?_, ?_, ?_, ?_, ?_, ?_, ?_, ?_, ?_, ?_, ?_, ?_⟩
  · intro r j o v f _ _ _; exact no
  · intro r j o v j1 v1 res h1 h5 a b _ j' v' e hj
    obtain ⟨a1, a2, a3, a4, a5, a6⟩ := a (isLx_gS r).2.2 j1 v1 rfl hj
    obtain ⟨b1, b2, b3, b4, b5, b6⟩ := b (show r ≠ 0 by omega) j' v' e a3
    have a2 := a2 (isLx_gS r).1
    obtain ⟨w, hw⟩ := a5 (isLx_gS r).1
    rw [(isLx_gS r).2.1] at a4
    have b4 : v'.1.length + j1 ≤ j' + v1.1.length + 0 := b4
    exact ⟨by omega, fun _ => by omega, b3, by show _ ≤ _ + 0; omega, fun _ => b6 rfl _ _ hw, fun q => by cases q⟩
  · intro r j o v hr _ j' v' e hj
    injection e with e; injection e with e1 e2; subst e1; subst e2
    exact ⟨Nat.le_refl _, (fun q => by cases q), hj, by show _ ≤ _ + 0; omega, (fun q => by cases q), fun _ a ws q => ⟨a, q⟩⟩
  · intro r j o v f _ _; exact no
  · intro r j o v j1 f _ _ _; exact no
  · intro r j o v j1 j2 v2 f _ _ _ _; exact no
  · intro r j o v j1 j2 v2 v3 res r4 hr hx a hap b r0 j' v' e hj
    have r0 : r ≠ 0 := r0
    obtain ⟨n1, n2⟩ := nxT_ok hx
    have := lr r0 hr hj
    obtain ⟨a1, a2, a3, a4, a5, a6⟩ := a (isLx_gS r).2.2 j2 v2 rfl (by omega)
    obtain ⟨b1, b2, b3, b4, b5, b6⟩ := b r0 j' v' e a3
    have a2 := a2 (isLx_gS r).1
    obtain ⟨w, hw⟩ := a5 (isLx_gS r).1
    rw [(isLx_gS r).2.1] at a4
    have b4 : v'.1.length + j2 ≤ j' + v3.1.length + 0 := b4
    have hl3 : v3.1.length ≤ v2.1.length + 1 := by
      have hap : apD u n (tkV u n j) j v2 = .inl v3 := hap
      obtain ⟨k2, x2⟩ := v2
      match x2, hap with
      | [], hap => injection hap with hap; subst hap; exact Nat.le_succ _
      | [d], hap => injection hap with hap; subst hap; exact Nat.le_succ _
      | d :: e2 :: l, hap => have := (apD_l rfl hap).2; subst this; show (k2 ++ [_]).length ≤ _; rw [len1]; exact Nat.le_refl _
    refine ⟨by omega, (fun q => by cases q), b3, by show _ ≤ _ + 0; omega, (fun q => by cases q), fun _ a0 ws hv => ?_⟩
    rw [hv] at hw
    have h3 := (apD_l hw hap).2
    exact b6 rfl _ ws (by rw [h3])
  · intro r j o v j1 j2 v2 v3 r4 hr hx a hap r0 j' v' e hj
    have r0 : r ≠ 0 := r0
    obtain ⟨n1, n2⟩ := nxT_ok hx
    have := lr r0 hr hj
    injection e with e; injection e with e1 e2; subst e1; subst e2
    obtain ⟨a1, a2, a3, a4, a5, a6⟩ := a (isLx_gS r).2.2 _ v2 rfl (by omega)
    have a2 := a2 (isLx_gS r).1
    obtain ⟨w, hw⟩ := a5 (isLx_gS r).1
    rw [(isLx_gS r).2.1] at a4
    have hl3 : v3.1.length ≤ v2.1.length + 1 := by
      have hap : apD u n (tkV u n j) j v2 = .inl v3 := hap
      obtain ⟨k2, x2⟩ := v2
      match x2, hap with
      | [], hap => injection hap with hap; subst hap; exact Nat.le_succ _
      | [d], hap => injection hap with hap; subst hap; exact Nat.le_succ _
      | d :: e2 :: l, hap => have := (apD_l rfl hap).2; subst this; show (k2 ++ [_]).length ≤ _; rw [len1]; exact Nat.le_refl _
    refine ⟨by omega, (fun q => by cases q), a3, by show _ ≤ _ + 0; omega, (fun q => by cases q), fun _ a0 ws hv => ?_⟩
    rw [hv] at hw
    have h3 := (apD_l hw hap).2
    exact ⟨_, by rw [h3]⟩
  · intro j o v f _; exact no
  · intro j o v j1 v1 a _ _ j' v' e hj
    injection e with e; injection e with e1 e2; subst e1; subst e2
    exact a trivial _ _ rfl hj
  · intro j o v j1 v1 _ _ _; exact no
  · intro j o v j1 v1 _ _ _ _; exact no
  · intro j o v j1 v1 f _ _ _ _ _; exact no
  · intro j o v j1 v1 j2 f _ _ _ _ _ _; exact no
  · intro j o v j1 v1 j2 j3 v2 f _ _ _ _ _ _ _; exact no
  · intro j o v j1 v1 j2 j3 v2 j4 f _ _ _ _ _ _ _ _; exact no
  · intro j o v j1 v1 j2 j3 v2 j4 j5 v3 f _ _ _ _ _ _ _ _ _; exact no
  · intro j o v j1 v1 j2 j3 v2 j4 j5 v3 v4 a hq ho ht hx b hk g hh _ j' v' e hj
    injection e with e; injection e with e1 e2; subst e1; subst e2
    obtain ⟨a1, a2, a3, a4, a5, a6⟩ := a trivial j1 v1 rfl hj
    obtain ⟨n1, n2⟩ := nxT_ok hx
    have q3 : tkK u n j1 = 3 := by
      unfold OM.q at hq; rw [Bool.and_eq_true] at hq; exact isS_K hq.2
    have := lt3 hL q3 a3
    obtain ⟨b1, b2, b3, b4, b5, b6⟩ := b trivial j3 v2 rfl (by omega)
    obtain ⟨k1, k2, k3⟩ := tkT_ok hk
    have := lt3 hL k3 b3
    obtain ⟨g1, g2, g3, g4, g5, g6⟩ := g trivial _ v3 rfl (by omega)
    have a2 := a2 rfl
    obtain ⟨wa, ha⟩ := a5 rfl
    obtain ⟨wb, hb⟩ := b5 rfl
    obtain ⟨wc, hc⟩ := g5 rfl
    have h4 := (chD_l (v := v3) (by rw [hc, hb, ha]) hh).2
    have a4 : v1.1.length + j ≤ j1 + v.1.length + 0 := a4
    have b4 : v2.1.length + j2 ≤ j3 + v1.1.length + 0 := b4
    have g4 : v3.1.length + j4 ≤ _ + v2.1.length + 0 := g4
    have hl4 : v4.1.length = v3.1.length + 1 := by rw [h4]; exact len1
    exact ⟨by omega, fun _ => by omega, g3, by show _ ≤ _ + 0; omega, fun _ => ⟨wb, by rw [h4]⟩, fun q => by cases q⟩
  · intro b j o v f _ _; exact no
  · intro b j o v j1 res h1 hx a _ j' v' e hj
    obtain ⟨n1, n2⟩ := nxT_ok hx
    have := l3 h1 hj
    obtain ⟨a1, a2, a3, a4, a5, a6⟩ := a trivial j' v' e (by omega)
    refine ⟨by omega, fun _ => by omega, a3, ?_, a5, fun q => by cases q⟩
    cases b
    · have a4 : v'.1.length + j1 ≤ j' + v.1.length + 1 := a4
      show _ ≤ _ + 0; omega
    · have a4 : v'.1.length + j1 ≤ j' + v.1.length + 0 := a4
      show _ ≤ _ + 1; omega
  · intro b j o v j1 v1 h1 a _ j' v' e hj
    injection e with e; injection e with e1 e2; subst e1; subst e2
    obtain ⟨a1, a2, a3, a4, a5, a6⟩ := a trivial _ v1 rfl hj
    have a4 : v1.1.length + j ≤ _ + v.1.length + 0 := a4
    cases b
    · exact ⟨a1, a2, a3, a4, a5, fun q => by cases q⟩
    · refine ⟨a1, a2, a3, ?_, a5, fun q => by cases q⟩
      show (v1.1 ++ [_]).length + j ≤ _ + 1
      rw [len1]; omega
  · intro b j o v f _ _; exact no
  · intro j o v _ _; exact no
  · intro j o v f _ _ _; exact no
  · intro j o v j1 f _ _ _ _; exact no
  · intro j o v j1 j2 v2 f _ _ _ _ _; exact no
  · intro j o v j1 j2 v2 j3 h1 ho hx a hk _ j' v' e hj
    injection e with e; injection e with e1 e2; subst e1; subst e2
    obtain ⟨n1, n2⟩ := nxT_ok hx
    have := l3 h1 hj
    obtain ⟨a1, a2, a3, a4, a5, a6⟩ := a trivial j2 _ rfl (by omega)
    obtain ⟨k1, k2, k3⟩ := tkT_ok hk
    have := lt3 hL k3 a3
    have a4 : v2.1.length + j1 ≤ j2 + v.1.length + 0 := a4
    exact ⟨by omega, fun _ => by omega, by omega, by show _ ≤ _ + 0; omega, fun _ => a5 rfl, fun q => by cases q⟩
  · intro j o v h1 _ j' v' e hj
    have e : oB (opD u n ms cur j) (fun t => (.inl (t.1, v.1 ++ t.2.1, t.2.2 :: v.2) : Rv VD)) = .inl (j', v') := e
    obtain ⟨s, e1, e2⟩ := oB_inv e
    injection e2 with e2; injection e2 with e3 e4; subst e3; subst e4
    obtain ⟨a1, a2, a3, a4⟩ := opD_k s e1
    exact ⟨by omega, fun _ => a1, a4 N hL hj, by show (v.1 ++ s.2.1).length + j ≤ _ + 0; rw [List.length_append]; omega, fun _ => ⟨s.2.2, rfl⟩, fun q => by cases q⟩
end DGR
