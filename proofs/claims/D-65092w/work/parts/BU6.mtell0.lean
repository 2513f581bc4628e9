/-! the reference tells designs: expressions without nodes (mode 0) -/
def RvW : List Int → Sto → Prop
  | [], _ => True
  | w :: l, S => gI S 2021 l.length = w ∧ (1 ≤ w ∧ w ≤ 8) ∧ RvW l S
theorem RvW.cg {S z : Sto} : ∀ {v : List Int}, RvW v S → (∀ i, i < v.length → gI z 2021 i = gI S 2021 i) → RvW v z
  | [], _, _ => trivial
  | _ :: l, h, g => ⟨(g _ (Nat.lt_succ_self _)).trans h.1, h.2.1, RvW.cg h.2.2 (fun i hi => g i (Nat.lt_succ_of_lt hi))⟩
def Rp0 (u : Nat → Int) (n N : Nat) (ms : List Mdl) (cur : Mdl) (M : Nat) (v : VD) (S : Sto) : Prop := RvW v.2 S ∧ RCx u n N ms cur M S
section MTE
variable {S z y : Sto} {u : Nat → Int} {n N h M sl : Nat} {q : Qq} {ms : List Mdl} {cur : Mdl} {j b i : Nat} {f : Int × Int} {md w : Int} {v : VD}
theorem Rp0.ch (h' : Rp0 u n N ms cur M v S) {P : Nat → Nat → Prop} (g : ChW P S z) (e : ∀ a i, P a i → a ≠ 2021 ∧ ¬ (2009 ≤ a ∧ a ≤ 2013) ∧ ¬ (a = 2000 ∧ i = 28)) : Rp0 u n N ms cur M v z :=
  ⟨h'.1.cg (fun i _ => g.1 _ _ (fun q => (e _ _ q).1 rfl)), h'.2.ch g (fun a i q => (e a i q).2)⟩
/-- an operand, in both modes -/
theorem m_midD (t : MTk u n N S) (hq : MsQ u n N S (.inl j)) (hc : RCx u n N ms cur M S) (h27 : gI S 2000 27 = md) (hmd : md = 0 ∨ md = 1) (h34 : gI S 2000 34 = (h : Int)) (hh : h ≤ 1000) (h29 : md = 1 → gI S 2000 29 = (sl : Int) ∧ sl ≤ 15) :
    WP (mMid S) (fun y => ChW (PPl h) S y ∧ mNa u n N h md S sl (opD u n ms cur j) y) := by
  have h9 : gI S 2000 9 = (j : Int) := hq.2.1
  have hj : j ≤ N := hq.2.2.1
  unfold mMid opD
  rw [w32_gI, h27, if_neg (show ¬ md = 2 by omega), h9, t.k hj, t.k hj, tkK_id]
  by_cases k2 : tkK u n j = 2
  · rw [if_pos k2, if_pos k2]
    refine WP_call (m_plain t hq k2 h34 hh) (fun y hy => WP_some.2 ⟨hy.1, ?_⟩)
    have y2 := hy.2
    cases hC : conD u n j with
    | inr f => rw [hC] at y2; exact y2
    | inl r =>
      rw [hC] at y2
      obtain ⟨r1, l, r3⟩ := r
      obtain ⟨y3, y4, y5, y6⟩ := y2
      have y5 : l = [(0, tkV u n j, r3)] := y5
      subst y5
      have hw : 1 ≤ r3 ∧ r3 ≤ 8 := by
        unfold conD at hC
        obtain ⟨a, h1, hC⟩ := oB_inv hC
        obtain ⟨b, h2, hC⟩ := oB_inv hC
        obtain ⟨c, h3, hC⟩ := oB_inv hC
        obtain ⟨n1, n2, n3, n4, n5⟩ := nuT_ok h3
        split at hC
        · cases hC
        · injection hC with hC
          injection hC with e1 e2
          injection e2 with e2 e3
          omega
      refine ⟨y3, y4, hw, fun q i hi => ?_⟩
      have hi : (i : Int) < r3 := hi
      show gI y 2022 (8 * h + i) = roB S sl (0, tkV u n j, r3) i
      rw [y6 i (by omega)]
      unfold roB
      rw [if_pos rfl]
  · rw [if_neg k2, if_neg k2]
    by_cases k1 : tkK u n j = 1
    · rw [if_pos k1, if_pos k1]
      exact WP_call (m_named t hq k1 hc h27 hmd h34 hh h29) (fun y hy => WP_some.2 hy)
    · rw [if_neg k1, if_neg k1]
      have hf := m_flaw t hq (c := 2) (by omega)
      rw [h9] at hf
      exact WP_call hf (fun y hy => WP_some.2 ⟨ChW.refl.tr hy.2 (fun a i q => PG9_pl a i (PF10_G9 a i q)), hy.1⟩)
/-- turning in the modes 0 and 1 -/
theorem m_turnD (h27 : gI S 2000 27 = md) (hmd : md = 0 ∨ md = 1) (h34 : gI S 2000 34 = ((h + 1 : Nat) : Int)) (hh : h + 1 ≤ 1000) : WP (lpF (mX23_turn_L33 S) (0, S)) (fun z => ChW (fun a i => a = 2022 ∧ 8 * h ≤ i ∧ i < 8 * h + 8) S z ∧ ∀ i, i < 8 → gI z 2022 (8 * h + i) = w32 (aXor (gI S 2022 (8 * h + i)) 1)) := by
  have e8 : ∀ k : Nat, (8 * (gI S 2000 34 - 1)) + (k : Int) = ((8 * h + k : Nat) : Int) := fun k => by omega
  refine WP_cnt 8 (fun k s => s.1 = (k : Int) ∧ ChW (fun a i => a = 2022 ∧ 8 * h ≤ i ∧ i < 8 * h + 8) S s.2 ∧ (∀ i, i < k → gI s.2 2022 (8 * h + i) = w32 (aXor (gI S 2022 (8 * h + i)) 1)) ∧ ∀ i, k ≤ i → gI s.2 2022 (8 * h + i) = gI S 2022 (8 * h + i)) (by decide) ⟨rfl, ChW.refl, fun i hi => absurd hi (by omega), fun i _ => rfl⟩ (fun k s hk hs => ?_) (fun s hs => ?_)
  · obtain ⟨s1, s2⟩ := s
    obtain ⟨a1, a2, a3, a4⟩ := hs
    dsimp only at a1 a2 a3 a4
    subst a1
    have s27 : gI s2 2000 27 = md := (a2.1 _ _ (by omega)).trans h27
    unfold mX23_turn_L33
    dsimp only
    rw [w32_id (by omega), if_pos (by omega), e8 k, rdI_e (by omega), Int.toNat_natCast, w32_gI, s27, if_neg (show ¬ md = 2 by omega), wrI_e (by omega), Int.toNat_natCast]
    refine WP_some.2 ⟨by dsimp only; omega, a2.sI ⟨rfl, by omega, by omega⟩, fun i hi => ?_, fun i hi => ?_⟩
    · dsimp only
      by_cases e : i = k
      · rw [e, gI_sI_eq, a4 k (by omega)]
      · rw [hI_sI_i (by omega)]; exact a3 i (by omega)
    · dsimp only
      rw [hI_sI_i (by omega)]; exact a4 i (by omega)
  · obtain ⟨s1, s2⟩ := s
    obtain ⟨a1, a2, a3, a4⟩ := hs
    dsimp only at a1 a2 a3 a4
    subst a1
    unfold mX23_turn_L33
    dsimp only
    rw [w32_id (by omega), if_neg (by omega)]
    exact WP_some.2 ⟨a2, a3⟩
end MTE
