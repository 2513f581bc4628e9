/-! the reference gathers cuts -/
def MtD (z : Sto) (l : List Nat) : Prop := gI z 2000 123 = (l.length : Int) ∧ ∀ i, i < l.length → gI z 2095 i = ((l.getD i 0 : Nat) : Int)
def SlC (z : Sto) (k : Nat) (c : List Nat) : Prop := gI z 2087 k = (c.length : Int) ∧ ∀ i, i < c.length → gI z 2088 (3 * k + i) = ((c.getD i 0 : Nat) : Int)
def RcF (z : Sto) (N : Nat) (F : Nat → List Nat) : Prop := gI z 2000 114 = (N : Int) ∧ ∀ k, k < N → SlC z k (F k)
abbrev RcD (z : Sto) (K : List (List Nat)) : Prop := RcF z K.length (fun k => K.getD k [])
def PMt (a i : Nat) : Prop := a = 2095 ∨ (a = 2000 ∧ i = 123)
def PMu (a i : Nat) : Prop := (a = 2000 ∧ (i = 114 ∨ i = 123)) ∨ a = 2087 ∨ a = 2088 ∨ a = 2095
section MCUTS
variable {S z : Sto} {G : Dsg} {d n i k N : Nat} {l m c : List Nat} {K M : List (List Nat)} {F : Nat → List Nat}
theorem MtD.mv (h : MtD S l) (e0 : gI z 2000 123 = gI S 2000 123) (e : ∀ i, gI z 2095 i = gI S 2095 i) : MtD z l := ⟨e0.trans h.1, fun i hi => (e i).trans (h.2 i hi)⟩
theorem SlC.mv (h : SlC S k c) (e : ∀ a i, 2087 ≤ a → a ≤ 2088 → gI z a i = gI S a i) : SlC z k c := ⟨(e _ _ (by omega) (by omega)).trans h.1, fun i hi => (e _ _ (by omega) (by omega)).trans (h.2 i hi)⟩
theorem RcF.mv (h : RcF S N F) (e0 : gI z 2000 114 = gI S 2000 114) (e : ∀ a i, 2087 ≤ a → a ≤ 2088 → gI z a i = gI S a i) : RcF z N F := ⟨e0.trans h.1, fun k hk => (h.2 k hk).mv e⟩
theorem MGx.cw {Pp : Nat → Nat → Prop} (w : WFG G) (h : MGx S d G) (g : ChW Pp S z) (q : ∀ a i, Pp a i → a = 2000 ∧ i ≠ 105 ∨ 2053 < a) : MGx z d G := h.mv w (fun a i l1 l2 => g.1 a i (fun k => by have := q a i k; omega)) (g.1 _ _ (fun k => by have := q _ _ k; omega))
theorem m_put (h : MtD S l) (hl : l.length ≤ 7) (hb : ∀ i, l.getD i 0 < 5000) (hn : n < 5000) : WP (mX23_put S (n : Int)) (fun y => MtD y (insN n l) ∧ ChW PMt S y) := by
  unfold mX23_put
  have h0 := h.1
  refine WP_call (R := fun t => ∃ t' : Nat, t = (t' : Int) ∧ t' ≤ l.length ∧ (∀ i, i < t' → l.getD i 0 < n) ∧ (t' = l.length ∨ n ≤ l.getD t' 0)) ?_ (fun t ht => ?_)
  · refine WP_lpM (fun s m => ∃ t : Nat, s = (t : Int) ∧ t ≤ l.length ∧ l.length - t ≤ m ∧ ∀ i, i < t → l.getD i 0 < n) (fun s m hI => ?_) (m := 8) ⟨0, rfl, Nat.zero_le _, by omega, fun i hi => absurd hi (Nat.not_lt_zero _)⟩ (by unfold cFU; omega)
    obtain ⟨t, rfl, b1, b2, b3⟩ := hI
    unfold mX23_put_L2
    rw [h0, w32_id (x := (t : Int)) (by omega), w32_id (x := (l.length : Int)) (by omega)]
    by_cases q : t < l.length
    · have := hb t
      rw [if_pos (by omega), rdI_e (by omega), Int.toNat_natCast, h.2 t q, w32_id (by omega), w32_id (by omega)]
      by_cases q2 : l.getD t 0 < n
      · rw [if_pos (by omega), bX_some, if_pos rfl]
        refine WP_some.2 ⟨m - 1, by omega, t + 1, by omega, by omega, by omega, fun i hi => ?_⟩
        by_cases e : i = t
        · rw [e]; exact q2
        · exact b3 i (by omega)
      · rw [if_neg (by omega), bX_some, if_neg (by decide)]
        exact WP_some.2 ⟨t, rfl, b1, b3, .inr (by omega)⟩
    · rw [if_neg (by omega), bX_some, if_neg (by decide)]
      exact WP_some.2 ⟨t, rfl, b1, b3, .inl (by omega)⟩
  · obtain ⟨t, rfl, t1, t2, t3⟩ := ht
    obtain ⟨p1, p2⟩ := insN_pos l t t1 t2 t3
    have cond : (if w32 (t : Int) < w32 (gI S 2000 123) then rdI 8 S 2095 (t : Int) fun v4 => if w32 v4 = w32 (n : Int) then some true else some false else some false) = some (decide (t < l.length ∧ l.getD t 0 = n)) := by
      rw [h0, w32_id (x := (t : Int)) (by omega), w32_id (x := (l.length : Int)) (by omega)]
      by_cases q : t < l.length
      · have := hb t
        rw [if_pos (by omega), rdI_e (by omega), Int.toNat_natCast, h.2 t q, w32_id (by omega), w32_id (by omega)]
        by_cases q2 : l.getD t 0 = n
        · rw [if_pos (by omega), decide_eq_true ⟨q, q2⟩]
        · rw [if_neg (by omega), decide_eq_false (fun g => q2 g.2)]
      · rw [if_neg (by omega), decide_eq_false (fun g => q g.1)]
    rw [cond, bX_some]
    by_cases q : t < l.length ∧ l.getD t 0 = n
    · rw [decide_eq_true q, if_pos rfl]
      have e := p1 q
      exact WP_some.2 ⟨by rw [e]; exact h, ChW.refl⟩
    · obtain ⟨q1, q2⟩ := p2 q
      rw [decide_eq_false q, if_neg (by decide), h0]
      refine WP_call (R := fun z => ChW (fun a _ => a = 2095) S z ∧ (∀ j, j < t → gI z 2095 j = ((l.getD j 0 : Nat) : Int)) ∧ ∀ j, t < j → j ≤ l.length → gI z 2095 j = ((l.getD (j - 1) 0 : Nat) : Int)) ?_ (fun z hz => ?_)
      · refine WP_cnt (l.length - t) (fun i s => s.1 = ((l.length - i : Nat) : Int) ∧ ChW (fun a _ => a = 2095) S s.2 ∧ (∀ j, j ≤ l.length - i → j < l.length → gI s.2 2095 j = ((l.getD j 0 : Nat) : Int)) ∧ ∀ j, l.length - i < j → j ≤ l.length → gI s.2 2095 j = ((l.getD (j - 1) 0 : Nat) : Int)) (by unfold cFU; omega) ⟨rfl, ChW.refl, fun j _ hj => h.2 j hj, fun j h1 h2 => by omega⟩ (fun i s hi hI => ?_) (fun s hI => ?_)
        · obtain ⟨s1, s2⟩ := s
          obtain ⟨b1, b2, b3, b4⟩ := hI
          dsimp only at b1 b2 b3 b4
          obtain ⟨x, hx⟩ : ∃ x, x = l.length - i := ⟨_, rfl⟩
          rw [← hx] at b1 b3 b4
          subst b1
          have e : (x : Int) - 1 = ((x - 1 : Nat) : Int) := by omega
          have := hb (x - 1)
          unfold mX23_put_L50
          dsimp only
          rw [w32_id (x := (t : Int)) (by omega), w32_id (x := (x : Int)) (by omega), if_pos (by omega), e, rdI_e (by omega), Int.toNat_natCast, b3 (x - 1) (by omega) (by omega), wrI_e (by omega), Int.toNat_natCast]
          refine WP_some.2 ⟨by show (x : Int) + -1 = _; omega, b2.sI rfl, fun j h1 h2 => ?_, fun j h1 h2 => ?_⟩
          · dsimp only
            rw [hI_sI_i (by omega)]; exact b3 j (by omega) h2
          · dsimp only
            by_cases g : j = x
            · rw [g, gI_set, w32_id (by omega)]
            · rw [hI_sI_i g]; exact b4 j (by omega) h2
        · obtain ⟨s1, s2⟩ := s
          obtain ⟨b1, b2, b3, b4⟩ := hI
          dsimp only at b1 b2 b3 b4
          unfold mX23_put_L50
          dsimp only
          rw [b1, w32_id (x := (t : Int)) (by omega), w32_id (by omega), if_neg (by omega)]
          exact WP_some.2 ⟨b2, fun j hj => b3 j (by omega) (by omega), fun j h1 h2 => b4 j (by omega) h2⟩
      · obtain ⟨z1, z2, z3⟩ := hz
        have f0 : gI z 2000 123 = (l.length : Int) := (z1.1 _ _ (by omega)).trans h0
        rw [wrI_e (by omega), Int.toNat_natCast, wf_eq, hI_sI_a (by omega), f0]
        refine WP_some.2 ⟨⟨by rw [gI_set, q1, w32_id (by omega)]; omega, fun j hj => ?_⟩, ((ChW.refl.tr z1 (fun a i g => .inl g)).sI (.inl rfl)).sI (.inr ⟨rfl, rfl⟩)⟩
        rw [hI_sI_a (by omega), q2 j]
        by_cases g1 : j < t
        · rw [hI_sI_i (by omega), if_pos g1]; exact z2 j g1
        · rw [if_neg g1]
          by_cases g2 : j = t
          · rw [g2, gI_set, if_pos rfl, w32_id (by omega)]
          · rw [hI_sI_i g2, if_neg g2]; exact z3 j (by omega) (by omega)
theorem m_keep49 (hK : RcD S K) (hm : MtD S m) (hk : k < K.length) (hl : m.length ≤ 3) (h63 : K.length ≤ 63) (hb : ∀ c ∈ K, ∀ i, c.getD i 0 < 5000) (hbm : ∀ i, m.getD i 0 < 5000) :
    lpF (mX23_keepCut_L49 S (k : Int)) ((if w32 ((K.getD k []).length : Int) = w32 (m.length : Int) then 1 else 0), 0) = some (if K.getD k [] = m then 1 else 0) := by
  obtain ⟨k1, k2⟩ := hK.2 k hk
  have k1 : gI S 2087 k = ((K.getD k []).length : Int) := k1
  have k2 : ∀ i, i < (K.getD k []).length → gI S 2088 (3 * k + i) = (((K.getD k []).getD i 0 : Nat) : Int) := k2
  have rk := gI_rng S 2087 k
  rw [k1] at rk
  have hm0 := hm.1
  refine WP.of ?_
  refine WP_lpM (fun s μ => ∃ i : Nat, s.2 = (i : Int) ∧ i ≤ m.length ∧ m.length - i ≤ μ ∧ ((s.1 = 1 ∧ (K.getD k []).length = m.length ∧ ∀ j, j < i → (K.getD k []).getD j 0 = m.getD j 0) ∨ (s.1 = 0 ∧ K.getD k [] ≠ m))) (fun s μ hI => ?_) (m := 4) ⟨0, rfl, Nat.zero_le _, by omega, ?_⟩ (by unfold cFU; omega)
  · obtain ⟨s1, s2⟩ := s
    obtain ⟨i, b1, b2, b3, b4⟩ := hI
    dsimp only at b1 b4
    subst b1
    unfold mX23_keepCut_L49
    dsimp only
    rw [hm0, w32_id (x := (i : Int)) (by omega), w32_id (x := (m.length : Int)) (by omega)]
    by_cases q : i < m.length
    · rw [if_pos (by omega)]
      rcases b4 with ⟨rfl, b4, b5⟩ | ⟨rfl, b4⟩
      · have zt : (3 * (k : Int) + (i : Int)).toNat = 3 * k + i := by omega
        have u1 := hb _ (getD_mem (d := []) hk) i
        have u2 := hbm i
        rw [if_pos (by decide), bX_some, if_pos rfl, rdI_e (by omega), zt, k2 i (by omega), rdI_e (by omega), Int.toNat_natCast, hm.2 i q, w32_id (by omega), w32_id (by omega)]
        refine WP_some.2 ⟨μ - 1, by omega, i + 1, by show (i : Int) + 1 = _; omega, by omega, by omega, ?_⟩
        dsimp only
        by_cases e : (K.getD k []).getD i 0 = m.getD i 0
        · rw [if_pos (by omega)]
          refine .inl ⟨rfl, b4, fun j hj => ?_⟩
          by_cases g : j = i
          · rw [g]; exact e
          · exact b5 j (by omega)
        · rw [if_neg (by omega)]
          exact .inr ⟨rfl, fun g => e (by rw [g])⟩
      · rw [if_neg (by decide), bX_some, if_neg (by decide)]
        exact WP_some.2 (by show (0 : Int) = _; rw [if_neg b4])
    · rw [if_neg (by omega), bX_some, if_neg (by decide)]
      refine WP_some.2 ?_
      show s1 = _
      rcases b4 with ⟨rfl, b4, b5⟩ | ⟨rfl, b4⟩
      · rw [if_pos (getD_ext b4 (fun j hj => b5 j (by omega)))]
      · rw [if_neg b4]
  · dsimp only
    rw [w32_id rk, w32_id (by omega)]
    by_cases e : (K.getD k []).length = m.length
    · rw [if_pos (by omega)]; exact .inl ⟨rfl, e, fun j hj => absurd hj (Nat.not_lt_zero _)⟩
    · rw [if_neg (by omega)]; exact .inr ⟨rfl, fun g => e (by rw [g])⟩
theorem m_keepCut (hK : RcD S K) (hm : MtD S m) (h4 : m.length ≤ 4) (h63 : K.length ≤ 63) (h3 : ∀ c ∈ K, c.length ≤ 3) (hb : ∀ c ∈ K, ∀ i, c.getD i 0 < 5000) (hbm : ∀ i, m.getD i 0 < 5000) : WP (mX23_keepCut S) (fun z => RcD z (addK K m) ∧ ChW PMu S z) := by
  have hm0 := hm.1
  have hK0 : gI S 2000 114 = (K.length : Int) := hK.1
  unfold mX23_keepCut
  by_cases q3 : m.length ≤ 3
  · have cond : (if w32 (gI S 2000 123) ≤ 3 then if w32 (gI S 2000 114) = 64 then some true else some false else some true) = some false := by
      rw [hm0, hK0, w32_id (by omega), w32_id (by omega), if_pos (by omega), if_neg (by omega)]
    rw [cond, bX_some, if_neg (by decide)]
    refine WP_bE.2 ?_
    by_cases q : m ∈ K
    · have ea : addK K m = K := if_neg (fun g => g.2 q)
      rw [ea]
      refine WP_lpM (fun s μ => ∃ k : Nat, s = (k : Int) ∧ k ≤ K.length ∧ K.length - k ≤ μ ∧ ∀ j, j < k → K.getD j [] ≠ m) (fun s μ hI => ?_) (m := 64) ⟨0, rfl, Nat.zero_le _, by omega, fun j h => absurd h (Nat.not_lt_zero _)⟩ (by unfold cFU; omega)
      obtain ⟨k, rfl, b1, b2, b3⟩ := hI
      unfold mX23_keepCut_L20
      rw [hK0, w32_id (by omega), w32_id (by omega)]
      by_cases hk : k < K.length
      · have k1 : gI S 2087 k = ((K.getD k []).length : Int) := (hK.2 k hk).1
        rw [if_pos (by omega), rdI_e (by omega), Int.toNat_natCast, k1, hm0, m_keep49 hK hm hk q3 h63 hb hbm, bX_some]
        by_cases e : K.getD k [] = m
        · rw [if_pos e, if_pos (by decide)]
          exact WP_some.2 ⟨hK, ChW.refl⟩
        · rw [if_neg e, if_neg (by decide)]
          refine WP_some.2 ⟨μ - 1, by omega, k + 1, by omega, by omega, by omega, fun j hj => ?_⟩
          by_cases g : j = k
          · rw [g]; exact e
          · exact b3 j (by omega)
      · exfalso
        obtain ⟨j, j1, j2⟩ := mem_getD [] q
        exact b3 j (by omega) j2
    · have ea : addK K m = K ++ [m] := if_pos ⟨q3, q⟩
      rw [ea]
      refine WP_lpM (fun s μ => ∃ k : Nat, s = (k : Int) ∧ k ≤ K.length ∧ K.length - k ≤ μ) (fun s μ hI => ?_) (m := 64) ⟨0, rfl, Nat.zero_le _, by omega⟩ (by unfold cFU; omega)
      obtain ⟨k, rfl, b1, b2⟩ := hI
      unfold mX23_keepCut_L20
      rw [hK0, w32_id (by omega), w32_id (by omega)]
      by_cases hk : k < K.length
      · have k1 : gI S 2087 k = ((K.getD k []).length : Int) := (hK.2 k hk).1
        rw [if_pos (by omega), rdI_e (by omega), Int.toNat_natCast, k1, hm0, m_keep49 hK hm hk q3 h63 hb hbm, bX_some, if_neg (show ¬ K.getD k [] = m from fun e => q (by rw [← e]; exact getD_mem hk)), if_neg (by decide)]
        exact WP_some.2 ⟨μ - 1, by omega, k + 1, by omega, by omega, by omega⟩
      · rw [if_neg (by omega)]
        refine WP_some.2 ?_
        show WP (wrI 64 S 2087 (K.length : Int) (gI S 2000 123) _) _
        rw [hm0, wrI_e (by omega), Int.toNat_natCast]
        obtain ⟨Y, hY⟩ : ∃ Y, Y = sI S 2087 K.length (m.length : Int) := ⟨_, rfl⟩
        rw [← hY]
        have cY : ChW PMu S Y := by rw [hY]; exact ChW.refl.sI (.inr (.inl rfl))
        have yo : ∀ a j, a ≠ 2087 → gI Y a j = gI S a j := fun a j g => by rw [hY, hI_sI_a g]
        refine WP_call (R := fun z => ChW (fun a j => a = 2088 ∧ 3 * K.length ≤ j) Y z ∧ ∀ j, j < m.length → gI z 2088 (3 * K.length + j) = ((m.getD j 0 : Nat) : Int)) ?_ (fun z hz => ?_)
        · refine WP_cnt m.length (fun i s => s.1 = (i : Int) ∧ ChW (fun a j => a = 2088 ∧ 3 * K.length ≤ j) Y s.2 ∧ ∀ j, j < i → gI s.2 2088 (3 * K.length + j) = ((m.getD j 0 : Nat) : Int)) (by unfold cFU; omega) ⟨rfl, ChW.refl, fun j h => absurd h (Nat.not_lt_zero _)⟩ (fun i s hi hI => ?_) (fun s hI => ?_)
          · obtain ⟨s1, s2⟩ := s
            obtain ⟨b1, b2, b3⟩ := hI
            dsimp only at b1 b2 b3
            subst b1
            have u := hbm i
            have f1 : gI s2 2095 i = ((m.getD i 0 : Nat) : Int) := (b2.1 _ _ (by omega)).trans ((yo _ _ (by omega)).trans (hm.2 i hi))
            have f2 : gI s2 2000 114 = (K.length : Int) := (b2.1 _ _ (by omega)).trans ((yo _ _ (by omega)).trans hK0)
            have f3 : gI s2 2000 123 = (m.length : Int) := (b2.1 _ _ (by omega)).trans ((yo _ _ (by omega)).trans hm0)
            have zt : (3 * (K.length : Int) + (i : Int)).toNat = 3 * K.length + i := by omega
            unfold mX23_keepCut_L118
            dsimp only
            rw [f3, w32_id (by omega), w32_id (by omega), if_pos (by omega), rdI_e (by omega), Int.toNat_natCast, f1, f2, wrI_e (by omega), zt]
            refine WP_some.2 ⟨by show (i : Int) + 1 = _; omega, b2.sI ⟨rfl, by omega⟩, fun j hj => ?_⟩
            dsimp only
            by_cases g : j = i
            · rw [g, gI_set, w32_id (by omega)]
            · rw [hI_sI_i (by omega)]; exact b3 j (by omega)
          · obtain ⟨s1, s2⟩ := s
            obtain ⟨b1, b2, b3⟩ := hI
            dsimp only at b1 b2 b3
            subst b1
            have f3 : gI s2 2000 123 = (m.length : Int) := (b2.1 _ _ (by omega)).trans ((yo _ _ (by omega)).trans hm0)
            unfold mX23_keepCut_L118
            dsimp only
            rw [f3, if_neg (by omega)]
            exact WP_some.2 ⟨b2, b3⟩
        · obtain ⟨z1, z2⟩ := hz
          have f2 : gI z 2000 114 = (K.length : Int) := (z1.1 _ _ (by omega)).trans ((yo _ _ (by omega)).trans hK0)
          rw [wf_eq, f2]
          have cz : ChW PMu S z := cY.tr z1 (fun a i g => .inr (.inr (.inl g.1)))
          have el : (K ++ [m]).length = K.length + 1 := by rw [List.length_append]; rfl
          refine WP_some.2 ⟨⟨by rw [gI_set, el, w32_id (by omega)]; omega, fun k hk => ?_⟩, cz.sI (.inl ⟨rfl, .inl rfl⟩)⟩
          rw [el] at hk
          show SlC _ k ((K ++ [m]).getD k [])
          rw [getD_snoc]
          by_cases g : k < K.length
          · have h3k := h3 _ (getD_mem (d := []) g)
            have kk := hK.2 k g
            rw [if_pos g]
            refine ⟨?_, fun i hi => ?_⟩
            · rw [hI_sI_a (by omega), z1.1 _ _ (by omega), hY, hI_sI_i (by omega)]; exact kk.1
            · rw [hI_sI_a (by omega), z1.1 _ _ (by omega), yo _ _ (by omega)]; exact kk.2 i hi
          · have : k = K.length := by omega
            rw [if_neg g, if_pos this, this]
            refine ⟨by rw [hI_sI_a (by omega), z1.1 _ _ (by omega), hY, gI_set, w32_id (by omega)], fun i hi => ?_⟩
            rw [hI_sI_a (by omega)]; exact z2 i hi
  · have ea : addK K m = K := if_neg (fun g => q3 g.1)
    have cond : (if w32 (gI S 2000 123) ≤ 3 then if w32 (gI S 2000 114) = 64 then some true else some false else some true) = some true := by
      rw [hm0, w32_id (by omega), if_neg (by omega)]
    rw [cond, bX_some, if_pos rfl, ea]
    exact WP_some.2 ⟨hK, ChW.refl⟩
theorem m_isInner (h : MGx S d G) (w : WFG G) (hd : d < 6) (hr : ∀ n, gFi G ≤ n → n < gNo G → gI S 2086 n = (bo (Rt G n) : Int)) {x : Nat} (hx : Wt G x) : mX23_isInner S (x : Int) = some (cI (InG G x) 1 0) := by
  have hn := no_le w
  have xl := Wt_lt w hx
  have nn := w.nums
  unfold mX23_isInner
  rw [h.1, rdI_e (by omega), Int.toNat_natCast, h.first w, w32_id (by omega), w32_id (by omega)]
  by_cases q : gFi G ≤ x
  · rw [if_pos (by omega), rdZ_e (by omega), Int.toNat_natCast, w32_bz, hr x q xl]
    by_cases r : Rt G x
    · rw [bo_t r, if_neg (by decide), bX_some, if_neg (by decide), bX_some, gz_0, cI_f (fun g => g.2.2.2 r)]
    · rw [bo_f r, if_pos (by decide), bX_some, if_pos rfl, bX_some, gz_1, cI_t ⟨q, xl, hx, r⟩]
  · rw [if_neg (by omega), bX_some, if_neg (by decide), bX_some, gz_0, cI_f (fun g => q g.1)]
end MCUTS
