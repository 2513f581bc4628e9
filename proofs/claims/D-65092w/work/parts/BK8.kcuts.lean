/-! the class gathers and sorts cuts -/
def MgD (z : Sto) (l : List Nat) : Prop := ∀ i, i < l.length → gI z 211 i = ((l.getD i 0 : Nat) : Int)
def KcD (z : Sto) (K : List (List Nat)) : Prop := gI z 198 16 = (K.length : Int) ∧ ∀ k, k < K.length → gI z 208 k = ((K.getD k []).length : Int) ∧ ∀ i, i < (K.getD k []).length → gI z 209 (3 * k + i) = (((K.getD k []).getD i 0 : Nat) : Int)
def SoD (z : Sto) (K : List (List Nat)) (i : Nat) : Prop := ∀ t, t < i → ∃ j, j < i ∧ gI z 210 t = (j : Int) ∧ K.getD j [] = (stC K i).getD t []
def PCu (a i : Nat) : Prop := (a = 198 ∧ i = 16) ∨ (208 ≤ a ∧ a ≤ 211)
theorem getD_ext {l m : List Nat} (h : l.length = m.length) (g : ∀ i, i < l.length → l.getD i 0 = m.getD i 0) : l = m := by
  refine List.ext_getElem h (fun i h1 h2 => ?_)
  have := g i h1
  rw [List.getD_eq_getElem?_getD, List.getD_eq_getElem?_getD, List.getElem?_eq_getElem h1, List.getElem?_eq_getElem h2] at this
  exact this
section KCUTS
variable {S z : Sto} {G : Dsg} {d n i k : Nat} {l m c : List Nat} {K : List (List Nat)}
theorem MgD.mv (h : MgD S l) (e : ∀ i, gI z 211 i = gI S 211 i) : MgD z l := fun i hi => (e i).trans (h i hi)
theorem KcD.mv (h : KcD S K) (e0 : gI z 198 16 = gI S 198 16) (e : ∀ a i, 208 ≤ a → a ≤ 209 → gI z a i = gI S a i) : KcD z K := ⟨e0.trans h.1, fun k hk => ⟨(e _ _ (by omega) (by omega)).trans (h.2 k hk).1, fun i hi => (e _ _ (by omega) (by omega)).trans ((h.2 k hk).2 i hi)⟩⟩
theorem KGx.cw {Pp : Nat → Nat → Prop} (h : KGx S d G) (g : ChW Pp S z) (q : ∀ a i, Pp a i → a < 273) : KGx z d G := h.mv (fun a i l1 l2 => g.1 a i (fun k => by have := q a i k; omega)) (g.2.2.1 _ _)
theorem k_insert (h : MgD S l) (hl : l.length ≤ 3) (hb : ∀ i, l.getD i 0 < 5000) (hn : n < 5000) : WP (mX12_insert S (l.length : Int) (n : Int)) (fun y => y.1 = ((insN n l).length : Int) ∧ MgD y.2 (insN n l) ∧ ChW (fun a _ => a = 211) S y.2) := by
  unfold mX12_insert
  refine WP_call (R := fun t => ∃ t' : Nat, t = (t' : Int) ∧ t' ≤ l.length ∧ (∀ i, i < t' → l.getD i 0 < n) ∧ (t' = l.length ∨ n ≤ l.getD t' 0)) ?_ (fun t ht => ?_)
  · refine WP_lpM (fun s m => ∃ t : Nat, s = (t : Int) ∧ t ≤ l.length ∧ l.length - t ≤ m ∧ ∀ i, i < t → l.getD i 0 < n) (fun s m hI => ?_) (m := 4) ⟨0, rfl, Nat.zero_le _, by omega, fun i hi => absurd hi (Nat.not_lt_zero _)⟩ (by unfold cFU; omega)
    obtain ⟨t, rfl, b1, b2, b3⟩ := hI
    unfold mX12_insert_L2
    rw [w32_id (x := (t : Int)) (by omega), w32_id (x := (l.length : Int)) (by omega)]
    by_cases q : t < l.length
    · have := hb t
      rw [if_pos (by omega), rdI_e (by omega), Int.toNat_natCast, h t q, w32_id (by omega), w32_id (by omega)]
      by_cases q2 : l.getD t 0 < n
      · rw [if_pos (by omega), bX_some, if_pos rfl]
        refine WP_some.2 ⟨m - 1, by omega, t + 1, by omega, by omega, by omega, fun i hi => ?_⟩
        by_cases e : i = t
        · rw [e]; exact q2
        · exact b3 i (by omega)
      · rw [if_neg (by omega), bX_some, if_neg (by decide)]
        exact WP_some.2 ⟨t, rfl, b1, b3, .inr (by omega)⟩
    · rw [if_neg (by omega), bX_some, if_neg (by decide)]
      exact WP_some.2 ⟨t, rfl, b1, b3, .inl (by omega)⟩
  · obtain ⟨t, rfl, t1, t2, t3⟩ := ht
    obtain ⟨p1, p2⟩ := insN_pos l t t1 t2 t3
    have cond : (if w32 (t : Int) < w32 (l.length : Int) then rdI 4 S 211 (t : Int) fun v4 => if w32 v4 = w32 (n : Int) then some true else some false else some false) = some (decide (t < l.length ∧ l.getD t 0 = n)) := by
      rw [w32_id (x := (t : Int)) (by omega), w32_id (x := (l.length : Int)) (by omega)]
      by_cases q : t < l.length
      · have := hb t
        rw [if_pos (by omega), rdI_e (by omega), Int.toNat_natCast, h t q, w32_id (by omega), w32_id (by omega)]
        by_cases q2 : l.getD t 0 = n
        · rw [if_pos (by omega), decide_eq_true ⟨q, q2⟩]
        · rw [if_neg (by omega), decide_eq_false (fun g => q2 g.2)]
      · rw [if_neg (by omega), decide_eq_false (fun g => q g.1)]
    rw [cond, bX_some]
    by_cases q : t < l.length ∧ l.getD t 0 = n
    · rw [decide_eq_true q, if_pos rfl]
      have e := p1 q
      exact WP_some.2 ⟨by rw [e], by rw [e]; exact h, ChW.refl⟩
    · obtain ⟨q1, q2⟩ := p2 q
      rw [decide_eq_false q, if_neg (by decide)]
      refine WP_call (R := fun z => ChW (fun a _ => a = 211) S z ∧ (∀ j, j < t → gI z 211 j = ((l.getD j 0 : Nat) : Int)) ∧ ∀ j, t < j → j ≤ l.length → gI z 211 j = ((l.getD (j - 1) 0 : Nat) : Int)) ?_ (fun z hz => ?_)
      · refine WP_cnt (l.length - t) (fun i s => s.1 = ((l.length - i : Nat) : Int) ∧ ChW (fun a _ => a = 211) S s.2 ∧ (∀ j, j ≤ l.length - i → j < l.length → gI s.2 211 j = ((l.getD j 0 : Nat) : Int)) ∧ ∀ j, l.length - i < j → j ≤ l.length → gI s.2 211 j = ((l.getD (j - 1) 0 : Nat) : Int)) (by unfold cFU; omega) ⟨rfl, ChW.refl, fun j _ hj => h j hj, fun j h1 h2 => by omega⟩ (fun i s hi hI => ?_) (fun s hI => ?_)
        · obtain ⟨s1, s2⟩ := s
          obtain ⟨b1, b2, b3, b4⟩ := hI
          dsimp only at b1 b2 b3 b4
          obtain ⟨x, hx⟩ : ∃ x, x = l.length - i := ⟨_, rfl⟩
          rw [← hx] at b1 b3 b4
          subst b1
          have e : (x : Int) - 1 = ((x - 1 : Nat) : Int) := by omega
          have := hb (x - 1)
          unfold mX12_insert_L43
          dsimp only
          rw [w32_id (x := (t : Int)) (by omega), w32_id (x := (x : Int)) (by omega), if_pos (by omega), e, rdI_e (by omega), Int.toNat_natCast, b3 (x - 1) (by omega) (by omega), wrI_e (by omega), Int.toNat_natCast]
          refine WP_some.2 ⟨by show (x : Int) + -1 = _; omega, b2.sI rfl, fun j h1 h2 => ?_, fun j h1 h2 => ?_⟩
          · dsimp only
            rw [hI_sI_i (by omega)]; exact b3 j (by omega) h2
          · dsimp only
            by_cases g : j = x
            · rw [g, gI_set, w32_id (by omega)]
            · rw [hI_sI_i g]; exact b4 j (by omega) h2
        · obtain ⟨s1, s2⟩ := s
          obtain ⟨b1, b2, b3, b4⟩ := hI
          dsimp only at b1 b2 b3 b4
          unfold mX12_insert_L43
          dsimp only
          rw [b1, w32_id (x := (t : Int)) (by omega), w32_id (by omega), if_neg (by omega)]
          exact WP_some.2 ⟨b2, fun j hj => b3 j (by omega) (by omega), fun j h1 h2 => b4 j (by omega) h2⟩
      · obtain ⟨z1, z2, z3⟩ := hz
        rw [wrI_e (by omega), Int.toNat_natCast]
        refine WP_some.2 ⟨by show (l.length : Int) + 1 = _; rw [q1]; omega, fun j hj => ?_, z1.sI rfl⟩
        dsimp only
        rw [q2 j]
        by_cases g1 : j < t
        · rw [hI_sI_i (by omega), if_pos g1]; exact z2 j g1
        · rw [if_neg g1]
          by_cases g2 : j = t
          · rw [g2, gI_set, if_pos rfl, w32_id (by omega)]
          · rw [hI_sI_i g2, if_neg g2]; exact z3 j (by omega) (by omega)
theorem k_isCut29 (hK : KcD S K) (hm : MgD S m) (hk : k < K.length) (hl : m.length ≤ 3) (h63 : K.length ≤ 63) (hb : ∀ c ∈ K, ∀ i, c.getD i 0 < 5000) (hbm : ∀ i, m.getD i 0 < 5000) :
    lpF (mX12_isCut_L29 (m.length : Int) S (k : Int)) ((if w32 ((K.getD k []).length : Int) = w32 (m.length : Int) then 1 else 0), 0) = some (if K.getD k [] = m then 1 else 0) := by
  obtain ⟨k1, k2⟩ := hK.2 k hk
  have rk := gI_rng S 208 k
  rw [k1] at rk
  refine WP.of ?_
  refine WP_lpM (fun s μ => ∃ i : Nat, s.2 = (i : Int) ∧ i ≤ m.length ∧ m.length - i ≤ μ ∧ ((s.1 = 1 ∧ (K.getD k []).length = m.length ∧ ∀ j, j < i → (K.getD k []).getD j 0 = m.getD j 0) ∨ (s.1 = 0 ∧ K.getD k [] ≠ m))) (fun s μ hI => ?_) (m := 4) ⟨0, rfl, Nat.zero_le _, by omega, ?_⟩ (by unfold cFU; omega)
  · obtain ⟨s1, s2⟩ := s
    obtain ⟨i, b1, b2, b3, b4⟩ := hI
    dsimp only at b1 b4
    subst b1
    unfold mX12_isCut_L29
    dsimp only
    rw [w32_id (x := (i : Int)) (by omega), w32_id (x := (m.length : Int)) (by omega)]
    by_cases q : i < m.length
    · rw [if_pos (by omega)]
      rcases b4 with ⟨rfl, b4, b5⟩ | ⟨rfl, b4⟩
      · have zt : (3 * (k : Int) + (i : Int)).toNat = 3 * k + i := by omega
        have u1 := hb _ (getD_mem (d := []) hk) i
        have u2 := hbm i
        rw [if_pos (by decide), bX_some, if_pos rfl, rdI_e (by omega), zt, k2 i (by omega), rdI_e (by omega), Int.toNat_natCast, hm i q, w32_id (by omega), w32_id (by omega)]
        refine WP_some.2 ⟨μ - 1, by omega, i + 1, by show (i : Int) + 1 = _; omega, by omega, by omega, ?_⟩
        dsimp only
        by_cases e : (K.getD k []).getD i 0 = m.getD i 0
        · rw [if_pos (by omega)]
          refine .inl ⟨rfl, b4, fun j hj => ?_⟩
          by_cases g : j = i
          · rw [g]; exact e
          · exact b5 j (by omega)
        · rw [if_neg (by omega)]
          exact .inr ⟨rfl, fun g => e (by rw [g])⟩
      · rw [if_neg (by decide), bX_some, if_neg (by decide)]
        exact WP_some.2 (by show (0 : Int) = _; rw [if_neg b4])
    · rw [if_neg (by omega), bX_some, if_neg (by decide)]
      refine WP_some.2 ?_
      show s1 = _
      rcases b4 with ⟨rfl, b4, b5⟩ | ⟨rfl, b4⟩
      · rw [if_pos (getD_ext b4 (fun j hj => b5 j (by omega)))]
      · rw [if_neg b4]
  · dsimp only
    rw [w32_id rk, w32_id (by omega)]
    by_cases e : (K.getD k []).length = m.length
    · rw [if_pos (by omega)]; exact .inl ⟨rfl, e, fun j hj => absurd hj (Nat.not_lt_zero _)⟩
    · rw [if_neg (by omega)]; exact .inr ⟨rfl, fun g => e (by rw [g])⟩
theorem k_isCut (hK : KcD S K) (hm : MgD S m) (hl : m.length ≤ 3) (h63 : K.length ≤ 63) (hb : ∀ c ∈ K, ∀ i, c.getD i 0 < 5000) (hbm : ∀ i, m.getD i 0 < 5000) : mX12_isCut S (m.length : Int) = some (if m ∈ K then 1 else 0) := by
  refine WP.of ?_
  unfold mX12_isCut
  refine WP_bE.2 ?_
  refine WP_cnt K.length (fun k s => s = (k : Int) ∧ ∀ j, j < k → K.getD j [] ≠ m) (by unfold cFU; omega) ⟨rfl, fun j h => absurd h (Nat.not_lt_zero _)⟩ (fun k s hk hI => ?_) (fun s hI => ?_)
  · obtain ⟨rfl, b2⟩ := hI
    unfold mX12_isCut_L2
    rw [hK.1, w32_id (by omega), w32_id (by omega), if_pos (by omega), rdI_e (by omega), Int.toNat_natCast, (hK.2 k hk).1, k_isCut29 hK hm hk hl h63 hb hbm, bX_some]
    by_cases e : K.getD k [] = m
    · rw [if_pos e, if_pos (by decide)]
      exact WP_some.2 (by show (1 : Int) = _; rw [if_pos (by rw [← e]; exact getD_mem hk)])
    · rw [if_neg e, if_neg (by decide)]
      refine WP_some.2 ⟨by show (k : Int) + 1 = _; omega, fun j hj => ?_⟩
      by_cases g : j = k
      · rw [g]; exact e
      · exact b2 j (by omega)
  · obtain ⟨rfl, b2⟩ := hI
    unfold mX12_isCut_L2
    rw [hK.1, if_neg (by omega)]
    refine WP_some.2 ?_
    show WP (some (0 : Int)) _
    refine WP_some.2 ?_
    rw [if_neg (fun g => by
      obtain ⟨j, j1, j2⟩ := mem_getD [] g
      exact b2 j j1 j2)]
theorem getD_snoc {α : Type} {L : List α} {a x : α} {j : Nat} : (L ++ [x]).getD j a = if j < L.length then L.getD j a else if j = L.length then x else a := by
  by_cases q : j < L.length
  · rw [if_pos q]; exact getD_app_l q
  · rw [if_neg q, List.getD_eq_getElem?_getD, List.getElem?_append_right (by omega)]
    by_cases e : j = L.length
    · rw [if_pos e, e, Nat.sub_self]; rfl
    · rw [if_neg e]
      obtain ⟨r, hr⟩ : ∃ r, j - L.length = r + 1 := ⟨j - L.length - 1, by omega⟩
      rw [hr]; rfl
theorem k_addCut (hK : KcD S K) (hm : MgD S m) (h4 : m.length ≤ 4) (h63 : K.length ≤ 63) (h3 : ∀ c ∈ K, c.length ≤ 3) (hb : ∀ c ∈ K, ∀ i, c.getD i 0 < 5000) (hbm : ∀ i, m.getD i 0 < 5000) : WP (mX12_addCut S (m.length : Int)) (fun z => KcD z (addK K m) ∧ ChW PCu S z) := by
  unfold mX12_addCut
  have cond : (if w32 (m.length : Int) ≤ 3 then bX (mX12_isCut S (m.length : Int)) fun x1 => if ¬ w32 x1 = 0 then some true else some false else some true) = some (!decide (m.length ≤ 3 ∧ ¬ m ∈ K)) := by
    rw [w32_id (by omega)]
    by_cases q : m.length ≤ 3
    · rw [if_pos (by omega), k_isCut hK hm q h63 hb hbm, bX_some]
      by_cases g : m ∈ K
      · rw [if_pos g, if_pos (by decide), decide_eq_false (fun h => h.2 g)]; rfl
      · rw [if_neg g, if_neg (by decide), decide_eq_true ⟨q, g⟩]; rfl
    · rw [if_neg (by omega), decide_eq_false (fun h => q h.1)]; rfl
  rw [cond, bX_some]
  by_cases q : m.length ≤ 3 ∧ ¬ m ∈ K
  · have ea : addK K m = K ++ [m] := if_pos q
    rw [decide_eq_true q, if_neg (by decide), hK.1, wrI_e (by omega), Int.toNat_natCast]
    obtain ⟨Y, hY⟩ : ∃ Y, Y = sI S 208 K.length (m.length : Int) := ⟨_, rfl⟩
    rw [← hY]
    have cY : ChW PCu S Y := by rw [hY]; exact ChW.refl.sI (.inr ⟨by omega, by omega⟩)
    have yo : ∀ a j, a ≠ 208 → gI Y a j = gI S a j := fun a j g => by rw [hY, hI_sI_a g]
    refine WP_call (R := fun z => ChW (fun a j => a = 209 ∧ 3 * K.length ≤ j) Y z ∧ ∀ j, j < m.length → gI z 209 (3 * K.length + j) = ((m.getD j 0 : Nat) : Int)) ?_ (fun z hz => ?_)
    · refine WP_cnt m.length (fun i s => s.1 = (i : Int) ∧ ChW (fun a j => a = 209 ∧ 3 * K.length ≤ j) Y s.2 ∧ ∀ j, j < i → gI s.2 209 (3 * K.length + j) = ((m.getD j 0 : Nat) : Int)) (by unfold cFU; omega) ⟨rfl, ChW.refl, fun j h => absurd h (Nat.not_lt_zero _)⟩ (fun i s hi hI => ?_) (fun s hI => ?_)
      · obtain ⟨s1, s2⟩ := s
        obtain ⟨b1, b2, b3⟩ := hI
        dsimp only at b1 b2 b3
        subst b1
        have u := hbm i
        have f1 : gI s2 211 i = ((m.getD i 0 : Nat) : Int) := (b2.1 _ _ (by omega)).trans ((yo _ _ (by omega)).trans (hm i hi))
        have f2 : gI s2 198 16 = (K.length : Int) := (b2.1 _ _ (by omega)).trans ((yo _ _ (by omega)).trans hK.1)
        have zt : (3 * (K.length : Int) + (i : Int)).toNat = 3 * K.length + i := by omega
        unfold mX12_addCut_L26
        dsimp only
        rw [w32_id (by omega), w32_id (by omega), if_pos (by omega), rdI_e (by omega), Int.toNat_natCast, f1, f2, wrI_e (by omega), zt]
        refine WP_some.2 ⟨by show (i : Int) + 1 = _; omega, b2.sI ⟨rfl, by omega⟩, fun j hj => ?_⟩
        dsimp only
        by_cases g : j = i
        · rw [g, gI_set, w32_id (by omega)]
        · rw [hI_sI_i (by omega)]; exact b3 j (by omega)
      · obtain ⟨s1, s2⟩ := s
        obtain ⟨b1, b2, b3⟩ := hI
        dsimp only at b1 b2 b3
        subst b1
        unfold mX12_addCut_L26
        dsimp only
        rw [if_neg (by omega)]
        exact WP_some.2 ⟨b2, b3⟩
    · obtain ⟨z1, z2⟩ := hz
      have f2 : gI z 198 16 = (K.length : Int) := (z1.1 _ _ (by omega)).trans ((yo _ _ (by omega)).trans hK.1)
      rw [wf_eq, f2]
      have cz : ChW PCu S z := cY.tr z1 (fun a i g => .inr ⟨by omega, by omega⟩)
      refine WP_some.2 ⟨?_, cz.sI (.inl ⟨rfl, rfl⟩)⟩
      rw [ea]
      have el : (K ++ [m]).length = K.length + 1 := by rw [List.length_append]; rfl
      refine ⟨by rw [gI_set, el, w32_id (by omega)]; omega, fun k hk => ?_⟩
      rw [el] at hk
      rw [hI_sI_a (by omega), getD_snoc]
      by_cases g : k < K.length
      · have h3k := h3 _ (getD_mem (d := []) g)
        rw [if_pos g]
        refine ⟨?_, fun i hi => ?_⟩
        · rw [z1.1 _ _ (by omega), hY, hI_sI_i (by omega)]; exact (hK.2 k g).1
        · rw [hI_sI_a (by omega), z1.1 _ _ (by omega), yo _ _ (by omega)]; exact (hK.2 k g).2 i hi
      · have : k = K.length := by omega
        rw [if_neg g, if_pos this, this]
        refine ⟨by rw [z1.1 _ _ (by omega), hY, gI_set, w32_id (by omega)], fun i hi => ?_⟩
        rw [hI_sI_a (by omega)]; exact z2 i hi
  · have ea : addK K m = K := if_neg q
    rw [decide_eq_false q, if_pos (show (!false) = true from rfl), ea]
    exact WP_some.2 ⟨hK, ChW.refl⟩
theorem k_isLeaf (h : KGx S d G) (w : WFG G) (hd : d < 6) (hr : ∀ n, gFi G ≤ n → n < gNo G → gI S 203 n = (bo (Rt G n) : Int)) {x : Nat} (hx : Wt G x) : mX12_isLeaf S (x : Int) = some (cI (InG G x) 0 1) := by
  have hn := no_le w
  have xl := Wt_lt w hx
  unfold mX12_isLeaf
  rw [h.1, gk_dsg hd, k_isAnd h.2 w (by omega), bX_some]
  by_cases q : gFi G ≤ x
  · rw [if_pos (show ¬ (x : Int) < (gFi G : Int) by omega), if_pos (show (x : Int) < (gNo G : Int) by omega), if_pos (by decide), rdZ_e (by omega), Int.toNat_natCast, w32_bz, hr x q xl]
    by_cases r : Rt G x
    · rw [bo_t r, if_pos (by decide), bX_some, if_pos rfl, bX_some, gz_1, cI_f (fun g => g.2.2.2 r)]
    · rw [bo_f r, if_neg (by decide), bX_some, if_neg (by decide), bX_some, gz_0, cI_t ⟨q, xl, hx, r⟩]
  · rw [if_neg (show ¬ ¬ (x : Int) < (gFi G : Int) by omega), if_neg (by decide), bX_some, if_pos rfl, bX_some, gz_1, cI_f (fun g => q g.1)]
end KCUTS
