/-! the class gathers and sorts cuts: the loops -/
section KCUTS2
variable {S z : Sto} {G : Dsg} {d n i k : Nat} {l m c : List Nat} {K : List (List Nat)} {M : List (List Nat)}
theorem getD_lt' {l : List Nat} {b : Nat} (h : ∀ y ∈ l, y < b) (hb : 0 < b) (i : Nat) : l.getD i 0 < b := getD_lt h hb i
theorem Wd_lt (w : WFG G) {x : Nat} (h : WdG G x) : x < 1013 := by
  have := no_le w
  have := Wt_lt w h.1
  omega
theorem KOK.b (w : WFG G) (h : KOK (WdG G) M K) : (∀ c ∈ K, c.length ≤ 3) ∧ ∀ c ∈ K, ∀ i, c.getD i 0 < 5000 :=
  ⟨fun c hc => (h.2 c hc).2.2.2.1, fun c hc i => getD_lt (fun y hy => by have := Wd_lt w ((h.2 c hc).2.2.2.2 y hy); omega) (by omega) i⟩
/-- the other places of a cut -/
theorem k_co86 (hK : KcD S K) (hk : k < K.length) (hi : i < (K.getD k []).length) (h63 : K.length ≤ 63) (h3 : ∀ c ∈ K, c.length ≤ 3) (hb : ∀ c ∈ K, ∀ i, c.getD i 0 < 5000) {T U : Sto} :
    WP (lpF (mX12_cutsOf_L86 ((k : Int), T) ((i : Int), U)) (0, 0, S)) (fun y => y.1 = ((wiN (K.getD k []) i (K.getD k []).length).length : Int) ∧ MgD y.2 (wiN (K.getD k []) i (K.getD k []).length) ∧ ChW (fun a _ => a = 211) S y.2) := by
  have l3 := h3 _ (getD_mem (d := []) hk)
  have b5 := hb _ (getD_mem (d := []) hk)
  refine WP_cnt (K.getD k []).length (fun j s => s.1 = ((wiN (K.getD k []) i j).length : Int) ∧ s.2.1 = (j : Int) ∧ MgD s.2.2 (wiN (K.getD k []) i j) ∧ ChW (fun a _ => a = 211) S s.2.2) (by unfold cFU; omega) ⟨rfl, rfl, fun j h => absurd h (Nat.not_lt_zero _), ChW.refl⟩ (fun j s hj hI => ?_) (fun s hI => ?_)
  · obtain ⟨s1, s2, s3⟩ := s
    obtain ⟨b1, b2, b3, b4⟩ := hI
    dsimp only at b1 b2 b3 b4
    subst b1 b2
    have kz := hK.mv (z := s3) (b4.1 _ _ (by omega)) (fun a j l1 l2 => b4.1 _ _ (by omega))
    obtain ⟨k1, k2⟩ := kz.2 k hk
    obtain ⟨w1, w2, w3⟩ := wiN_ok (c := K.getD k []) (i := i) j
    have zt : (3 * (k : Int) + (j : Int)).toNat = 3 * k + j := by omega
    have wb : ∀ t, (wiN (K.getD k []) i j).getD t 0 < 5000 := fun t => getD_lt (fun y hy => by
      obtain ⟨j', _, _, e⟩ := (w3 y).1 hy
      rw [← e]; exact b5 j') (by omega) t
    have wl : (wiN (K.getD k []) i j).length ≤ 3 := by split at w2 <;> omega
    unfold mX12_cutsOf_L86
    dsimp only
    rw [rdI_e (by omega), Int.toNat_natCast, k1, w32_id (x := (j : Int)) (by omega), w32_id (x := ((K.getD k []).length : Int)) (by omega), if_pos (by omega), w32_id (x := (i : Int)) (by omega)]
    by_cases e : j = i
    · rw [if_neg (by omega), bX_some]
      have ew : wiN (K.getD k []) i (j + 1) = wiN (K.getD k []) i j := if_pos e
      refine WP_some.2 ⟨?_, by show (j : Int) + 1 = _; omega, ?_, b4⟩
      · rw [ew]
      · rw [ew]; exact b3
    · have ew : wiN (K.getD k []) i (j + 1) = insN ((K.getD k []).getD j 0) (wiN (K.getD k []) i j) := if_neg e
      rw [if_pos (by omega), rdI_e (by omega), zt, k2 j hj]
      refine WP_call (R := fun y => y.1 = ((wiN (K.getD k []) i (j + 1)).length : Int) ∧ MgD y.2 (wiN (K.getD k []) i (j + 1)) ∧ ChW (fun a _ => a = 211) s3 y.2) (WP_call (k_insert b3 wl wb (b5 j)) (fun y hy => WP_some.2 (by rw [ew]; exact hy))) (fun y hy => ?_)
      exact WP_some.2 ⟨hy.1, by show (j : Int) + 1 = _; omega, hy.2.1, b4.tr hy.2.2 (fun _ _ g => g)⟩
  · obtain ⟨s1, s2, s3⟩ := s
    obtain ⟨b1, b2, b3, b4⟩ := hI
    dsimp only at b1 b2 b3 b4
    subst b1 b2
    have kz := hK.mv (z := s3) (b4.1 _ _ (by omega)) (fun a j l1 l2 => b4.1 _ _ (by omega))
    obtain ⟨k1, k2⟩ := kz.2 k hk
    unfold mX12_cutsOf_L86
    dsimp only
    rw [rdI_e (by omega), Int.toNat_natCast, k1, if_neg (by omega)]
    exact WP_some.2 ⟨rfl, b3, b4⟩
/-- one cut's expansions -/
theorem k_co46 (h : KGx S d G) (w : WFG G) (hd : d < 6) (hr : ∀ n, gFi G ≤ n → n < gNo G → gI S 203 n = (bo (Rt G n) : Int)) (hs : SdX S G 199 200 (gFi G)) (hM : M.length ≤ 63) (cM : clo (InG G) (aN' G) (bN' G) M) (hO : KOK (WdG G) M K) (hK : KcD S K) (hk : k < K.length) {T : Sto} :
    WP (lpF (mX12_cutsOf_L46 ((k : Int), T)) (0, S)) (fun z => KcD z (exI (InG G) (aN' G) (bN' G) (K.getD k []) K (K.getD k []).length) ∧ ChW PCu S z) := by
  have tg := TG_G w
  have hn := no_le w
  obtain ⟨c1, c2, c3, c4, c5⟩ := hO.2 _ (getD_mem (d := []) hk)
  refine WP_cnt (K.getD k []).length (fun i s => s.1 = (i : Int) ∧ KcD s.2 (exI (InG G) (aN' G) (bN' G) (K.getD k []) K i) ∧ ChW PCu S s.2) (by unfold cFU; omega) ⟨rfl, hK, ChW.refl⟩ (fun i s hi hI => ?_) (fun s hI => ?_)
  · obtain ⟨s1, s2⟩ := s
    obtain ⟨b1, b2, b3⟩ := hI
    dsimp only at b1 b2 b3
    subst b1
    have hz := h.cw b3 (fun a j g => by rcases g with g | g <;> omega)
    have hrz : ∀ n, gFi G ≤ n → n < gNo G → gI s2 203 n = (bo (Rt G n) : Int) := fun n q1 q2 => (b3.1 _ _ (fun g => by rcases g with g | g <;> omega)).trans (hr n q1 q2)
    obtain ⟨E, hE⟩ : ∃ E, E = exI (InG G) (aN' G) (bN' G) (K.getD k []) K i := ⟨_, rfl⟩
    have Eo : KOK (WdG G) M E := by rw [hE]; exact exI_ok tg cM hO (getD_mem hk) i (by omega)
    obtain ⟨T', hT'⟩ := exI_pre (In := InG G) (la := aN' G) (lb := bN' G) (c := K.getD k []) (K := K) i
    rw [← hE] at hT' b2
    have E63 := Eo.len hM
    obtain ⟨E3, Eb⟩ := Eo.b w
    have kE : k < E.length := by rw [hT', List.length_append]; omega
    have gE : E.getD k [] = K.getD k [] := by rw [hT']; exact getD_app_l hk
    obtain ⟨k1, k2⟩ := b2.2 k kE
    rw [gE] at k1 k2
    have zt : (3 * (k : Int) + (i : Int)).toNat = 3 * k + i := by omega
    obtain ⟨x, hx⟩ : ∃ x, x = (K.getD k []).getD i 0 := ⟨_, rfl⟩
    have wx : WdG G x := by rw [hx]; exact c5 _ (getD_mem hi)
    have xl := Wd_lt w wx
    have es : exI (InG G) (aN' G) (bN' G) (K.getD k []) K (i + 1) = cG (InG G x) (addK E (exC (aN' G) (bN' G) (K.getD k []) x)) E := by rw [hE, hx]; rfl
    unfold mX12_cutsOf_L46
    dsimp only
    rw [rdI_e (by omega), Int.toNat_natCast, k1, w32_id (x := (i : Int)) (by omega), w32_id (x := ((K.getD k []).length : Int)) (by omega), if_pos (by omega), rdI_e (by omega), zt, k2 i hi, ← hx, k_isLeaf hz w hd hrz wx.1, bX_some]
    by_cases q : InG G x
    · rw [cI_t q, if_neg (by decide)]
      have ax : AndG G x := ⟨q.1, q.2.1, q.2.2.1⟩
      have sd := hs x q.1 ax
      have ab := aN_lt w q.1 q.2.1
      have ea : lA G x / 2 = aN' G x := rfl
      have eb : lB G x / 2 = bN' G x := rfl
      refine WP_call (R := fun y => KcD y (addK E (exC (aN' G) (bN' G) (K.getD k []) x)) ∧ ChW PCu s2 y) ?_ (fun y hy => WP_some.2 ⟨by show (i : Int) + 1 = _; omega, by rw [es, cG_t q]; exact hy.1, b3.tr hy.2 (fun _ _ g => g)⟩)
      have c86 := k_co86 (i := i) (T := T) (U := s2) b2 kE (by rw [gE]; exact hi) E63 E3 Eb
      rw [gE] at c86
      refine WP_call c86 (fun y hy => ?_)
      obtain ⟨y1, y2, y3⟩ := hy
      obtain ⟨w1, w2, w3⟩ := wiN_ok (c := K.getD k []) (i := i) (K.getD k []).length
      rw [if_neg (by omega)] at w2
      obtain ⟨ml, hml⟩ : ∃ ml, ml = wiN (K.getD k []) i (K.getD k []).length := ⟨_, rfl⟩
      rw [← hml] at y1 y2 w1 w2 w3
      have mb : ∀ t, ml.getD t 0 < 5000 := fun t => getD_lt (fun y hy => by
        obtain ⟨j', _, _, e⟩ := (w3 y).1 hy
        rw [← e]
        have := Eb _ (getD_mem (d := []) kE) j'
        rw [gE] at this; exact this) (by omega) t
      have p3 : ∀ a, ¬ (a = 211) → ∀ j, gI y.2 a j = gI S a j ∨ True := fun _ _ _ => .inr trivial
      have f1 : gI y.2 199 x = (lA G x : Int) := (y3.1 _ _ (by omega)).trans ((b3.1 _ _ (fun g => by rcases g with g | g <;> omega)).trans sd.1)
      have f2 : gI y.2 200 x = (lB G x : Int) := (y3.1 _ _ (by omega)).trans ((b3.1 _ _ (fun g => by rcases g with g | g <;> omega)).trans sd.2)
      rw [rdI_e (by omega), Int.toNat_natCast, f1, y1, aShr1_n (by omega), ea]
      refine WP_call (k_insert y2 (by omega) mb (by omega)) (fun u hu => ?_)
      obtain ⟨u1, u2, u3⟩ := hu
      have ul := insN_len (n := aN' G x) (l := ml)
      have f2' : gI u.2 200 x = (lB G x : Int) := (u3.1 _ _ (by omega)).trans f2
      have ub : ∀ t, (insN (aN' G x) ml).getD t 0 < 5000 := fun t => getD_lt (fun y hy => by
        rcases insN_mem.1 hy with e | e
        · omega
        · obtain ⟨j, _, j2⟩ := mem_getD 0 e
          rw [← j2]; exact mb j) (by omega) t
      have u1' : w32 u.1 ≤ 3 := by rw [u1, w32_id (by omega)]; omega
      rw [if_pos u1', rdI_e (by omega), Int.toNat_natCast, f2', u1, aShr1_n (by omega), eb]
      refine WP_call (R := fun v => v.1 = ((insN (bN' G x) (insN (aN' G x) ml)).length : Int) ∧ MgD v.2 (insN (bN' G x) (insN (aN' G x) ml)) ∧ ChW (fun a _ => a = 211) u.2 v.2) (WP_call (k_insert u2 (by omega) ub (by omega)) (fun v hv => WP_some.2 hv)) (fun v hv => ?_)
      obtain ⟨v1, v2, v3⟩ := hv
      have ex : exC (aN' G) (bN' G) (K.getD k []) x = insN (bN' G x) (insN (aN' G x) ml) := by rw [hx, hml]; exact exC_wi c2 hi
      have vb : ∀ t, (insN (bN' G x) (insN (aN' G x) ml)).getD t 0 < 5000 := fun t => getD_lt (fun y hy => by
        rcases insN_mem.1 hy with e | e
        · omega
        · obtain ⟨j, _, j2⟩ := mem_getD 0 e
          rw [← j2]; exact ub j) (by omega) t
      have vl := insN_len (n := bN' G x) (l := insN (aN' G x) ml)
      have c3' : ChW (fun a _ => a = 211) s2 v.2 := (y3.tr u3 (fun _ _ g => g)).tr v3 (fun _ _ g => g)
      rw [v1]
      refine WP_call (k_addCut (K := E) (m := insN (bN' G x) (insN (aN' G x) ml)) (b2.mv (c3'.1 _ _ (by omega)) (fun a j l1 l2 => c3'.1 _ _ (by omega))) v2 (by omega) E63 E3 Eb vb) (fun t ht => ?_)
      refine WP_some.2 ⟨by rw [ex]; exact ht.1, (ChW.refl.tr c3' (fun a i g => .inr (by have g : a = 211 := g; omega))).tr ht.2 (fun _ _ g => g)⟩
    · rw [cI_f q, if_pos (by decide), bX_some]
      exact WP_some.2 ⟨by show (i : Int) + 1 = _; omega, by rw [es, cG_f q]; exact b2, b3⟩
  · obtain ⟨s1, s2⟩ := s
    obtain ⟨b1, b2, b3⟩ := hI
    dsimp only at b1 b2 b3
    subst b1
    obtain ⟨T', hT'⟩ := exI_pre (In := InG G) (la := aN' G) (lb := bN' G) (c := K.getD k []) (K := K) (K.getD k []).length
    have kE : k < (exI (InG G) (aN' G) (bN' G) (K.getD k []) K (K.getD k []).length).length := by rw [hT', List.length_append]; omega
    have gE : (exI (InG G) (aN' G) (bN' G) (K.getD k []) K (K.getD k []).length).getD k [] = K.getD k [] := by rw [hT']; exact getD_app_l hk
    have k1 := (b2.2 k kE).1
    rw [gE] at k1
    have := hO.len hM
    unfold mX12_cutsOf_L46
    dsimp only
    rw [rdI_e (by omega), Int.toNat_natCast, k1, if_neg (by omega)]
    exact WP_some.2 ⟨b2, b3⟩
theorem k_co36 (h : KGx S d G) (w : WFG G) (hd : d < 6) (hr : ∀ n, gFi G ≤ n → n < gNo G → gI S 203 n = (bo (Rt G n) : Int)) (hs : SdX S G 199 200 (gFi G)) (hn : AndG G n) (hK : KcD S (kst (InG G) (aN' G) (bN' G) n 0)) :
    WP (lpF mX12_cutsOf_L36 (0, S)) (fun z => KcD z (cutK (InG G) (aN' G) (bN' G) n) ∧ ChW PCu S z) := by
  have tg := TG_G w
  obtain ⟨M, m1, m2, m3⟩ := cover tg hn
  have ok := kst_ok tg hn m2 m3
  refine WP_lpM (fun s μ => ∃ k : Nat, s.1 = (k : Int) ∧ KcD s.2 (kst (InG G) (aN' G) (bN' G) n k) ∧ ChW PCu S s.2 ∧ k ≤ 64 ∧ 65 - k ≤ μ) (fun s μ hI => ?_) (m := 65) ⟨0, rfl, hK, ChW.refl, by omega, by omega⟩ (by unfold cFU; omega)
  obtain ⟨s1, s2⟩ := s
  obtain ⟨k, b1, b2, b3, b4, b5⟩ := hI
  dsimp only at b1 b2 b3
  subst b1
  have l63 := (ok k).len m1
  unfold mX12_cutsOf_L36
  dsimp only
  rw [b2.1, w32_id (by omega), w32_id (by omega)]
  by_cases q : k < (kst (InG G) (aN' G) (bN' G) n k).length
  · rw [if_pos (by omega)]
    have hz := h.cw b3 (fun a j g => by rcases g with g | g <;> omega)
    refine WP_call (k_co46 hz w hd (fun n q1 q2 => (b3.1 _ _ (fun g => by rcases g with g | g <;> omega)).trans (hr n q1 q2)) (fun n q1 q2 => ⟨(b3.1 _ _ (fun g => by rcases g with g | g <;> omega)).trans (hs n q1 q2).1, (b3.1 _ _ (fun g => by rcases g with g | g <;> omega)).trans (hs n q1 q2).2⟩) m1 m3 (ok k) b2 q) (fun y hy => ?_)
    have e : kst (InG G) (aN' G) (bN' G) n (k + 1) = exI (InG G) (aN' G) (bN' G) ((kst (InG G) (aN' G) (bN' G) n k).getD k []) (kst (InG G) (aN' G) (bN' G) n k) ((kst (InG G) (aN' G) (bN' G) n k).getD k []).length := if_pos q
    exact WP_some.2 ⟨μ - 1, by omega, k + 1, by show (k : Int) + 1 = _; omega, by rw [e]; exact hy.1, b3.tr hy.2 (fun _ _ g => g), by omega, by omega⟩
  · rw [if_neg (by omega)]
    have e := cut_at tg hn (k := k) (by omega)
    exact WP_some.2 ⟨by rw [e]; exact b2, b3⟩
/-- the order of cuts -/
theorem k_compare {a b : Nat} (hK : KcD S K) (ha : a < K.length) (hb : b < K.length) (h63 : K.length ≤ 63) (h3 : ∀ c ∈ K, c.length ≤ 3) (hB : ∀ c ∈ K, ∀ i, c.getD i 0 < 5000) : WP (mX12_compare S (a : Int) (b : Int)) (fun r => -10000 ≤ r ∧ r ≤ 10000 ∧ (r < 0 ↔ lx (K.getD a []) (K.getD b []))) := by
  obtain ⟨a1, a2⟩ := hK.2 a ha
  obtain ⟨b1, b2⟩ := hK.2 b hb
  have la := h3 _ (getD_mem (d := []) ha)
  have lb := h3 _ (getD_mem (d := []) hb)
  have ua := hB _ (getD_mem (d := []) ha)
  have ub := hB _ (getD_mem (d := []) hb)
  generalize K.getD a [] = x at *
  generalize K.getD b [] = y at *
  unfold mX12_compare
  refine WP_bE.2 ?_
  refine WP_lpM (fun s μ => ∃ i : Nat, s = (i : Int) ∧ i ≤ x.length ∧ i ≤ y.length ∧ x.length - i ≤ μ ∧ (lx (x.drop i) (y.drop i) ↔ lx x y)) (fun s μ hI => ?_) (m := 4) ⟨0, rfl, Nat.zero_le _, Nat.zero_le _, by omega, Iff.rfl⟩ (by unfold cFU; omega)
  obtain ⟨i, rfl, c1, c2, c3, c4⟩ := hI
  have za : (3 * (a : Int) + (i : Int)).toNat = 3 * a + i := by omega
  have zb : (3 * (b : Int) + (i : Int)).toNat = 3 * b + i := by omega
  -- the end: by sizes
  have fin : (lx x y ↔ x.length < y.length) → WP (some (Sum.inr (Sum.inl ())) : Option (Int ⊕ (Unit ⊕ Int))) (WE (fun s' => ∃ m', m' < μ ∧ ∃ i : Nat, s' = (i : Int) ∧ i ≤ x.length ∧ i ≤ y.length ∧ x.length - i ≤ m' ∧ (lx (x.drop i) (y.drop i) ↔ lx x y)) (WE (fun s => WP (rdI 4000 S 208 (a : Int) fun v9 => rdI 4000 S 208 (b : Int) fun v10 => some (v9 - v10)) (fun r => -10000 ≤ r ∧ r ≤ 10000 ∧ (r < 0 ↔ lx x y))) (fun r => -10000 ≤ r ∧ r ≤ 10000 ∧ (r < 0 ↔ lx x y)))) := fun e => by
    refine WP_some.2 ?_
    show WP (rdI 4000 S 208 (a : Int) _) _
    rw [rdI_e (by omega), Int.toNat_natCast, a1, rdI_e (by omega), Int.toNat_natCast, b1]
    exact WP_some.2 ⟨by omega, by omega, by rw [e]; omega⟩
  unfold mX12_compare_L2
  rw [rdI_e (by omega), Int.toNat_natCast, a1, w32_id (x := (i : Int)) (by omega), w32_id (x := (x.length : Int)) (by omega)]
  by_cases q1 : i < x.length
  · rw [if_pos (by omega), rdI_e (by omega), Int.toNat_natCast, b1, w32_id (x := (y.length : Int)) (by omega)]
    by_cases q2 : i < y.length
    · have u1 := ua i
      have u2 := ub i
      rw [drop_getD q1, drop_getD q2] at c4
      rw [if_pos (by omega), bX_some, if_pos rfl, rdI_e (by omega), za, a2 i q1, rdI_e (by omega), zb, b2 i q2, w32_id (by omega), w32_id (by omega)]
      by_cases e : x.getD i 0 = y.getD i 0
      · rw [if_neg (by omega)]
        rw [e] at c4
        exact WP_some.2 ⟨μ - 1, by omega, i + 1, by omega, by omega, by omega, by omega, lx_cc.symm.trans c4⟩
      · rw [if_pos (by omega), rdI_e (by omega), za, a2 i q1, rdI_e (by omega), zb, b2 i q2]
        refine WP_some.2 ?_
        show _ ∧ _ ∧ _
        refine ⟨by omega, by omega, ?_⟩
        rw [← c4, lx_ne e]; omega
    · rw [if_neg (by omega), bX_some, if_neg (by decide)]
      refine fin ?_
      rw [drop_getD q1, List.drop_eq_nil_of_le (show y.length ≤ i by omega)] at c4
      exact ⟨fun g => (c4.2 g).elim, fun g => by omega⟩
  · rw [if_neg (by omega), bX_some, if_neg (by decide)]
    refine fin ?_
    rw [List.drop_eq_nil_of_le (show x.length ≤ i by omega)] at c4
    by_cases q2 : i < y.length
    · rw [drop_getD q2] at c4
      exact ⟨fun _ => by omega, fun _ => c4.1 trivial⟩
    · rw [List.drop_eq_nil_of_le (show y.length ≤ i by omega)] at c4
      exact ⟨fun g => (c4.2 g).elim, fun g => by omega⟩
theorem k_co188 (hK : KcD S K) (hN : K.Nodup) (h63 : K.length ≤ 63) (h3 : ∀ c ∈ K, c.length ≤ 3) (hB : ∀ c ∈ K, ∀ i, c.getD i 0 < 5000) : WP (lpF mX12_cutsOf_L188 (0, S)) (fun z => SoD z K K.length ∧ ChW (fun a _ => a = 210) S z) := by
  refine WP_cnt K.length (fun i s => s.1 = (i : Int) ∧ SoD s.2 K i ∧ ChW (fun a _ => a = 210) S s.2) (by unfold cFU; omega) ⟨rfl, fun t h => absurd h (Nat.not_lt_zero _), ChW.refl⟩ (fun i s hi hI => ?_) (fun s hI => ?_)
  · obtain ⟨s1, s2⟩ := s
    obtain ⟨b1, b2, b3⟩ := hI
    dsimp only at b1 b2 b3
    subst b1
    have kz := hK.mv (z := s2) (b3.1 _ _ (by omega)) (fun a j l1 l2 => b3.1 _ _ (by omega))
    unfold mX12_cutsOf_L188
    dsimp only
    rw [kz.1, w32_id (by omega), w32_id (by omega), if_pos (by omega)]
    refine WP_call (R := fun y => ∃ t : Nat, y.1 = (t : Int) ∧ t ≤ i ∧ (t = 0 ∨ ¬ lx (K.getD i []) ((stC K i).getD (t - 1) [])) ∧ (∀ j, t ≤ j → j < i → lx (K.getD i []) ((stC K i).getD j [])) ∧ ChW (fun a _ => a = 210) s2 y.2 ∧ (∀ j, j < t → gI y.2 210 j = gI s2 210 j) ∧ ∀ j, t < j → j ≤ i → gI y.2 210 j = gI s2 210 (j - 1)) ?_ (fun y hy => ?_)
    · refine WP_lpM (fun s μ => ∃ t : Nat, s.1 = (t : Int) ∧ t ≤ i ∧ t ≤ μ ∧ (∀ j, t ≤ j → j < i → lx (K.getD i []) ((stC K i).getD j [])) ∧ ChW (fun a _ => a = 210) s2 s.2 ∧ (∀ j, j < t → gI s.2 210 j = gI s2 210 j) ∧ ∀ j, t < j → j ≤ i → gI s.2 210 j = gI s2 210 (j - 1)) (fun s μ hI => ?_) (m := 64) ⟨i, rfl, Nat.le_refl _, by omega, fun j h1 h2 => by omega, ChW.refl, fun j _ => rfl, fun j h1 h2 => by omega⟩ (by unfold cFU; omega)
      obtain ⟨s1, s3⟩ := s
      obtain ⟨t, d1, d2, d3, d4, d5, d6, d7⟩ := hI
      dsimp only at d1 d5 d6 d7
      subst d1
      have kz3 := kz.mv (z := s3) (d5.1 _ _ (by omega)) (fun a j l1 l2 => d5.1 _ _ (by omega))
      unfold mX12_cutsOf_L198
      dsimp only
      rw [w32_id (x := (t : Int)) (by omega)]
      by_cases q : t = 0
      · rw [if_neg (by omega), bX_some, if_neg (by decide)]
        exact WP_some.2 ⟨t, rfl, d2, .inl q, d4, d5, d6, d7⟩
      · have e : (t : Int) - 1 = ((t - 1 : Nat) : Int) := by omega
        obtain ⟨j, j1, j2, j3⟩ := b2 (t - 1) (by omega)
        rw [← d6 (t - 1) (by omega)] at j2
        rw [if_pos (by omega), e, rdI_e (by omega), Int.toNat_natCast, j2]
        refine WP_bX.2 ?_
        have body : WP (bX (mX12_compare s3 (i : Int) (j : Int)) fun x30 => if w32 x30 < 0 then some true else some false) (fun v => v = true ↔ lx (K.getD i []) ((stC K i).getD (t - 1) [])) := by
          refine WP_call (k_compare kz3 hi (by omega) h63 h3 hB) (fun r hr => ?_)
          obtain ⟨r1, r2, r3⟩ := hr
          rw [w32_id (by omega)]
          rw [j3] at r3
          by_cases g : r < 0
          · rw [if_pos g]; exact WP_some.2 ⟨fun _ => r3.1 g, fun _ => rfl⟩
          · rw [if_neg g]; exact WP_some.2 ⟨(fun h => by cases h), fun h => absurd (r3.2 h) g⟩
        refine body.mono (fun v hv => ?_)
        cases v with
        | true =>
          have lxx := hv.1 rfl
          rw [if_pos rfl, rdI_e (by omega), Int.toNat_natCast, j2, wrI_e (by omega), Int.toNat_natCast]
          refine WP_some.2 ⟨μ - 1, by omega, t - 1, by show (t : Int) + -1 = _; omega, by omega, by omega, fun j' h1 h2 => ?_, d5.sI rfl, fun j' h1 => ?_, fun j' h1 h2 => ?_⟩
          · by_cases g : j' = t - 1
            · rw [g]; exact lxx
            · exact d4 j' (by omega) h2
          · dsimp only
            rw [hI_sI_i (by omega)]; exact d6 j' (by omega)
          · dsimp only
            by_cases g : j' = t
            · rw [g, gI_set, w32_id (by omega), ← j2]; exact d6 (t - 1) (by omega)
            · rw [hI_sI_i g]; exact d7 j' (by omega) h2
        | false =>
          rw [if_neg (by decide)]
          exact WP_some.2 ⟨t, rfl, d2, .inr (fun g => by have := hv.2 g; cases this), d4, d5, d6, d7⟩
    · obtain ⟨t, y1, y2, y3, y4, y5, y6, y7⟩ := hy
      rw [y1, wrI_e (by omega), Int.toNat_natCast]
      have pos := stC_pos hN hi y2 y3 y4
      refine WP_some.2 ⟨by show (i : Int) + 1 = _; omega, fun r hr => ?_, (b3.tr y5 (fun _ _ g => g)).sI rfl⟩
      dsimp only
      rw [pos r]
      rcases Nat.lt_trichotomy r t with g | g | g
      · obtain ⟨j, j1, j2, j3⟩ := b2 r (by omega)
        refine ⟨j, by omega, ?_, by rw [if_pos g]; exact j3⟩
        rw [hI_sI_i (by omega), y6 r g]; exact j2
      · refine ⟨i, by omega, ?_, by rw [if_neg (by omega), if_pos g]⟩
        rw [g, gI_set, w32_id (by omega)]
      · obtain ⟨j, j1, j2, j3⟩ := b2 (r - 1) (by omega)
        refine ⟨j, by omega, ?_, by rw [if_neg (by omega), if_neg (by omega)]; exact j3⟩
        rw [hI_sI_i (by omega), y7 r g (by omega)]; exact j2
  · obtain ⟨s1, s2⟩ := s
    obtain ⟨b1, b2, b3⟩ := hI
    dsimp only at b1 b2 b3
    subst b1
    have kz := hK.mv (z := s2) (b3.1 _ _ (by omega)) (fun a j l1 l2 => b3.1 _ _ (by omega))
    unfold mX12_cutsOf_L188
    dsimp only
    rw [kz.1, if_neg (by omega)]
    exact WP_some.2 ⟨b2, b3⟩
theorem k_cutsOf (h : KGx S d G) (w : WFG G) (hd : d < 6) (hr : ∀ n, gFi G ≤ n → n < gNo G → gI S 203 n = (bo (Rt G n) : Int)) (hs : SdX S G 199 200 (gFi G)) (hn : AndG G n) :
    WP (mX12_cutsOf S (n : Int)) (fun z => KcD z (cutK (InG G) (aN' G) (bN' G) n) ∧ SoD z (cutK (InG G) (aN' G) (bN' G) n) (cutK (InG G) (aN' G) (bN' G) n).length ∧ ChW PCu S z) := by
  have tg := TG_G w
  have hno := no_le w
  have nn := hn.2.1
  have sd := hs n hn.1 hn
  have ab := aN_lt w hn.1 hn.2.1
  have ea : lA G n / 2 = aN' G n := rfl
  have eb : lB G n / 2 = bN' G n := rfl
  obtain ⟨M, m1, m2', m3⟩ := cover tg hn
  have ok := kst_ok tg hn m2' m3
  unfold mX12_cutsOf
  rw [wf_eq]
  obtain ⟨Y, hY⟩ : ∃ Y, Y = sI S 198 16 0 := ⟨_, rfl⟩
  rw [← hY]
  have yo : ∀ a j, a ≠ 198 → gI Y a j = gI S a j := fun a j g => by rw [hY, hI_sI_a g]
  have cY : ChW PCu S Y := by rw [hY]; exact ChW.refl.sI (.inl ⟨rfl, rfl⟩)
  rw [rdI_e (by omega), Int.toNat_natCast, yo _ _ (by omega), sd.1, aShr1_n (by omega), ea]
  refine WP_call (R := fun y => y.1 = ((insN (aN' G n) []).length : Int) ∧ MgD y.2 (insN (aN' G n) []) ∧ ChW (fun a _ => a = 211) Y y.2) (k_insert (l := []) (fun i hi => absurd hi (Nat.not_lt_zero _)) (Nat.zero_le _) (fun i => by show (0 : Nat) < 5000; omega) (by omega)) (fun x3 h3 => ?_)
  obtain ⟨x1, x2, x3'⟩ := h3
  have f2 : gI x3.2 200 n = (lB G n : Int) := (x3'.1 _ _ (by omega)).trans ((yo _ _ (by omega)).trans sd.2)
  rw [rdI_e (by omega), Int.toNat_natCast, f2, aShr1_n (by omega), eb, x1]
  have b1 : ∀ t, (insN (aN' G n) []).getD t 0 < 5000 := fun t => getD_lt (fun y hy => by
    rcases insN_mem.1 hy with e | e
    · omega
    · exact (nomatch e)) (by omega) t
  have l1 := insN_len (n := aN' G n) (l := [])
  have l1' : (insN (aN' G n) []).length ≤ 1 := l1
  refine WP_call (k_insert x2 (by omega) b1 (by omega)) (fun x5 h5 => ?_)
  obtain ⟨u1, u2, u3⟩ := h5
  have e0 : insN (bN' G n) (insN (aN' G n) []) = mkS [aN' G n, bN' G n] := SS_ext _ _ (insN_ss (insN_ss trivial)) mkS_ss (fun y => by
    rw [insN_mem, insN_mem, m2]
    exact ⟨fun g => g.elim .inr (fun g => g.elim .inl (fun g => (nomatch g))), fun g => g.elim (fun g => .inr (.inl g)) .inl⟩)
  rw [e0] at u1 u2
  have o0 := ok 0
  have k0 : kst (InG G) (aN' G) (bN' G) n 0 = [mkS [aN' G n, bN' G n]] := rfl
  obtain ⟨_, s0, l0, l3, w0⟩ := o0.2 (mkS [aN' G n, bN' G n]) (by rw [k0]; exact .head _)
  have c5 : ChW PCu S x5.2 := (cY.tr x3' (fun a i g => .inr ⟨by omega, by omega⟩)).tr u3 (fun a i g => .inr ⟨by omega, by omega⟩)
  have cnt : gI x5.2 198 16 = 0 := by rw [u3.1 _ _ (by omega), x3'.1 _ _ (by omega), hY, gI_set]; rfl
  rw [u1]
  refine WP_call (k_addCut (K := []) (m := mkS [aN' G n, bN' G n]) ⟨cnt, fun k hk => absurd hk (Nat.not_lt_zero _)⟩ u2 (by omega) (Nat.zero_le _) (fun c hc => (nomatch hc)) (fun c hc => (nomatch hc)) (fun t => getD_lt (fun y hy => by have := Wd_lt w (w0 y hy); omega) (by omega) t)) (fun x6 h6 => ?_)
  have ea0 : addK [] (mkS [aN' G n, bN' G n]) = [mkS [aN' G n, bN' G n]] := if_pos ⟨l3, fun g => (nomatch g)⟩
  rw [ea0] at h6
  have c6 := c5.tr h6.2 (fun _ _ g => g)
  have hx6 := h.cw c6 (fun a j g => by rcases g with g | g <;> omega)
  refine WP_call (k_co36 hx6 w hd (fun n q1 q2 => (c6.1 _ _ (fun g => by rcases g with g | g <;> omega)).trans (hr n q1 q2)) (fun n q1 q2 => ⟨(c6.1 _ _ (fun g => by rcases g with g | g <;> omega)).trans (hs n q1 q2).1, (c6.1 _ _ (fun g => by rcases g with g | g <;> omega)).trans (hs n q1 q2).2⟩) hn h6.1) (fun x7 h7 => ?_)
  have oK : KOK (WdG G) M (cutK (InG G) (aN' G) (bN' G) n) := ok 64
  obtain ⟨o3, ob⟩ := oK.b w
  refine WP_call (k_co188 h7.1 oK.1 (oK.len m1) o3 ob) (fun x8 h8 => WP_some.2 ⟨h7.1.mv (h8.2.1 _ _ (by omega)) (fun a j l1 l2 => h8.2.1 _ _ (by omega)), h8.1, (c6.tr h7.2 (fun _ _ g => g)).tr h8.2 (fun a i g => .inr ⟨by omega, by omega⟩)⟩)
end KCUTS2
