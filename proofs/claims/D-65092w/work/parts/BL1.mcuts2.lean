/-! the reference gathers and sorts cuts: the loops -/
/-- slots while one goes down: place j of the one that comes in -/
noncomputable def dwn (K : List (List Nat)) (i j k : Nat) : List Nat := if k < j then (stC K i).getD k [] else if k = j then K.getD i [] else if k ≤ i then (stC K i).getD (k - 1) [] else K.getD k []
/-- the first i sorted, the rest as it was -/
noncomputable def srF' (K : List (List Nat)) (i k : Nat) : List Nat := if k < i then (stC K i).getD k [] else K.getD k []
section MCUTS2
variable {S z : Sto} {G : Dsg} {d n i k N : Nat} {l m c : List Nat} {K M : List (List Nat)} {F : Nat → List Nat}
theorem m_fc89 (hK : RcD S K) (hk : k < K.length) (hi : i < (K.getD k []).length) (h63 : K.length ≤ 63) (h3 : ∀ c ∈ K, c.length ≤ 3) (hb : ∀ c ∈ K, ∀ i, c.getD i 0 < 5000) (h0 : gI S 2000 123 = 0) {T U : Sto} :
    WP (lpF (mX23_findCuts_L89 ((k : Int), T) ((i : Int), U)) (0, S)) (fun y => MtD y (wiN (K.getD k []) i (K.getD k []).length) ∧ ChW PMt S y) := by
  have l3 := h3 _ (getD_mem (d := []) hk)
  have b5 := hb _ (getD_mem (d := []) hk)
  refine WP_cnt (K.getD k []).length (fun j s => s.1 = (j : Int) ∧ MtD s.2 (wiN (K.getD k []) i j) ∧ ChW PMt S s.2) (by unfold cFU; omega) ⟨rfl, ⟨h0, fun j h => absurd h (Nat.not_lt_zero _)⟩, ChW.refl⟩ (fun j s hj hI => ?_) (fun s hI => ?_)
  · obtain ⟨s2, s3⟩ := s
    obtain ⟨b2, b3, b4⟩ := hI
    dsimp only at b2 b3 b4
    subst b2
    have kz := hK.mv (z := s3) (b4.1 _ _ (fun g => by rcases g with g | g <;> omega)) (fun a j l1 l2 => b4.1 _ _ (fun g => by rcases g with g | g <;> omega))
    have k1 : gI s3 2087 k = ((K.getD k []).length : Int) := (kz.2 k hk).1
    have k2 : ∀ i, i < (K.getD k []).length → gI s3 2088 (3 * k + i) = (((K.getD k []).getD i 0 : Nat) : Int) := (kz.2 k hk).2
    obtain ⟨w1, w2, w3⟩ := wiN_ok (c := K.getD k []) (i := i) j
    have zt : (3 * (k : Int) + (j : Int)).toNat = 3 * k + j := by omega
    have wb : ∀ t, (wiN (K.getD k []) i j).getD t 0 < 5000 := fun t => getD_lt (fun y hy => by
      obtain ⟨j', _, _, e⟩ := (w3 y).1 hy
      rw [← e]; exact b5 j') (by omega) t
    have wl : (wiN (K.getD k []) i j).length ≤ 3 := by split at w2 <;> omega
    unfold mX23_findCuts_L89
    dsimp only
    rw [rdI_e (by omega), Int.toNat_natCast, k1, w32_id (x := (j : Int)) (by omega), w32_id (x := ((K.getD k []).length : Int)) (by omega), if_pos (by omega), w32_id (x := (i : Int)) (by omega)]
    by_cases e : j = i
    · rw [if_neg (by omega), bX_some]
      have ew : wiN (K.getD k []) i (j + 1) = wiN (K.getD k []) i j := if_pos e
      exact WP_some.2 ⟨by show (j : Int) + 1 = _; omega, by rw [ew]; exact b3, b4⟩
    · have ew : wiN (K.getD k []) i (j + 1) = insN ((K.getD k []).getD j 0) (wiN (K.getD k []) i j) := if_neg e
      rw [if_pos (by omega), rdI_e (by omega), zt, k2 j hj]
      refine WP_call (R := fun y => MtD y (wiN (K.getD k []) i (j + 1)) ∧ ChW PMt s3 y) (WP_call (m_put b3 (by omega) wb (b5 j)) (fun y hy => WP_some.2 (by rw [ew]; exact hy))) (fun y hy => ?_)
      exact WP_some.2 ⟨by show (j : Int) + 1 = _; omega, hy.1, b4.tr hy.2 (fun _ _ g => g)⟩
  · obtain ⟨s2, s3⟩ := s
    obtain ⟨b2, b3, b4⟩ := hI
    dsimp only at b2 b3 b4
    subst b2
    have kz := hK.mv (z := s3) (b4.1 _ _ (fun g => by rcases g with g | g <;> omega)) (fun a j l1 l2 => b4.1 _ _ (fun g => by rcases g with g | g <;> omega))
    have k1 : gI s3 2087 k = ((K.getD k []).length : Int) := (kz.2 k hk).1
    unfold mX23_findCuts_L89
    dsimp only
    rw [rdI_e (by omega), Int.toNat_natCast, k1, if_neg (by omega)]
    exact WP_some.2 ⟨b3, b4⟩
theorem PMt_u {a i : Nat} (h : PMt a i) : PMu a i := h.elim (fun h => .inr (.inr (.inr h))) (fun h => .inl ⟨h.1, .inr h.2⟩)
theorem PMu_ok {a i : Nat} (h : PMu a i) : a = 2000 ∧ i ≠ 105 ∨ 2053 < a := by rcases h with h | h | h | h <;> omega
theorem m_fc50 (h : MGx S d G) (w : WFG G) (hd : d < 6) (hr : ∀ n, gFi G ≤ n → n < gNo G → gI S 2086 n = (bo (Rt G n) : Int)) (hs : SdX S G 2082 2083 (gFi G)) (hM : M.length ≤ 63) (cM : clo (InG G) (aN' G) (bN' G) M) (hO : KOK (WdG G) M K) (hK : RcD S K) (hk : k < K.length) {T : Sto} :
    WP (lpF (mX23_findCuts_L50 ((k : Int), T)) (0, S)) (fun z => RcD z (exI (InG G) (aN' G) (bN' G) (K.getD k []) K (K.getD k []).length) ∧ ChW PMu S z) := by
  have tg := TG_G w
  have hn := no_le w
  obtain ⟨c1, c2, c3, c4, c5⟩ := hO.2 _ (getD_mem (d := []) hk)
  refine WP_cnt (K.getD k []).length (fun i s => s.1 = (i : Int) ∧ RcD s.2 (exI (InG G) (aN' G) (bN' G) (K.getD k []) K i) ∧ ChW PMu S s.2) (by unfold cFU; omega) ⟨rfl, hK, ChW.refl⟩ (fun i s hi hI => ?_) (fun s hI => ?_)
  · obtain ⟨s1, s2⟩ := s
    obtain ⟨b1, b2, b3⟩ := hI
    dsimp only at b1 b3
    subst b1
    have hz := h.cw w b3 (fun a j g => PMu_ok g)
    have hrz : ∀ n, gFi G ≤ n → n < gNo G → gI s2 2086 n = (bo (Rt G n) : Int) := fun n q1 q2 => (b3.1 _ _ (fun g => by rcases g with g | g | g | g <;> omega)).trans (hr n q1 q2)
    obtain ⟨E, hE⟩ : ∃ E, E = exI (InG G) (aN' G) (bN' G) (K.getD k []) K i := ⟨_, rfl⟩
    have Eo : KOK (WdG G) M E := by rw [hE]; exact exI_ok tg cM hO (getD_mem hk) i (by omega)
    obtain ⟨T', hT'⟩ := exI_pre (In := InG G) (la := aN' G) (lb := bN' G) (c := K.getD k []) (K := K) i
    have b2 : RcD s2 E := by rw [hE]; exact b2
    rw [← hE] at hT'
    have E63 := Eo.len hM
    obtain ⟨E3, Eb⟩ := Eo.b w
    have kE : k < E.length := by rw [hT', List.length_append]; omega
    have gE : E.getD k [] = K.getD k [] := by rw [hT']; exact getD_app_l hk
    have k1 : gI s2 2087 k = ((E.getD k []).length : Int) := (b2.2 k kE).1
    have k2 : ∀ i, i < (E.getD k []).length → gI s2 2088 (3 * k + i) = (((E.getD k []).getD i 0 : Nat) : Int) := (b2.2 k kE).2
    rw [gE] at k1 k2
    have zt : (3 * (k : Int) + (i : Int)).toNat = 3 * k + i := by omega
    obtain ⟨x, hx⟩ : ∃ x, x = (K.getD k []).getD i 0 := ⟨_, rfl⟩
    have wx : WdG G x := by rw [hx]; exact c5 _ (getD_mem hi)
    have xl := Wd_lt w wx
    have es : exI (InG G) (aN' G) (bN' G) (K.getD k []) K (i + 1) = cG (InG G x) (addK E (exC (aN' G) (bN' G) (K.getD k []) x)) E := by rw [hE, hx]; rfl
    unfold mX23_findCuts_L50
    dsimp only
    rw [rdI_e (by omega), Int.toNat_natCast, k1, w32_id (x := (i : Int)) (by omega), w32_id (x := ((K.getD k []).length : Int)) (by omega), if_pos (by omega), rdI_e (by omega), zt, k2 i hi, ← hx, m_isInner hz w hd hrz wx.1, bX_some]
    by_cases q : InG G x
    · rw [cI_t q, if_pos (by decide), wf_eq]
      have ax : AndG G x := ⟨q.1, q.2.1, q.2.2.1⟩
      have sd := hs x q.1 ax
      have ab := aN_lt w q.1 q.2.1
      have ea : lA G x / 2 = aN' G x := rfl
      have eb : lB G x / 2 = bN' G x := rfl
      obtain ⟨Y, hY⟩ : ∃ Y, Y = sI s2 2000 123 0 := ⟨_, rfl⟩
      rw [← hY]
      have yo : ∀ a j, ¬ (a = 2000 ∧ j = 123) → gI Y a j = gI s2 a j := fun a j g => by rw [hY, hI_sI, if_neg g]
      have cY : ChW PMu S Y := by rw [hY]; exact b3.sI (.inl ⟨rfl, .inr rfl⟩)
      refine WP_call (R := fun y => RcD y (addK E (exC (aN' G) (bN' G) (K.getD k []) x)) ∧ ChW PMu S y) ?_ (fun y hy => WP_some.2 ⟨by show (i : Int) + 1 = _; omega, by rw [es, cG_t q]; exact hy.1, hy.2⟩)
      have kY : RcD Y E := b2.mv (yo _ _ (by omega)) (fun a j l1 l2 => yo _ _ (by omega))
      have c89 := m_fc89 (i := i) (T := T) (U := s2) kY kE (by rw [gE]; exact hi) E63 E3 Eb (by rw [hY, gI_set]; rfl)
      rw [gE] at c89
      refine WP_call c89 (fun y hy => ?_)
      obtain ⟨y2, y3⟩ := hy
      obtain ⟨w1, w2, w3⟩ := wiN_ok (c := K.getD k []) (i := i) (K.getD k []).length
      rw [if_neg (by omega)] at w2
      obtain ⟨ml, hml⟩ : ∃ ml, ml = wiN (K.getD k []) i (K.getD k []).length := ⟨_, rfl⟩
      rw [← hml] at y2 w1 w2 w3
      have mb : ∀ t, ml.getD t 0 < 5000 := fun t => getD_lt (fun y hy => by
        obtain ⟨j', _, _, e⟩ := (w3 y).1 hy
        rw [← e]
        have := Eb _ (getD_mem (d := []) kE) j'
        rw [gE] at this; exact this) (by omega) t
      have f1 : gI y 2082 x = (lA G x : Int) := (y3.1 _ _ (fun g => by rcases g with g | g <;> omega)).trans ((yo _ _ (by omega)).trans ((b3.1 _ _ (fun g => by rcases g with g | g | g | g <;> omega)).trans sd.1))
      have f2 : gI y 2083 x = (lB G x : Int) := (y3.1 _ _ (fun g => by rcases g with g | g <;> omega)).trans ((yo _ _ (by omega)).trans ((b3.1 _ _ (fun g => by rcases g with g | g | g | g <;> omega)).trans sd.2))
      rw [rdI_e (by omega), Int.toNat_natCast, f1, aShr1_n (by omega), ea]
      refine WP_call (m_put y2 (by omega) mb (by omega)) (fun u hu => ?_)
      obtain ⟨u2, u3⟩ := hu
      have ul := insN_len (n := aN' G x) (l := ml)
      have f2' : gI u 2083 x = (lB G x : Int) := (u3.1 _ _ (fun g => by rcases g with g | g <;> omega)).trans f2
      have ub : ∀ t, (insN (aN' G x) ml).getD t 0 < 5000 := fun t => getD_lt (fun y hy => by
        rcases insN_mem.1 hy with e | e
        · omega
        · obtain ⟨j, _, j2⟩ := mem_getD 0 e
          rw [← j2]; exact mb j) (by omega) t
      rw [rdI_e (by omega), Int.toNat_natCast, f2', aShr1_n (by omega), eb]
      refine WP_call (m_put u2 (by omega) ub (by omega)) (fun v hv => ?_)
      obtain ⟨v2, v3⟩ := hv
      have ex : exC (aN' G) (bN' G) (K.getD k []) x = insN (bN' G x) (insN (aN' G x) ml) := by rw [hx, hml]; exact exC_wi c2 hi
      have vb : ∀ t, (insN (bN' G x) (insN (aN' G x) ml)).getD t 0 < 5000 := fun t => getD_lt (fun y hy => by
        rcases insN_mem.1 hy with e | e
        · omega
        · obtain ⟨j, _, j2⟩ := mem_getD 0 e
          rw [← j2]; exact ub j) (by omega) t
      have vl := insN_len (n := bN' G x) (l := insN (aN' G x) ml)
      have c3' : ChW PMt Y v := (y3.tr u3 (fun _ _ g => g)).tr v3 (fun _ _ g => g)
      have kv : RcD v E := kY.mv (c3'.1 _ _ (fun g => by rcases g with g | g <;> omega)) (fun a j l1 l2 => c3'.1 _ _ (fun g => by rcases g with g | g <;> omega))
      refine WP_call (m_keepCut (K := E) (m := insN (bN' G x) (insN (aN' G x) ml)) kv v2 (by omega) E63 E3 Eb vb) (fun t ht => ?_)
      exact WP_some.2 ⟨by rw [ex]; exact ht.1, (cY.tr c3' (fun _ _ g => PMt_u g)).tr ht.2 (fun _ _ g => g)⟩
    · rw [cI_f q, if_neg (by decide), bX_some]
      exact WP_some.2 ⟨by show (i : Int) + 1 = _; omega, by rw [es, cG_f q]; exact b2, b3⟩
  · obtain ⟨s1, s2⟩ := s
    obtain ⟨b1, b2, b3⟩ := hI
    dsimp only at b1 b3
    subst b1
    obtain ⟨T', hT'⟩ := exI_pre (In := InG G) (la := aN' G) (lb := bN' G) (c := K.getD k []) (K := K) (K.getD k []).length
    have kE : k < (exI (InG G) (aN' G) (bN' G) (K.getD k []) K (K.getD k []).length).length := by rw [hT', List.length_append]; omega
    have gE : (exI (InG G) (aN' G) (bN' G) (K.getD k []) K (K.getD k []).length).getD k [] = K.getD k [] := by rw [hT']; exact getD_app_l hk
    have b2' : RcD s2 (exI (InG G) (aN' G) (bN' G) (K.getD k []) K (K.getD k []).length) := b2
    have k1 : gI s2 2087 k = (((exI (InG G) (aN' G) (bN' G) (K.getD k []) K (K.getD k []).length).getD k []).length : Int) := (b2'.2 k kE).1
    rw [gE] at k1
    have := hO.len hM
    unfold mX23_findCuts_L50
    dsimp only
    rw [rdI_e (by omega), Int.toNat_natCast, k1, if_neg (by omega)]
    exact WP_some.2 ⟨b2', b3⟩
theorem m_fc40 (h : MGx S d G) (w : WFG G) (hd : d < 6) (hr : ∀ n, gFi G ≤ n → n < gNo G → gI S 2086 n = (bo (Rt G n) : Int)) (hs : SdX S G 2082 2083 (gFi G)) (hn : AndG G n) (hK : RcD S (kst (InG G) (aN' G) (bN' G) n 0)) :
    WP (lpF mX23_findCuts_L40 (0, S)) (fun z => RcD z (cutK (InG G) (aN' G) (bN' G) n) ∧ ChW PMu S z) := by
  have tg := TG_G w
  obtain ⟨M, m1, m2, m3⟩ := cover tg hn
  have ok := kst_ok tg hn m2 m3
  refine WP_lpM (fun s μ => ∃ k : Nat, s.1 = (k : Int) ∧ RcD s.2 (kst (InG G) (aN' G) (bN' G) n k) ∧ ChW PMu S s.2 ∧ k ≤ 64 ∧ 65 - k ≤ μ) (fun s μ hI => ?_) (m := 65) ⟨0, rfl, hK, ChW.refl, by omega, by omega⟩ (by unfold cFU; omega)
  obtain ⟨s1, s2⟩ := s
  obtain ⟨k, b1, b2, b3, b4, b5⟩ := hI
  dsimp only at b1 b3
  subst b1
  have b2 : RcD s2 (kst (InG G) (aN' G) (bN' G) n k) := b2
  have b20 : gI s2 2000 114 = ((kst (InG G) (aN' G) (bN' G) n k).length : Int) := b2.1
  have l63 := (ok k).len m1
  unfold mX23_findCuts_L40
  dsimp only
  rw [b20, w32_id (by omega), w32_id (by omega)]
  by_cases q : k < (kst (InG G) (aN' G) (bN' G) n k).length
  · rw [if_pos (by omega)]
    have hz := h.cw w b3 (fun a j g => PMu_ok g)
    refine WP_call (m_fc50 hz w hd (fun n q1 q2 => (b3.1 _ _ (fun g => by rcases g with g | g | g | g <;> omega)).trans (hr n q1 q2)) (fun n q1 q2 => ⟨(b3.1 _ _ (fun g => by rcases g with g | g | g | g <;> omega)).trans (hs n q1 q2).1, (b3.1 _ _ (fun g => by rcases g with g | g | g | g <;> omega)).trans (hs n q1 q2).2⟩) m1 m3 (ok k) b2 q) (fun y hy => ?_)
    have e : kst (InG G) (aN' G) (bN' G) n (k + 1) = exI (InG G) (aN' G) (bN' G) ((kst (InG G) (aN' G) (bN' G) n k).getD k []) (kst (InG G) (aN' G) (bN' G) n k) ((kst (InG G) (aN' G) (bN' G) n k).getD k []).length := if_pos q
    exact WP_some.2 ⟨μ - 1, by omega, k + 1, by show (k : Int) + 1 = _; omega, by rw [e]; exact hy.1, b3.tr hy.2 (fun _ _ g => g), by omega, by omega⟩
  · rw [if_neg (by omega)]
    have e := cut_at tg hn (k := k) (by omega)
    exact WP_some.2 ⟨by rw [e]; exact b2, b3⟩
theorem m_isCutBefore {a b : Nat} {x y : List Nat} (hx : SlC S a x) (hy : SlC S b y) (ha : a < 64) (hb : b < 64) (la : x.length ≤ 3) (lb : y.length ≤ 3) (ua : ∀ i, x.getD i 0 < 5000) (ub : ∀ i, y.getD i 0 < 5000) : mX23_isCutBefore S (a : Int) (b : Int) = some (cI (lx x y) 1 0) := by
  obtain ⟨a1, a2⟩ := hx
  obtain ⟨b1, b2⟩ := hy
  refine WP.of ?_
  unfold mX23_isCutBefore
  refine WP_bE.2 ?_
  refine WP_lpM (fun s μ => ∃ i : Nat, s = (i : Int) ∧ i ≤ x.length ∧ i ≤ y.length ∧ x.length - i ≤ μ ∧ (lx (x.drop i) (y.drop i) ↔ lx x y)) (fun s μ hI => ?_) (m := 4) ⟨0, rfl, Nat.zero_le _, Nat.zero_le _, by omega, Iff.rfl⟩ (by unfold cFU; omega)
  obtain ⟨i, rfl, c1, c2, c3, c4⟩ := hI
  have za : (3 * (a : Int) + (i : Int)).toNat = 3 * a + i := by omega
  have zb : (3 * (b : Int) + (i : Int)).toNat = 3 * b + i := by omega
  have fin : (lx x y ↔ x.length < y.length) → WP (some (Sum.inr (Sum.inl ())) : Option (Int ⊕ (Unit ⊕ Int))) (WE (fun s' => ∃ m', m' < μ ∧ ∃ i : Nat, s' = (i : Int) ∧ i ≤ x.length ∧ i ≤ y.length ∧ x.length - i ≤ m' ∧ (lx (x.drop i) (y.drop i) ↔ lx x y)) (WE (fun s => WP (rdI 64 S 2087 (a : Int) fun v9 => rdI 64 S 2087 (b : Int) fun v10 => some (if w32 v9 < w32 v10 then (1 : Int) else 0)) (fun r => r = cI (lx x y) 1 0)) (fun r => r = cI (lx x y) 1 0))) := fun e => by
    refine WP_some.2 ?_
    show WP (rdI 64 S 2087 (a : Int) _) _
    rw [rdI_e (by omega), Int.toNat_natCast, a1, rdI_e (by omega), Int.toNat_natCast, b1, w32_id (by omega), w32_id (by omega)]
    refine WP_some.2 ?_
    by_cases g : x.length < y.length
    · rw [if_pos (by omega), cI_t (e.2 g)]
    · rw [if_neg (by omega), cI_f (fun h => g (e.1 h))]
  unfold mX23_isCutBefore_L2
  rw [rdI_e (by omega), Int.toNat_natCast, a1, w32_id (x := (i : Int)) (by omega), w32_id (x := (x.length : Int)) (by omega)]
  by_cases q1 : i < x.length
  · rw [if_pos (by omega), rdI_e (by omega), Int.toNat_natCast, b1, w32_id (x := (y.length : Int)) (by omega)]
    by_cases q2 : i < y.length
    · have u1 := ua i
      have u2 := ub i
      rw [drop_getD q1, drop_getD q2] at c4
      rw [if_pos (by omega), bX_some, if_pos rfl, rdI_e (by omega), za, a2 i q1, rdI_e (by omega), zb, b2 i q2, w32_id (by omega), w32_id (by omega)]
      by_cases e : x.getD i 0 = y.getD i 0
      · rw [if_neg (by omega)]
        rw [e] at c4
        exact WP_some.2 ⟨μ - 1, by omega, i + 1, by omega, by omega, by omega, by omega, lx_cc.symm.trans c4⟩
      · rw [if_pos (by omega), rdI_e (by omega), za, a2 i q1, rdI_e (by omega), zb, b2 i q2, w32_id (by omega), w32_id (by omega)]
        refine WP_some.2 ?_
        show (if _ then (1 : Int) else 0) = _
        rw [← cI_cg c4]
        by_cases l : x.getD i 0 < y.getD i 0
        · rw [if_pos (by omega), cI_t ((lx_ne e).2 l)]
        · rw [if_neg (by omega), cI_f (fun g => l ((lx_ne e).1 g))]
    · rw [if_neg (by omega), bX_some, if_neg (by decide)]
      refine fin ?_
      rw [drop_getD q1, List.drop_eq_nil_of_le (show y.length ≤ i by omega)] at c4
      exact ⟨fun g => (c4.2 g).elim, fun g => by omega⟩
  · rw [if_neg (by omega), bX_some, if_neg (by decide)]
    refine fin ?_
    rw [List.drop_eq_nil_of_le (show x.length ≤ i by omega)] at c4
    by_cases q2 : i < y.length
    · rw [drop_getD q2] at c4
      exact ⟨fun _ => by omega, fun _ => c4.1 trivial⟩
    · rw [List.drop_eq_nil_of_le (show y.length ≤ i by omega)] at c4
      exact ⟨fun g => (c4.2 g).elim, fun g => by omega⟩
def PSw (a _i : Nat) : Prop := a = 2087 ∨ a = 2088
theorem m_swap {a b : Nat} (ha : a < 64) (hb : b < 64) (ne : a ≠ b) : WP (mX23_swapCuts S (a : Int) (b : Int)) (fun z => ChW PSw S z ∧ (∀ k, gI z 2087 k = gI S 2087 (if k = a then b else if k = b then a else k)) ∧ ∀ k i, i < 3 → gI z 2088 (3 * k + i) = gI S 2088 (3 * (if k = a then b else if k = b then a else k) + i)) := by
  unfold mX23_swapCuts
  rw [rdI_e (by omega), rdI_e (by omega), Int.toNat_natCast, Int.toNat_natCast, wrI_e (by omega), wrI_e (by omega), Int.toNat_natCast, Int.toNat_natCast]
  obtain ⟨Y, hY⟩ : ∃ Y, Y = sI (sI S 2087 a (gI S 2087 b)) 2087 b (gI S 2087 a) := ⟨_, rfl⟩
  rw [← hY]
  have y87 : ∀ k, gI Y 2087 k = gI S 2087 (if k = a then b else if k = b then a else k) := fun k => by
    rw [hY]
    by_cases q1 : k = a
    · subst q1; rw [if_pos rfl, hI_sI_i ne, gI_set, w32_gI]
    · rw [if_neg q1]
      by_cases q2 : k = b
      · subst q2; rw [if_pos rfl, gI_set, w32_gI]
      · rw [if_neg q2, hI_sI_i q2, hI_sI_i q1]
  have yo : ∀ c i, c ≠ 2087 → gI Y c i = gI S c i := fun c i g => by rw [hY, hI_sI_a g, hI_sI_a g]
  have cY : ChW PSw S Y := by rw [hY]; exact (ChW.refl.sI (.inl rfl)).sI (.inl rfl)
  refine WP_call (R := fun z => ChW (fun c _ => c = 2088) Y z ∧ ∀ k i, i < 3 → gI z 2088 (3 * k + i) = gI S 2088 (3 * (if k = a then b else if k = b then a else k) + i)) ?_ (fun z hz => WP_some.2 ⟨cY.tr hz.1 (fun _ _ g => .inr g), fun k => (hz.1.1 _ _ (by omega)).trans (y87 k), hz.2⟩)
  refine WP_cnt 3 (fun t s => s.1 = (t : Int) ∧ ChW (fun c _ => c = 2088) Y s.2 ∧ (∀ k i, i < t → i < 3 → gI s.2 2088 (3 * k + i) = gI S 2088 (3 * (if k = a then b else if k = b then a else k) + i)) ∧ ∀ k i, t ≤ i → i < 3 → gI s.2 2088 (3 * k + i) = gI S 2088 (3 * k + i)) (by unfold cFU; omega) ⟨rfl, ChW.refl, fun k i h => absurd h (Nat.not_lt_zero _), fun k i _ _ => yo _ _ (by omega)⟩ (fun t s ht hI => ?_) (fun s hI => ?_)
  · obtain ⟨s1, s2⟩ := s
    obtain ⟨b1, b2, b3, b4⟩ := hI
    dsimp only at b1 b2 b3 b4
    subst b1
    have za : (3 * (a : Int) + (t : Int)).toNat = 3 * a + t := by omega
    have zb : (3 * (b : Int) + (t : Int)).toNat = 3 * b + t := by omega
    unfold mX23_swapCuts_L29
    dsimp only
    rw [w32_id (by omega), if_pos (by omega), rdI_e (by omega), za, rdI_e (by omega), zb, wrI_e (by omega), za, wrI_e (by omega), zb, b4 a t (Nat.le_refl _) ht, b4 b t (Nat.le_refl _) ht]
    refine WP_some.2 ⟨by show (t : Int) + 1 = _; omega, (b2.sI rfl).sI rfl, fun k i h1 h2 => ?_, fun k i h1 h2 => ?_⟩
    · dsimp only
      by_cases e : i = t
      · subst e
        by_cases q1 : k = a
        · subst q1; rw [if_pos rfl, hI_sI_i (by omega), gI_set, w32_gI]
        · rw [if_neg q1]
          by_cases q2 : k = b
          · subst q2; rw [if_pos rfl, gI_set, w32_gI]
          · rw [if_neg q2, hI_sI_i (by omega), hI_sI_i (by omega)]; exact b4 k i (Nat.le_refl _) h2
      · rw [hI_sI_i (by omega), hI_sI_i (by omega)]; exact b3 k i (by omega) h2
    · dsimp only
      rw [hI_sI_i (by omega), hI_sI_i (by omega)]; exact b4 k i (by omega) h2
  · obtain ⟨s1, s2⟩ := s
    obtain ⟨b1, b2, b3, b4⟩ := hI
    dsimp only at b1 b2 b3 b4
    subst b1
    unfold mX23_swapCuts_L29
    dsimp only
    rw [if_neg (by decide)]
    exact WP_some.2 ⟨b2, fun k i h => b3 k i h h⟩
theorem m_fc171 (hK : RcD S K) (hN : K.Nodup) (h63 : K.length ≤ 63) (h3 : ∀ c ∈ K, c.length ≤ 3) (hB : ∀ c ∈ K, ∀ i, c.getD i 0 < 5000) (h1 : 1 ≤ K.length) : WP (lpF mX23_findCuts_L171 (1, S)) (fun z => RcF z K.length (fun k => (stC K K.length).getD k []) ∧ ChW PSw S z) := by
  -- all slots hold cuts
  have stm : ∀ i, i ≤ K.length → ∀ k, k < i → (stC K i).getD k [] ∈ K := fun i hi k hk => by
    have := getD_mem (l := stC K i) (i := k) (d := []) (by rw [stC_len]; exact hk)
    obtain ⟨j, j1, j2⟩ := (stC_mem i hi _).1 this
    rw [← j2]; exact getD_mem (by omega)
  refine WP_cnt (K.length - 1) (fun i s => s.1 = ((i + 1 : Nat) : Int) ∧ RcF s.2 K.length (srF' K (i + 1)) ∧ ChW PSw S s.2) (by unfold cFU; omega) ⟨rfl, ⟨hK.1, fun k hk => ?_⟩, ChW.refl⟩ (fun i' s hi hI => ?_) (fun s hI => ?_)
  · have : srF' K 1 k = K.getD k [] := by
      unfold srF'
      by_cases q : k < 1
      · rw [if_pos q, show k = 0 by omega]; rfl
      · rw [if_neg q]
    rw [this]; exact hK.2 k hk
  · obtain ⟨s1, s2⟩ := s
    obtain ⟨b1, b2', b3⟩ := hI
    dsimp only at b1 b3
    have b2 : RcF s2 K.length (srF' K (i' + 1)) := b2'
    clear b2'
    obtain ⟨i, hi'⟩ : ∃ i, i = i' + 1 := ⟨_, rfl⟩
    rw [← hi'] at b1 b2
    have iK : i < K.length := by omega
    subst b1
    have start : RcF s2 K.length (dwn K i i) := ⟨b2.1, fun k hk => by
      have e : dwn K i i k = srF' K i k := by
        unfold dwn srF'
        by_cases q : k < i
        · rw [if_pos q, if_pos q]
        · rw [if_neg q, if_neg q]
          by_cases q2 : k = i
          · rw [if_pos q2, q2]
          · rw [if_neg q2, if_neg (by omega)]
      rw [e]; exact b2.2 k hk⟩
    have b20 : gI s2 2000 114 = (K.length : Int) := b2.1
    have dm : ∀ j, j ≤ i → ∀ k, k < K.length → dwn K i j k ∈ K := fun j hj k hk => by
      unfold dwn
      by_cases q : k < j
      · rw [if_pos q]; exact stm i (by omega) k (by omega)
      · rw [if_neg q]
        by_cases q2 : k = j
        · rw [if_pos q2]; exact getD_mem iK
        · rw [if_neg q2]
          by_cases q3 : k ≤ i
          · rw [if_pos q3]; exact stm i (by omega) (k - 1) (by omega)
          · rw [if_neg q3]; exact getD_mem hk
    unfold mX23_findCuts_L171
    dsimp only
    rw [b20, w32_id (by omega), w32_id (by omega), if_pos (by omega)]
    refine WP_call (R := fun y => RcF y K.length (srF' K (i + 1)) ∧ ChW PSw s2 y) ?_ (fun y hy => WP_some.2 ⟨by show (i : Int) + 1 = _; omega, by rw [← hi']; exact hy.1, b3.tr hy.2 (fun _ _ g => g)⟩)
    refine WP_lpM (fun s μ => ∃ j : Nat, s.1 = (j : Int) ∧ j ≤ i ∧ j ≤ μ ∧ RcF s.2 K.length (dwn K i j) ∧ ChW PSw s2 s.2 ∧ ∀ t, j ≤ t → t < i → lx (K.getD i []) ((stC K i).getD t [])) (fun s μ hI => ?_) (m := 64) ⟨i, rfl, Nat.le_refl _, by omega, start, ChW.refl, fun t h1 h2 => by omega⟩ (by unfold cFU; omega)
    obtain ⟨s1, s3⟩ := s
    obtain ⟨j, d1, d2, d3, d4, d5, d6⟩ := hI
    dsimp only at d1 d5
    have d4 : RcF s3 K.length (dwn K i j) := d4
    subst d1
    have done : (j = 0 ∨ ¬ lx (K.getD i []) ((stC K i).getD (j - 1) [])) → WP (some (Sum.inr s3) : Option ((Int × Sto) ⊕ Sto)) (WE (fun s' => ∃ m', m' < μ ∧ ∃ j : Nat, s'.1 = (j : Int) ∧ j ≤ i ∧ j ≤ m' ∧ RcF s'.2 K.length (dwn K i j) ∧ ChW PSw s2 s'.2 ∧ ∀ t, j ≤ t → t < i → lx (K.getD i []) ((stC K i).getD t [])) (fun y => RcF y K.length (srF' K (i + 1)) ∧ ChW PSw s2 y)) := fun e => by
      have pos := stC_pos hN iK d2 e d6
      refine WP_some.2 ⟨⟨d4.1, fun k hk => ?_⟩, d5⟩
      have : srF' K (i + 1) k = dwn K i j k := by
        unfold srF' dwn
        by_cases q : k < i + 1
        · rw [if_pos q, pos k]
          by_cases q1 : k < j
          · rw [if_pos q1, if_pos q1]
          · rw [if_neg q1, if_neg q1]
            by_cases q2 : k = j
            · rw [if_pos q2, if_pos q2]
            · rw [if_neg q2, if_neg q2, if_pos (by omega)]
        · rw [if_neg q, if_neg (by omega), if_neg (by omega), if_neg (by omega)]
      rw [this]; exact d4.2 k hk
    unfold mX23_findCuts_L181
    dsimp only
    rw [w32_id (x := (j : Int)) (by omega)]
    by_cases q : j = 0
    · rw [if_neg (by omega), bX_some, if_neg (by decide)]
      exact done (.inl q)
    · have e : (j : Int) - 1 = ((j - 1 : Nat) : Int) := by omega
      have sj := d4.2 j (by omega)
      have sj1 := d4.2 (j - 1) (by omega)
      have mj := dm j d2 j (by omega)
      have mj1 := dm j d2 (j - 1) (by omega)
      have ej : dwn K i j j = K.getD i [] := by unfold dwn; rw [if_neg (by omega), if_pos rfl]
      have ej1 : dwn K i j (j - 1) = (stC K i).getD (j - 1) [] := by unfold dwn; rw [if_pos (by omega)]
      rw [ej] at sj mj
      rw [ej1] at sj1 mj1
      rw [if_pos (by omega), e, m_isCutBefore sj sj1 (by omega) (by omega) (h3 _ mj) (h3 _ mj1) (hB _ mj) (hB _ mj1), bX_some]
      by_cases g : lx (K.getD i []) ((stC K i).getD (j - 1) [])
      · rw [cI_t g, if_pos (by decide), bX_some, if_pos rfl]
        refine WP_call (m_swap (a := j) (b := j - 1) (by omega) (by omega) (by omega)) (fun y hy => ?_)
        obtain ⟨y1, y2, y3⟩ := hy
        refine WP_some.2 ⟨μ - 1, by omega, j - 1, by show (j : Int) + -1 = _; omega, by omega, by omega, ⟨(y1.1 _ _ (fun g => by rcases g with g | g <;> omega)).trans d4.1, fun k hk => ?_⟩, d5.tr y1 (fun _ _ g => g), fun t h1 h2 => ?_⟩
        · have ed : dwn K i (j - 1) k = dwn K i j (if k = j then j - 1 else if k = j - 1 then j else k) := by
            unfold dwn
            by_cases q1 : k = j
            · rw [if_pos q1, if_neg (by omega), if_neg (by omega), if_pos (by omega), if_pos (by omega), q1]
            · rw [if_neg q1]
              by_cases q2 : k = j - 1
              · rw [if_pos q2, if_neg (by omega), if_pos q2, if_neg (by omega), if_pos rfl]
              · have ek : (if k = j - 1 then j else k) = k := if_neg q2
                rw [ek]
                by_cases q3 : k < j
                · rw [if_pos (by omega), if_pos q3]
                · rw [if_neg (by omega), if_neg q2, if_neg q3, if_neg q1]
          have dk := d4.2 (if k = j then j - 1 else if k = j - 1 then j else k) (by split <;> (try split) <;> omega)
          rw [← ed] at dk
          have l3 := h3 _ (dm (j - 1) (by omega) k hk)
          exact ⟨(y2 k).trans dk.1, fun i hi => (y3 k i (by omega)).trans (dk.2 i hi)⟩
        · by_cases e : t = j - 1
          · rw [e]; exact g
          · exact d6 t (by omega) h2
      · rw [cI_f g, if_neg (by decide), bX_some, if_neg (by decide)]
        exact done (.inr g)
  · obtain ⟨s1, s2⟩ := s
    obtain ⟨b1, b2', b3⟩ := hI
    dsimp only at b1 b3
    have b2 : RcF s2 K.length (srF' K (K.length - 1 + 1)) := b2'
    clear b2'
    rw [show K.length - 1 + 1 = K.length by omega] at b1 b2
    subst b1
    have b20 : gI s2 2000 114 = (K.length : Int) := b2.1
    unfold mX23_findCuts_L171
    dsimp only
    rw [b20, if_neg (by omega)]
    refine WP_some.2 ⟨⟨b20, fun k hk => ?_⟩, b3⟩
    have := b2.2 k hk
    unfold srF' at this
    rw [if_pos hk] at this
    exact this
theorem m_findCuts (h : MGx S d G) (w : WFG G) (hd : d < 6) (hr : ∀ n, gFi G ≤ n → n < gNo G → gI S 2086 n = (bo (Rt G n) : Int)) (hs : SdX S G 2082 2083 (gFi G)) (hn : AndG G n) :
    WP (mX23_findCuts S (n : Int)) (fun z => RcF z (cutK (InG G) (aN' G) (bN' G) n).length (fun k => (cutZ (InG G) (aN' G) (bN' G) n).getD k []) ∧ ChW PMu S z) := by
  have tg := TG_G w
  have hno := no_le w
  have nn := hn.2.1
  have sd := hs n hn.1 hn
  have ab := aN_lt w hn.1 hn.2.1
  have ea : lA G n / 2 = aN' G n := rfl
  have eb : lB G n / 2 = bN' G n := rfl
  obtain ⟨M, m1, m2', m3⟩ := cover tg hn
  have ok := kst_ok tg hn m2' m3
  unfold mX23_findCuts
  rw [wf_eq, wf_eq]
  obtain ⟨Y, hY⟩ : ∃ Y, Y = sI (sI S 2000 114 0) 2000 123 0 := ⟨_, rfl⟩
  rw [← hY]
  have yo : ∀ a j, a ≠ 2000 → gI Y a j = gI S a j := fun a j g => by rw [hY, hI_sI_a g, hI_sI_a g]
  have cY : ChW PMu S Y := by rw [hY]; exact (ChW.refl.sI (.inl ⟨rfl, .inl rfl⟩)).sI (.inl ⟨rfl, .inr rfl⟩)
  have y0 : gI Y 2000 123 = 0 := by rw [hY, gI_set]; rfl
  have y1 : gI Y 2000 114 = 0 := by rw [hY, hI_sI_i (by omega), gI_set]; rfl
  rw [rdI_e (by omega), Int.toNat_natCast, yo _ _ (by omega), sd.1, aShr1_n (by omega), ea]
  refine WP_call (m_put (l := []) ⟨y0, fun i hi => absurd hi (Nat.not_lt_zero _)⟩ (Nat.zero_le _) (fun i => by show (0 : Nat) < 5000; omega) (by omega)) (fun x3 h3 => ?_)
  obtain ⟨x2, x3'⟩ := h3
  have f2 : gI x3 2083 n = (lB G n : Int) := (x3'.1 _ _ (fun g => by rcases g with g | g <;> omega)).trans ((yo _ _ (by omega)).trans sd.2)
  rw [rdI_e (by omega), Int.toNat_natCast, f2, aShr1_n (by omega), eb]
  have b1 : ∀ t, (insN (aN' G n) []).getD t 0 < 5000 := fun t => getD_lt (fun y hy => by
    rcases insN_mem.1 hy with e | e
    · omega
    · exact (nomatch e)) (by omega) t
  have l1 := insN_len (n := aN' G n) (l := [])
  have l1' : (insN (aN' G n) []).length ≤ 1 := l1
  refine WP_call (m_put x2 (by omega) b1 (by omega)) (fun x5 h5 => ?_)
  obtain ⟨u2, u3⟩ := h5
  have e0 : insN (bN' G n) (insN (aN' G n) []) = mkS [aN' G n, bN' G n] := SS_ext _ _ (insN_ss (insN_ss trivial)) mkS_ss (fun y => by
    rw [insN_mem, insN_mem, m2]
    exact ⟨fun g => g.elim .inr (fun g => g.elim .inl (fun g => (nomatch g))), fun g => g.elim (fun g => .inr (.inl g)) .inl⟩)
  rw [e0] at u2
  have o0 := ok 0
  have k0 : kst (InG G) (aN' G) (bN' G) n 0 = [mkS [aN' G n, bN' G n]] := rfl
  obtain ⟨_, s0, l0, l3, w0⟩ := o0.2 (mkS [aN' G n, bN' G n]) (by rw [k0]; exact .head _)
  have c5 : ChW PMu S x5 := (cY.tr x3' (fun a i g => PMt_u g)).tr u3 (fun a i g => PMt_u g)
  have cnt : gI x5 2000 114 = 0 := by rw [u3.1 _ _ (fun g => by rcases g with g | g <;> omega), x3'.1 _ _ (fun g => by rcases g with g | g <;> omega)]; exact y1
  refine WP_call (m_keepCut (K := []) (m := mkS [aN' G n, bN' G n]) ⟨cnt, fun k hk => absurd hk (Nat.not_lt_zero _)⟩ u2 (by omega) (Nat.zero_le _) (fun c hc => (nomatch hc)) (fun c hc => (nomatch hc)) (fun t => getD_lt (fun y hy => by have := Wd_lt w (w0 y hy); omega) (by omega) t)) (fun x6 h6 => ?_)
  have ea0 : addK [] (mkS [aN' G n, bN' G n]) = [mkS [aN' G n, bN' G n]] := if_pos ⟨l3, fun g => (nomatch g)⟩
  rw [ea0] at h6
  have c6 := c5.tr h6.2 (fun _ _ g => g)
  have hx6 := h.cw w c6 (fun a j g => PMu_ok g)
  refine WP_call (m_fc40 hx6 w hd (fun n q1 q2 => (c6.1 _ _ (fun g => by rcases g with g | g | g | g <;> omega)).trans (hr n q1 q2)) (fun n q1 q2 => ⟨(c6.1 _ _ (fun g => by rcases g with g | g | g | g <;> omega)).trans (hs n q1 q2).1, (c6.1 _ _ (fun g => by rcases g with g | g | g | g <;> omega)).trans (hs n q1 q2).2⟩) hn h6.1) (fun x7 h7 => ?_)
  have oK : KOK (WdG G) M (cutK (InG G) (aN' G) (bN' G) n) := ok 64
  obtain ⟨o3, ob⟩ := oK.b w
  have k1 : 1 ≤ (cutK (InG G) (aN' G) (bN' G) n).length := by
    refine Classical.byContradiction (fun g => ?_)
    have gr : ∀ k, 1 ≤ (kst (InG G) (aN' G) (bN' G) n k).length := fun k => by
      induction k with
      | zero => exact Nat.le_refl _
      | succ k ih =>
        show 1 ≤ (if k < (kst (InG G) (aN' G) (bN' G) n k).length then _ else kst (InG G) (aN' G) (bN' G) n k).length
        by_cases q : k < (kst (InG G) (aN' G) (bN' G) n k).length
        · rw [if_pos q]
          obtain ⟨T, hT⟩ := exI_pre (In := InG G) (la := aN' G) (lb := bN' G) (c := (kst (InG G) (aN' G) (bN' G) n k).getD k []) (K := kst (InG G) (aN' G) (bN' G) n k) ((kst (InG G) (aN' G) (bN' G) n k).getD k []).length
          rw [hT, List.length_append]; omega
        · rw [if_neg q]; exact ih
    exact g (gr 64)
  refine WP_call (m_fc171 h7.1 oK.1 (oK.len m1) o3 ob k1) (fun x8 h8 => WP_some.2 ⟨h8.1, (c6.tr h7.2 (fun _ _ g => g)).tr h8.2 (fun a i g => g.elim (fun g => .inr (.inl g)) (fun g => .inr (.inr (.inl g))))⟩)
end MCUTS2
