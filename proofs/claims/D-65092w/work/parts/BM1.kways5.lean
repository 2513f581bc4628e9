/-! the class works out ways, node by node -/
def PWa (n a i : Nat) : Prop := PWn n a i ∨ PCu a i ∨ PFn a i ∨ a = 217
/-- what holds between nodes -/
def KMx (z : Sto) (G : Dsg) (B : Lib) (d k : Nat) (n : Nat) : Prop := KGx z d G ∧ KLx z k B ∧ KRo z G ∧ SdX z G 199 200 (gFi G) ∧ PlD z B (liN B) ∧ KWz z G B n
/-- stamps of nodes -/
def KSt (z : Sto) (m : Int) : Prop := 0 ≤ gI z 198 20 ∧ gI z 198 20 ≤ m ∧ ∀ x, x < 1013 → gI z 213 x ≤ gI z 198 20
noncomputable def rNd (G : Dsg) (B : Lib) (n : Nat) : Option Nat := omin (wCo (WW G B n 0)) (oadd (wCo (WW G B n 1)) (invO B))
section KWAYS5
variable {S z : Sto} {G : Dsg} {B : Lib} {d n i k c m o tu x t kc : Nat} {K : List (List Nat)} {s : WSt}
theorem costO_cg {nd nd' : Nat → Nat → Option Nat} {A : Nat} {l : List Nat} : ∀ i, (∀ j, j < i → ∀ t, nd (l.getD j 0) t = nd' (l.getD j 0) t) → costO A nd l tu i = costO A nd' l tu i := by
  intro i
  induction i with
  | zero => exact fun _ => rfl
  | succ i ih =>
    intro h
    show oadd _ _ = oadd _ _
    rw [ih (fun j hj => h j (by omega)), h i (by omega)]
theorem wyC_cg (wl : WFL B) {nd nd' : Nat → Nat → Option Nat} {L : List (List Nat)} {tb : List Nat → Nat} (h : ∀ cut ∈ L, ∀ x ∈ cut, ∀ t, nd x t = nd' x t) : ∀ k, k ≤ liN B → wyC B nd L tb k = wyC B nd' L tb k := by
  intro k
  induction k with
  | zero => exact fun _ => rfl
  | succ c ih =>
    intro hc
    have r := bI_rng wl (c := c) (by omega)
    show wyU B nd L tb c (wyC B nd L tb c) L.length = wyU B nd' L tb c (wyC B nd' L tb c) L.length
    rw [ih (by omega)]
    generalize wyC B nd' L tb c = s
    have U : ∀ u, u ≤ L.length → wyU B nd L tb c s u = wyU B nd' L tb c s u := by
      intro u
      induction u with
      | zero => exact fun _ => rfl
      | succ u ihu =>
        intro hu
        show (if _ then _ else _) = (if _ then _ else _)
        rw [ihu (by omega)]
        by_cases q : (L.getD u []).length = bI B c
        · rw [if_pos q, if_pos q]
          have mem := getD_mem (d := []) (show u < L.length by omega)
          have hx := h _ mem
          generalize L.getD u [] = cut at *
          generalize wyU B nd' L tb c s u = s1
          have O : ∀ o, o ≤ nOrd (bI B c) → wyO B nd tb c cut s1 o = wyO B nd' tb c cut s1 o := by
            intro o
            induction o with
            | zero => exact fun _ => rfl
            | succ o iho =>
              intro ho
              show wyT B nd tb c cut o _ _ = wyT B nd' tb c cut o _ _
              rw [iho (by omega)]
              generalize wyO B nd' tb c cut s1 o = s2
              have cst : ∀ tu, costO (bA B c) nd (nds cut (bI B c) o) tu (bI B c) = costO (bA B c) nd' (nds cut (bI B c) o) tu (bI B c) := fun tu => costO_cg _ (fun j hj t => hx _ (by rw [nds_get hj]; exact getD_mem (by rw [q]; exact inpM_lt ⟨r.1, r.2.1⟩ (by omega) hj)) t)
              have T : ∀ k, wyT B nd tb c cut o s2 k = wyT B nd' tb c cut o s2 k := by
                intro k
                induction k with
                | zero => rfl
                | succ k ihk =>
                  show styT B nd tb c cut o _ k = styT B nd' tb c cut o _ k
                  rw [ihk]
                  unfold styT
                  rw [cst]
              exact T _
          exact O _ (Nat.le_refl _)
        · rw [if_neg q, if_neg q]
    exact U _ (Nat.le_refl _)
theorem KMx.cw (w : WFG G) (wl : WFL B) (h : KMx S G B d k n) (g : ChW (PWa n) S z) : KMx z G B d k n := by
  obtain ⟨h1, h2, h3, h4, h5, h6⟩ := h
  have q : ∀ a i, PWa n a i → (a = 198 ∧ (i = 16 ∨ i = 20)) ∨ (204 ≤ a ∧ a ≤ 217) := fun a i q => by
    unfold PWa PWn PCu PFn at q; omega
  have o : ∀ a i, ¬ ((a = 198 ∧ (i = 16 ∨ i = 20)) ∨ (204 ≤ a ∧ a ≤ 217)) → gI z a i = gI S a i := fun a i k => g.1 _ _ (fun e => k (q a i e))
  exact ⟨h1.cw g (fun a i e => by have := q a i e; omega), h2.cw g (fun a i e => by have := q a i e; omega), fun n q1 q2 => (o _ _ (by omega)).trans (h3 n q1 q2), fun n q1 q2 => ⟨(o _ _ (by omega)).trans (h4 n q1 q2).1, (o _ _ (by omega)).trans (h4 n q1 q2).2⟩, fun c o' tu q1 q2 q3 => (o _ _ (by omega)).trans (h5 c o' tu q1 q2 q3), h6.cw w wl g (fun a i e => by
    rcases e with e | e | e | e
    · exact .inl e
    · exact .inr (by unfold PCu at e; omega)
    · exact .inr (by unfold PFn at e; omega)
    · exact .inr (by omega))⟩
theorem k_wo29 (w : WFG G) (wl : WFL B) (hn : AndG G n) (hX : KMx S G B d k n) (hK : KcD S K) (h63 : K.length ≤ 63) (hK3 : ∀ c ∈ K, SS c ∧ c.length ≤ 3 ∧ (∀ x ∈ c, WdG G x ∧ x < n) ∧ Cb G c n) {m : Int} (hm : m ≤ 900000000) (hst : KSt S m) :
    WP (lpF (mX12_waysOf_L29 (n : Int)) (0, S)) (fun z => KTo z G K n ∧ ChW (fun a i => PFn a i ∨ a = 217) S z ∧ KSt z (m + 63)) := by
  have hst' := hst
  refine (WP_cnt K.length (fun j s => s.1 = (j : Int) ∧ (∀ q, q < j → gI s.2 217 q = (tbT G (K.getD q []) n : Int)) ∧ ChW (fun a i => PFn a i ∨ a = 217) S s.2 ∧ KSt s.2 (m + (j : Int))) (P := fun z => KTo z G K n ∧ ChW (fun a i => PFn a i ∨ a = 217) S z ∧ KSt z (m + (K.length : Int))) (by unfold cFU; omega) ⟨rfl, fun q h => absurd h (Nat.not_lt_zero _), ChW.refl, hst.1, by dsimp only; have := hst.2.1; omega, hst.2.2⟩ (fun j s hj hI => ?_) (fun s hI => ?_)).mono (fun z hz => ⟨hz.1, hz.2.1, hz.2.2.1, by have := hz.2.2.2.1; omega, hz.2.2.2.2⟩)
  · obtain ⟨s1, s2⟩ := s
    obtain ⟨b1, b2, b3, b4⟩ := hI
    dsimp only at b1 b2 b3 b4
    subst b1
    have q : ∀ a i, (PFn a i ∨ a = 217) → (a = 198 ∧ i = 20) ∨ (212 ≤ a ∧ a ≤ 217) := fun a i q => by unfold PFn at q; omega
    have o : ∀ a i, ¬ ((a = 198 ∧ i = 20) ∨ (212 ≤ a ∧ a ≤ 217)) → gI s2 a i = gI S a i := fun a i k => b3.1 _ _ (fun e => k (q a i e))
    have kz : KcD s2 K := hK.mv (o _ _ (by omega)) (fun a i l1 l2 => o _ _ (by omega))
    obtain ⟨o2, o4, o5, cb⟩ := hK3 _ (getD_mem (d := []) hj)
    have sz : SdX s2 G 199 200 (gFi G) := fun m q1 q2 => by rw [o _ _ (by omega), o _ _ (by omega)]; exact hX.2.2.2.1 m q1 q2
    have tl := tbT_lt (G := G) (c := K.getD j []) (x := n)
    have bm := b4.2.1
    unfold mX12_waysOf_L29
    dsimp only
    rw [kz.1, w32_id (by omega), w32_id (by omega), if_pos (by omega)]
    refine WP_call (k_function w hn kz hj h63 o2 o4 (fun x hx => (o5 x hx).1) cb (fun x hx => (o5 x hx).2) sz ⟨b4.1, by omega⟩ b4.2.2) (fun y hy => ?_)
    obtain ⟨y1, y2, y3, y4⟩ := hy
    rw [y1, wrI_e (by omega), Int.toNat_natCast]
    refine WP_some.2 ⟨by show (j : Int) + 1 = _; omega, fun q hq => ?_, (b3.tr y2 (fun _ _ g => .inl g)).sI (.inr rfl), ?_⟩
    · dsimp only
      by_cases g : q = j
      · rw [g, gI_set, w32_id (by omega)]
      · rw [hI_sI_i g, y2.1 _ _ (fun e => by unfold PFn at e; omega)]; exact b2 q (by omega)
    · have b40 := b4.1
      refine ⟨?_, ?_, fun x hx => ?_⟩
      · dsimp only; rw [hI_sI_a (by omega), y3]; omega
      · dsimp only; rw [hI_sI_a (by omega), y3]; omega
      · dsimp only; rw [hI_sI_a (by omega), hI_sI_a (by omega), y3]; exact y4 x hx
  · obtain ⟨s1, s2⟩ := s
    obtain ⟨b1, b2, b3, b4⟩ := hI
    dsimp only at b1 b2 b3 b4
    subst b1
    have q : ∀ a i, (PFn a i ∨ a = 217) → (a = 198 ∧ i = 20) ∨ (212 ≤ a ∧ a ≤ 217) := fun a i q => by unfold PFn at q; omega
    have o : ∀ a i, ¬ ((a = 198 ∧ i = 20) ∨ (212 ≤ a ∧ a ≤ 217)) → gI s2 a i = gI S a i := fun a i k => b3.1 _ _ (fun e => k (q a i e))
    have kz : KcD s2 K := hK.mv (o _ _ (by omega)) (fun a i l1 l2 => o _ _ (by omega))
    unfold mX12_waysOf_L29
    dsimp only
    rw [kz.1, if_neg (by omega)]
    exact WP_some.2 ⟨b2, b3, b4⟩
theorem k_waysOf (w : WFG G) (wl : WFL B) (hd : d < 6) (hk : k < 4) (hn : AndG G n) (hX : KMx S G B d k n) {m : Int} (hm : m ≤ 900000000) (hst : KSt S m) :
    WP (mX12_waysOf S (n : Int)) (fun z => KMx z G B d k (n + 1) ∧ KSt z (m + 63) ∧ ChW (PWa n) S z) := by
  have hno := no_le w
  have nn := hn.2.1
  have z0 : (2 * (n : Int)).toNat = 2 * n := by omega
  have z1 : (2 * (n : Int) + 1).toNat = 2 * n + 1 := by omega
  unfold mX12_waysOf
  rw [wrI_e (by omega), z0, wrI_e (by omega), z1]
  obtain ⟨Y, hY⟩ : ∃ Y, Y = sI (sI S 204 (2 * n) 100000000) 204 (2 * n + 1) 100000000 := ⟨_, rfl⟩
  rw [← hY]
  have cY : ChW (PWa n) S Y := by
    rw [hY]
    exact (ChW.refl.sI (.inl (.inl ⟨.inl rfl, .inl rfl⟩))).sI (.inl (.inl ⟨.inl rfl, .inr rfl⟩))
  have y0 : ∀ t, t < 2 → gI Y 204 (2 * n + t) = 100000000 := fun t ht => by
    rw [hY]
    rcases (show t = 0 ∨ t = 1 by omega) with rfl | rfl
    · rw [hI_sI_i (by omega), Nat.add_zero, gI_set]; rfl
    · rw [gI_set]; rfl
  have XY := hX.cw w wl cY
  refine WP_call (k_cutsOf XY.1 w hd XY.2.2.1 XY.2.2.2.1 hn) (fun x3 h3 => ?_)
  obtain ⟨K, hKe⟩ : ∃ K, K = cutK (InG G) (aN' G) (bN' G) n := ⟨_, rfl⟩
  have hZ : cutZ (InG G) (aN' G) (bN' G) n = stC K K.length := by rw [hKe]; rfl
  rw [← hKe] at h3
  obtain ⟨a1, a2, a3⟩ := h3
  obtain ⟨M, m1, ok⟩ := cut_ok w hn
  rw [← hKe] at ok
  have h63 := ok.len m1
  have hK3 : ∀ c ∈ K, SS c ∧ c.length ≤ 3 ∧ (∀ x ∈ c, WdG G x ∧ x < n) ∧ Cb G c n := fun c hc => by
    obtain ⟨_, p2, p3, p4, p5⟩ := ok.2 c hc
    rw [hKe] at hc
    obtain ⟨cb, lt⟩ := cut_cov w hn hc
    exact ⟨p2, p4, fun x hx => ⟨p5 x hx, lt x hx⟩, cb⟩
  have c3 : ChW (PWa n) S x3 := cY.tr a3 (fun _ _ g => .inr (.inl g))
  have X3 := hX.cw w wl c3
  have st3 : KSt x3 m := by
    have e20 : gI x3 198 20 = gI S 198 20 := by rw [a3.1 _ _ (fun g => by unfold PCu at g; omega), hY, hI_sI_a (by omega), hI_sI_a (by omega)]
    have e13 : ∀ x, gI x3 213 x = gI S 213 x := fun x => by rw [a3.1 _ _ (fun g => by unfold PCu at g; omega), hY, hI_sI_a (by omega), hI_sI_a (by omega)]
    exact ⟨by rw [e20]; exact hst.1, by rw [e20]; exact hst.2.1, fun x hx => by rw [e20, e13]; exact hst.2.2 x hx⟩
  refine WP_call (k_wo29 w wl hn X3 a1 h63 hK3 hm st3) (fun x4 h4 => ?_)
  obtain ⟨d1, d2, d3⟩ := h4
  have c4 : ChW (PWa n) S x4 := c3.tr d2 (fun a i g => g.elim (fun g => .inr (.inr (.inl g))) (fun g => .inr (.inr (.inr g))))
  have X4 := hX.cw w wl c4
  have o4 : ∀ a i, ¬ ((a = 198 ∧ i = 20) ∨ (212 ≤ a ∧ a ≤ 217)) → gI x4 a i = gI x3 a i := fun a i k => d2.1 _ _ (fun e => k (by unfold PFn at e; omega))
  have cx : CXw x4 G B d k K n := ⟨X4.1, X4.2.1, X4.2.2.1, X4.2.2.2.2.1, a1.mv (o4 _ _ (by omega)) (fun a i l1 l2 => o4 _ _ (by omega)), fun t ht => by
    obtain ⟨j, j1, j2, j3⟩ := a2 t ht
    exact ⟨j, j1, (o4 _ _ (by omega)).trans j2, j3⟩, d1, X4.2.2.2.2.2⟩
  have ini : KWy x4 n (fun _ => none) := fun t ht => ⟨by rw [o4 _ _ (by omega), a3.1 _ _ (fun g => by unfold PCu at g; omega)]; exact y0 t ht, fun y e => by cases e⟩
  refine WP_call (k_wo57 w wl hd hk cx hn h63 (fun c hc => ⟨(hK3 c hc).2.1, (hK3 c hc).2.2.1⟩) ini) (fun x5 h5 => WP_some.2 ?_)
  obtain ⟨f1, f2⟩ := h5
  have c5 : ChW (PWa n) S x5 := c4.tr f2 (fun _ _ g => .inl g)
  have X5 := hX.cw w wl c5
  have ew : WW G B n = wyC B (ndO G B (WW G B)) (stC K K.length) (fun c => tbT G c n) (liN B) := by
    rw [WW_eq, hZ]
    refine wyC_cg wl (fun cut hc x hx t => ?_) _ (Nat.le_refl _)
    exact nd_st ((hK3 cut (stC_all (Nat.le_refl _) hc)).2.2.1 x hx).2
  refine ⟨⟨X5.1, X5.2.1, X5.2.2.1, X5.2.2.2.1, X5.2.2.2.2.1, fun x hx l => ?_⟩, ?_, c5⟩
  · by_cases g : x = n
    · rw [g, ew]; exact f1
    · exact X5.2.2.2.2.2 x hx (by omega)
  · have e20 : gI x5 198 20 = gI x4 198 20 := f2.1 _ _ (fun g => by unfold PWn at g; omega)
    have e13 : ∀ x, gI x5 213 x = gI x4 213 x := fun x => f2.1 _ _ (fun g => by unfold PWn at g; omega)
    exact ⟨by rw [e20]; exact d3.1, by rw [e20]; exact d3.2.1, fun x hx => by rw [e20, e13]; exact d3.2.2 x hx⟩
end KWAYS5
