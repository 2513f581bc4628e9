/-! the class finds paths -/
def KPa (z : Sto) (C : Chp) (n : Nat) (out : Nat → List Nat) : Prop := ∀ k, k < n → gI z 254 k = tLen C (out k) ∧ gI z 255 k = ((out k).length : Int) ∧ ∀ i, i < (out k).length → gI z 256 (164 * k + i) = (((out k).getD i 0 : Nat) : Int)
section KFIND
variable {C : Chp} {s a e n k : Nat} {p r t : List Nat} {S z : Sto} {out : Nat → List Nat}
theorem k_fi17 (h : KTx S k C) (w : WFC C) (wp : WFP C) (wF : WFF C) (hk : k < 4) (ht : ∀ n, n < kN C → gI S 245 n = kTime C n) (h10 : gI S 244 10 = 0) (h12 : gI S 244 12 = 0) :
    WP (lpF mX17_find_L17 (0, S)) (fun z => Ch 244 257 S z ∧ (∀ n, n < kN C → gI z 245 n = kTime C n) ∧ KAl z C (kB C) ∧ ∃ na A, KQu z C 0 na A ∧ QIn C 0 out na A (fun _ => False) ∧ ∀ i, i < na → Rk C (A i)) := by
  have hn := w.nums
  have hN := kN_le w
  refine WP_cnt (kB C) (fun i s => s.1 = (i : Int) ∧ Ch 244 257 S s.2 ∧ (∀ n, n < kN C → gI s.2 245 n = kTime C n) ∧ KAl s.2 C i ∧ ∃ na A, KQu s.2 C 0 na A ∧ QIn C 0 out na A (fun r => ∃ s, i ≤ s ∧ s < kB C ∧ r = [s] ∧ ∃ p, Cmp C r p) ∧ ∀ i, i < na → Rk C (A i)) (by unfold cFU; omega) ⟨rfl, Ch.refl, ht, fun s a h => absurd h (Nat.not_lt_zero _), 0, fun _ => ([], 0), ⟨h10, h12, fun k hk => absurd hk (Nat.not_lt_zero _)⟩, QIn.start.pd (fun r => ⟨fun ⟨s, _, s2⟩ => ⟨s, s2⟩, fun ⟨s, s2⟩ => ⟨s, Nat.zero_le _, s2⟩⟩), fun i hi => absurd hi (Nat.not_lt_zero _)⟩ (fun i s' hi hI => ?_) (fun s' hI => ?_)
  · obtain ⟨z1, z2⟩ := s'
    obtain ⟨b1, b2, b3, b4, na, A, b5, b6, b7⟩ := hI
    dsimp only at b1 b2 b3 b4 b5
    subst b1
    have hz : KTx z2 k C := h.ch b2 (by omega)
    have iN : i < kN C := by omega
    unfold mX17_find_L17
    dsimp only
    rw [hz.1, gk_chip hk, k_bits hz.2.1 w, bX_some, w32_id (x := (i : Int)) (by omega), w32_id (x := ((kB C : Nat) : Int)) (by omega), if_pos (by omega)]
    refine WP_call (k_restsOf hz w wp wF hk hi b3) (fun x7 h7 => ?_)
    obtain ⟨c1, c2⟩ := h7
    have hx7 := hz.ch c1 (by omega)
    have zi : ((i : Int) * 162).toNat = 162 * i := by omega
    rw [hx7.1, gk_chip hk, k_nets hx7.2.1 w, bX_some, cpI_e (by omega), zi, show (0 : Int).toNat = 0 from rfl, Int.toNat_natCast]
    obtain ⟨Y, hY⟩ : ∃ Y, Y = sCp x7 248 0 257 (162 * i) (kN C) := ⟨_, rfl⟩
    rw [← hY]
    have yo : ∀ a j, a ≠ 257 → gI Y a j = gI x7 a j := fun a j q => by rw [hY, gI_sCp, if_neg (fun g => q g.1)]
    have y57 : ∀ s a, s < i + 1 → a < kN C → MxP C (Tg C s a) (gI Y 257 (162 * s + a)) := fun s a h1 h2 => by
      rw [hY, gI_sCp]
      by_cases q : s = i
      · subst q
        rw [if_pos (by omega), show 162 * s + a - 162 * s + 0 = a by omega]
        exact c2 a h2
      · rw [if_neg (by omega), c1.1 _ _ (by omega)]
        exact b4 s a (by omega) h2
    have cY : Ch 244 257 S Y := by
      have c0 : Ch 244 257 S x7 := b2.tr c1 (by omega) (by omega)
      rw [hY]
      exact ⟨fun a j q => by rw [gI_sCp, if_neg (by omega)]; exact c0.1 a j q, c0.2.1, c0.2.2.1, c0.2.2.2.1, c0.2.2.2.2⟩
    have tY : ∀ n, n < kN C → gI Y 245 n = kTime C n := fun n hn' => by rw [yo _ _ (by omega), c1.1 _ _ (by omega)]; exact b3 n hn'
    have e48 : gI Y 248 i = gI x7 248 i := yo _ _ (by omega)
    have M := c2 i iN
    have hw := Rw_one (C := C) hi
    have tr := kTime_rng w wp iN
    have q5 : KQu Y C 0 na A := b5.mv (fun a j q => by rw [yo _ _ (by omega), c1.1 _ _ (by omega)])
    rw [rdI_e (by omega), Int.toNat_natCast, e48, w32_gI]
    by_cases q1 : gI x7 248 i = -1
    · rw [q1] at M
      rw [if_pos q1, bX_some]
      refine WP_some.2 ⟨by show (i : Int) + 1 = _; omega, cY, tY, y57, na, A, q5, b6.pd (fun r => ⟨fun ⟨s, s1, s2⟩ => ⟨s, by omega, s2⟩, fun ⟨s, s1, s2, s3, s4⟩ => ?_⟩), b7⟩
      by_cases e : s = i
      · subst e; rw [s3] at s4; exact absurd s4 (Rw_no w hw M)
      · exact ⟨s, by omega, s2, s3, s4⟩
    · have bd := Rw_bd w hw M q1
      have t1 : tLen C [i] = kTime C i := by rw [tLen_n (by omega)]; show _ + 0 = _; omega
      have vr : 0 ≤ gI x7 248 i ∧ gI x7 248 i ≤ 130000 := by
        rcases M with ⟨M, _⟩ | ⟨M1, ⟨t, M2, M3⟩, _⟩
        · exact absurd M q1
        · have := Tg_rng w wp iN M2; omega
      obtain ⟨V, hV⟩ : ∃ V, V = tLen C [i] + gI x7 248 i := ⟨_, rfl⟩
      rw [← hV] at bd
      have rk : Rk C ([i], V) := Rw_rk w wp hw (by omega)
      rw [if_neg q1, wrI_e (by omega), show (0 : Int).toNat = 0 from rfl]
      obtain ⟨Z, hZ⟩ : ∃ Z, Z = sI Y 253 0 (i : Int) := ⟨_, rfl⟩
      rw [← hZ]
      have zo : ∀ a j, a ≠ 253 → gI Z a j = gI Y a j := fun a j q => by rw [hZ, hI_sI_a q]
      have sp : Spr Z [i] := by
        rw [hZ]
        exact Spr_snoc (r := []) (x := i) (fun j hj => absurd hj (Nat.not_lt_zero _)) (by omega)
      rw [rdI_e (by omega), Int.toNat_natCast, zo 245 _ (by omega), tY i iN, rdI_e (by omega), Int.toNat_natCast, zo 248 _ (by omega), e48, rdI_e (by omega), Int.toNat_natCast, zo 245 _ (by omega), tY i iN]
      have pg : ∃ s, i ≤ s ∧ s < kB C ∧ [i] = [s] ∧ ∃ p, Cmp C [i] p := by
        obtain ⟨c, c1, _⟩ := bd.1
        exact ⟨i, Nat.le_refl _, hi, rfl, c, c1⟩
      have hP : ∀ u, (∃ s, i + 1 ≤ s ∧ s < kB C ∧ u = [s] ∧ ∃ p, Cmp C u p) ↔ (∃ s, i ≤ s ∧ s < kB C ∧ u = [s] ∧ ∃ p, Cmp C u p) ∧ u ≠ [i] := fun u => by
        constructor
        · rintro ⟨s, s1, s2, s3, s4⟩
          refine ⟨⟨s, by omega, s2, s3, s4⟩, fun e => ?_⟩
          rw [s3] at e
          injection e with e _
          omega
        · rintro ⟨⟨s, s1, s2, s3, s4⟩, ne⟩
          refine ⟨s, ?_, s2, s3, s4⟩
          by_cases e : s = i
          · subst e; exact absurd s3 ne
          · omega
      have e1 : kTime C i + gI x7 248 i = V := by omega
      refine WP_call (R := fun z => (∃ na' A', KQu z C 0 na' A' ∧ QIn C 0 out na' A' (fun r => ∃ s, i + 1 ≤ s ∧ s < kB C ∧ r = [s] ∧ ∃ p, Cmp C r p) ∧ ∀ i, i < na' → Rk C (A' i)) ∧ ChW PO Z z) (WP_call (k_putP (G := Rk C) (x := ([i], V)) (fun y hy => hy.1) (q5.mv (fun a j q => zo a j (by omega))) b6 b7 sp rk bd pg hP e1 t1.symm rfl) (fun y hy => WP_some.2 hy)) (fun y hy => ?_)
      · obtain ⟨⟨na', A', y1, y2, y3⟩, y4⟩ := hy
        have cZ : Ch 244 257 S Z := by rw [hZ]; exact cY.sI (by omega)
        have c4 := y4.of (lo := 244) (hi := 257) (fun a i g => by rcases g with g | g <;> omega)
        refine WP_some.2 ⟨by show (i : Int) + 1 = _; omega, cZ.tr c4 (by omega) (by omega), fun n hn' => ?_, fun s a h1 h2 => ?_, na', A', y1, y2, y3⟩
        · dsimp only
          rw [y4.1 _ _ (fun g => by rcases g with g | g <;> omega), zo _ _ (by omega)]; exact tY n hn'
        · dsimp only
          rw [y4.1 257 _ (fun g => by rcases g with g | g <;> omega), zo _ _ (by omega)]; exact y57 s a h1 h2
  · obtain ⟨z1, z2⟩ := s'
    obtain ⟨b1, b2, b3, b4, na, A, b5, b6, b7⟩ := hI
    dsimp only at b1 b2 b3 b4 b5
    subst b1
    have hz : KTx z2 k C := h.ch b2 (by omega)
    unfold mX17_find_L17
    dsimp only
    rw [hz.1, gk_chip hk, k_bits hz.2.1 w, bX_some, if_neg (by omega)]
    exact WP_some.2 ⟨b2, b3, b4, na, A, b5, b6.pd (fun r => ⟨fun g => g.elim, fun ⟨s, s1, s2, _⟩ => absurd s2 (by omega)⟩), b7⟩
theorem k_fi107 (h : KTx S k C) (w : WFC C) (wp : WFP C) (wF : WFF C) (hk : k < 4) (ht : ∀ n, n < kN C → gI S 245 n = kTime C n) (hA : KAl S C (kB C))
    (h0 : ∃ na A, KQu S C 0 na A ∧ QIn C 0 (fun _ => []) na A (fun _ => False) ∧ ∀ i, i < na → Rk C (A i)) :
    WP (lpF mX17_find_L107 S) (fun z => Ch 244 257 S z ∧ ∃ (n : Nat) (out : Nat → List Nat), gI z 244 12 = (n : Int) ∧ KPa z C n out ∧ Top (Vp C) (befP C) n out) := by
  have hn := w.nums
  have hN := kN_le w
  obtain ⟨na0, A0, d1, d2, d3⟩ := h0
  refine WP_lpM (fun s m => Ch 244 257 S s ∧ (∀ n, n < kN C → gI s 245 n = kTime C n) ∧ KAl s C (kB C) ∧ ∃ n na out A, KQu s C n na A ∧ QIn C n out na A (fun _ => False) ∧ (∀ i, i < na → Rk C (A i)) ∧ KPa s C n out ∧ (0 < na → (40 - n) * 200 + (165 - (A 0).1.length) ≤ m)) (fun s m hI => ?_) (m := 8165) ⟨Ch.refl, ht, hA, 0, na0, fun _ => [], A0, d1, d2, d3, fun k hk => absurd hk (Nat.not_lt_zero _), fun _ => by omega⟩ (by unfold cFU; omega)
  obtain ⟨b1, b2, b3, n, na, out, A, b4, b5, b6, b7, b8⟩ := hI
  have n40 := b5.1
  have f1 := b4.1
  have f2 := b4.2.1
  have hz : KTx s k C := h.ch b1 (by omega)
  unfold mX17_find_L107
  rw [f1, f2, w32_id (x := (na : Int)) (by omega), w32_id (x := (n : Int)) (by omega)]
  have fin : (na = 0 ∨ n = 40) → WP (some (Sum.inr s) : Option (Sto ⊕ Sto)) (WE (fun s' => ∃ m', m' < m ∧ Ch 244 257 S s' ∧ (∀ n, n < kN C → gI s' 245 n = kTime C n) ∧ KAl s' C (kB C) ∧ ∃ n na out A, KQu s' C n na A ∧ QIn C n out na A (fun _ => False) ∧ (∀ i, i < na → Rk C (A i)) ∧ KPa s' C n out ∧ (0 < na → (40 - n) * 200 + (165 - (A 0).1.length) ≤ m')) (fun z => Ch 244 257 S z ∧ ∃ (n : Nat) (out : Nat → List Nat), gI z 244 12 = (n : Int) ∧ KPa z C n out ∧ Top (Vp C) (befP C) n out)) := fun q => WP_some.2 ⟨b1, n, out, f2, b7, b5.top q⟩
  by_cases q1 : na = 0
  · rw [if_neg (by omega), bX_some, if_neg (by decide)]
    exact fin (.inl q1)
  rw [if_pos (by omega)]
  by_cases q2 : n = 40
  · rw [if_neg (by omega), bX_some, if_neg (by decide)]
    exact fin (.inr q2)
  have h0 : 0 < na := by omega
  have mm := b8 h0
  have sl := b4.2.2 0 h0
  have rk0 := b6 0 h0
  obtain ⟨r1, r2, r3, r4, r5, r6⟩ := rk0.1
  rw [if_pos (by omega), bX_some, if_pos rfl, rdI_e (by omega), show (0 : Int).toNat = 0 from rfl, sl.2.1, rdI_e (by omega), show (0 : Int).toNat = 0 from rfl, sl.2.2.1]
  refine WP_call (k_firstP b4 (fun i hi => (b6 i hi).1) n40 h0) (fun x hx => ?_)
  obtain ⟨x1, x2, x3⟩ := hx
  have cx := b1.tr (x3.of (lo := 244) (hi := 257) (fun a i g => by rcases g with g | g <;> omega)) (Nat.le_refl _) (Nat.le_refl _)
  have hx : KTx x k C := h.ch cx (by omega)
  have tx : ∀ n, n < kN C → gI x 245 n = kTime C n := fun n hn' => (x3.1 _ _ (fun g => by rcases g with g | g <;> omega)).trans (b2 n hn')
  have ax : KAl x C (kB C) := fun s a h1 h2 => by rw [x3.1 257 _ (fun g => by rcases g with g | g <;> omega)]; exact b3 s a h1 h2
  have px : KPa x C n out := fun j hj => by
    have := b7 j hj
    exact ⟨(x3.1 _ _ (fun g => by rcases g with g | g <;> omega)).trans this.1, (x3.1 _ _ (fun g => by rcases g with g | g <;> omega)).trans this.2.1, fun i hi => (x3.1 _ _ (fun g => by rcases g with g | g <;> omega)).trans (this.2.2 i hi)⟩
  have bd0 := b5.2.2.2.2.1.1 0 h0
  have ord0 := b5.2.2.2.2.1.2
  rcases rk0.2 with vp | ⟨s0, a0, rw0⟩
  · -- a path
    obtain ⟨e, e1, e2⟩ := Vp_last vp
    have l1 : 1 ≤ (A 0).1.length := by
      obtain ⟨s', t', _, q, _⟩ := vp
      rw [q]; show 1 ≤ t'.length + 1; omega
    have zl : (((A 0).1.length : Int) - 1).toNat = (A 0).1.length - 1 := by omega
    have last := x1 ((A 0).1.length - 1) (by omega)
    rw [e2] at last
    have g12 : gI x 244 12 = (n : Int) := x2.2.1
    rw [rdI_e (by omega), zl, last, w32_id (by omega), if_neg (by omega), g12, wrI_e (by omega), Int.toNat_natCast, hI_sI_a (by omega), g12, wrI_e (by omega), Int.toNat_natCast, wf_eq, hI_sI_a (by omega), hI_sI_a (by omega), g12]
    have zn : (164 * (n : Int)).toNat = 164 * n := by omega
    rw [cpI_e (by omega), show (0 : Int).toNat = 0 from rfl, zn, Int.toNat_natCast]
    obtain ⟨Z, hZ⟩ : ∃ Z, Z = sCp (sI (sI (sI x 254 n (tLen C (A 0).1)) 255 n ((A 0).1.length : Int)) 244 12 ((n : Int) + 1)) 253 0 256 (164 * n) (A 0).1.length := ⟨_, rfl⟩
    rw [← hZ]
    have zo : ∀ a i, ¬ (254 ≤ a ∧ a ≤ 256) → ¬ (a = 244 ∧ i = 12) → gI Z a i = gI x a i := fun a i g1 g2 => by
      rw [hZ, gI_sCp, if_neg (by omega), hI_sI, if_neg g2, hI_sI_a (by omega), hI_sI_a (by omega)]
    have z12 : gI Z 244 12 = ((n + 1 : Nat) : Int) := by rw [hZ, gI_sCp, if_neg (by omega), gI_set, w32_id (by omega)]; omega
    have z54 : ∀ j, gI Z 254 j = if j = n then tLen C (A 0).1 else gI x 254 j := fun j => by
      rw [hZ, gI_sCp, if_neg (by omega), hI_sI_a (by omega), hI_sI_a (by omega)]
      by_cases q : j = n
      · rw [q, gI_set, if_pos rfl, w32_id (by omega)]
      · rw [hI_sI_i q, if_neg q]
    have z55 : ∀ j, gI Z 255 j = if j = n then ((A 0).1.length : Int) else gI x 255 j := fun j => by
      rw [hZ, gI_sCp, if_neg (by omega), hI_sI_a (by omega)]
      by_cases q : j = n
      · rw [q, gI_set, if_pos rfl, w32_id (by omega)]
      · rw [hI_sI_i q, if_neg q, hI_sI_a (by omega)]
    have z56 : ∀ y, gI Z 256 y = if 164 * n ≤ y ∧ y < 164 * n + (A 0).1.length then gI x 253 (y - 164 * n) else gI x 256 y := fun y => by
      rw [hZ, gI_sCp]
      by_cases q : 164 * n ≤ y ∧ y < 164 * n + (A 0).1.length
      · rw [if_pos ⟨rfl, q⟩, if_pos q, hI_sI_a (by omega), hI_sI_a (by omega), hI_sI_a (by omega)]; rfl
      · rw [if_neg (fun g => q g.2), if_neg q, hI_sI_a (by omega), hI_sI_a (by omega), hI_sI_a (by omega)]
    have cZ : Ch 244 257 S Z := by
      have c0 := ((cx.sI (a := 254) (i := n) (v := tLen C (A 0).1) (by omega)).sI (a := 255) (i := n) (v := ((A 0).1.length : Int)) (by omega)).sI (a := 244) (i := 12) (v := (n : Int) + 1) (by omega)
      rw [hZ]
      exact ⟨fun a j q => by rw [gI_sCp, if_neg (by omega)]; exact c0.1 a j q, c0.2.1, c0.2.2.1, c0.2.2.2.1, c0.2.2.2.2⟩
    have qi := b5.emit w h0 vp (out' := updN out n (A 0).1) (A' := fun i => A (i + 1)) (fun j hj => updN_ne (by omega)) updN_eq (fun i _ => rfl) (show na - 1 + 1 = na by omega)
    refine WP_some.2 ⟨m - 1, by omega, cZ, fun n' hn' => (zo _ _ (by omega) (by omega)).trans (tx n' hn'), fun s a g1 g2 => by rw [zo _ _ (by omega) (by omega)]; exact ax s a g1 g2, n + 1, na - 1, _, _, ⟨(zo _ _ (by omega) (by omega)).trans x2.1, z12, fun j hj => (x2.2.2 j hj).mv (fun a l1 l2 => zo _ _ (by omega) (by omega)) (fun i _ => zo _ _ (by omega) (by omega))⟩, qi, fun i hi => b6 (i + 1) (by omega), fun j hj => ?_, fun hna => ?_⟩
    · by_cases q : j = n
      · subst q
        rw [updN_eq]
        refine ⟨by rw [z54, if_pos rfl], by rw [z55, if_pos rfl], fun i hi => ?_⟩
        rw [z56, if_pos (by omega), show 164 * j + i - 164 * j = i by omega]
        exact x1 i hi
      · have pj := px j (by omega)
        rw [updN_ne q]
        have lj : (out j).length ≤ 164 := by
          obtain ⟨s', t', e', q', v1, v2, v3, v4⟩ := b5.2.1 j (by omega)
          have := Tl_len w _ _ v4 (by omega)
          rw [q']; show t'.length + 1 ≤ _; omega
        refine ⟨by rw [z54, if_neg q]; exact pj.1, by rw [z55, if_neg q]; exact pj.2.1, fun i hi => ?_⟩
        rw [z56, if_neg (by omega)]
        exact pj.2.2 i hi
    · have := (b6 1 (by omega)).1.1
      show (40 - (n + 1)) * 200 + (165 - (A 1).1.length) ≤ m - 1
      omega
  · -- a row that goes on
    obtain ⟨y1, y2, y3, y4, y5, y6, y7, y8, y9⟩ := Rw_rng w wp rw0
    have zl : (((A 0).1.length : Int) - 1).toNat = (A 0).1.length - 1 := by omega
    have last := x1 ((A 0).1.length - 1) (by omega)
    rw [y9] at last
    rw [rdI_e (by omega), zl, last, w32_id (by omega), if_pos (by omega)]
    have qi := b5.go (A' := fun i => A (i + 1)) h0 (Rw_vp w rw0) (fun i _ => rfl) (show na - 1 + 1 = na by omega)
    refine WP_call (k_goOn hx w wp wF hk rw0 bd0 rk0 (by omega) tx ax x1 ⟨na - 1, _, x2, qi, fun i hi => ⟨b6 (i + 1) (by omega), .inr (ord0 0 (i + 1) (by omega) (by omega))⟩⟩) (fun v hv => ?_)
    obtain ⟨v1, na', A', v2, v3, v4⟩ := hv
    obtain ⟨u1, y, u2⟩ := v3.head (by omega) bd0 (fun i hi => (v4 i hi).2) (fun i hi => b5.2.2.2.2.2.1 i hi 0 h0)
    have c4 := v1.of (lo := 244) (hi := 257) (fun a i g => by rcases g with g | g <;> omega)
    have px' : KPa v C n out := fun j hj => by
      have := px j hj
      exact ⟨(v1.1 _ _ (fun g => by rcases g with g | g <;> omega)).trans this.1, (v1.1 _ _ (fun g => by rcases g with g | g <;> omega)).trans this.2.1, fun i hi => (v1.1 _ _ (fun g => by rcases g with g | g <;> omega)).trans (this.2.2 i hi)⟩
    refine WP_some.2 ⟨m - 1, by omega, cx.tr c4 (by omega) (by omega), fun n' hn' => (v1.1 _ _ (fun g => by rcases g with g | g <;> omega)).trans (tx n' hn'), fun s a g1 g2 => by rw [v1.1 257 _ (fun g => by rcases g with g | g <;> omega)]; exact ax s a g1 g2, n, na', out, A', v2, v3, fun i hi => (v4 i hi).1, px', fun _ => ?_⟩
    have ll : (A' 0).1.length = (A 0).1.length + 1 := by rw [u2, List.length_append]; rfl
    omega
theorem k_findP (hk : k < 4) (r : RepK S (344 + 22 * k) C) (w : WFC C) (wp : WFP C) (rP : RepP S (344 + 22 * k) C) (rF : RepF S (344 + 22 * k) C) (wF : WFF C) :
    WP (mX17_find S (344 + 22 * k)) (fun z => Ch 219 257 (sR (sR S 244 1 (344 + 22 * k)) 219 0 (344 + 22 * k)) z ∧ ∃ (n : Nat) (out : Nat → List Nat), gI z 244 12 = (n : Int) ∧ KPa z C n out ∧ Top (Vp C) (befP C) n out) := by
  unfold mX17_find
  refine WP_call (k_times hk rfl r w wp rP) (fun x hx => ?_)
  obtain ⟨x1, x2, x3, x4, x5⟩ := hx
  rw [wf_eq, wf_eq]
  obtain ⟨Y, hY⟩ : ∃ Y, Y = sI (sI x 244 12 0) 244 10 0 := ⟨_, rfl⟩
  rw [← hY]
  have yo : ∀ a i, a ≠ 244 → gI Y a i = gI x a i := fun a i q => by rw [hY, hI_sI_a q, hI_sI_a q]
  have cY : Ch 219 257 (sR (sR S 244 1 (344 + 22 * k)) 219 0 (344 + 22 * k)) Y := by
    have c0 : Ch 219 257 (sR (sR S 244 1 (344 + 22 * k)) 219 0 (344 + 22 * k)) x := ⟨fun a i q => x5.1 a i (by omega), fun a i q => x5.2.1 a i (by omega), x5.2.2.1, x5.2.2.2.1, x5.2.2.2.2⟩
    rw [hY]
    exact (c0.sI (by omega)).sI (by omega)
  have hT : KTx Y k C := by
    have h0 : KTx (sR (sR S 244 1 (344 + 22 * k)) 219 0 (344 + 22 * k)) k C := ⟨by rw [gR_sR, if_neg (by omega), gR_sR, if_pos ⟨rfl, rfl⟩], r.cg (fun _ _ _ _ => rfl), rF⟩
    exact h0.ch cY (by omega)
  have tY : ∀ n, n < kN C → gI Y 245 n = kTime C n := fun n hn' => (yo _ _ (by omega)).trans (x1 n hn').1
  refine WP_call (k_fi17 (out := fun _ => []) hT w wp wF hk tY (by rw [hY, gI_set]; rfl) (by rw [hY, hI_sI_i (by omega), gI_set]; rfl)) (fun v hv => ?_)
  obtain ⟨v1, v2, v3, v4⟩ := hv
  refine WP_call (k_fi107 (hT.ch v1 (by omega)) w wp wF hk v2 v3 v4) (fun u hu => WP_some.2 ⟨(cY.tr v1 (by omega) (by omega)).tr hu.1 (by omega) (by omega), hu.2⟩)
/-- what the class tells of a path -/
theorem k_path {n : Nat} (h12 : gI S 244 12 = (n : Int)) (hp : KPa S C n out) (w : WFC C) (wp : WFP C) (hT : Top (Vp C) (befP C) n out) {kk : Nat} (hk : kk < 40) {what : Int} (hw : -3 ≤ what ∧ what < 2147483648) : mX17_path S (kk : Int) what = some (if n ≤ kk then -1 else pO C (out kk) what) := by
  have hN := kN_le w
  have hn := w.nums
  have n40 := hT.1
  unfold mX17_path
  rw [h12, w32_id (x := (n : Int)) (by omega), w32_id (x := (kk : Int)) (by omega)]
  by_cases q : n ≤ kk
  · rw [if_pos (by omega), if_pos q]
  · obtain ⟨p1, p2, p3⟩ := hp kk (by omega)
    obtain ⟨s', t', e', q', v1, v2, v3, v4⟩ := hT.2.1 kk (by omega)
    have lj : 1 ≤ (out kk).length ∧ (out kk).length ≤ 164 := by
      have := Tl_len w _ _ v4 (by omega)
      rw [q']; show 1 ≤ t'.length + 1 ∧ t'.length + 1 ≤ _; omega
    have z1 : (164 * (kk : Int) + (((out kk).length : Int) - 1)).toNat = 164 * kk + ((out kk).length - 1) := by omega
    have el : ((out kk).length : Int) - 1 = (((out kk).length - 1 : Nat) : Int) := by omega
    rw [if_neg (by omega), if_neg q, rdI_e (by omega), Int.toNat_natCast, p2, w32_id (x := what) (by omega)]
    unfold pO
    by_cases c1 : what = -1
    · rw [if_pos c1, if_pos c1, rdI_e (by omega), Int.toNat_natCast, p1]
    · rw [if_neg c1, if_neg c1]
      by_cases c2 : what = -2
      · rw [if_pos c2, if_pos c2, rdI_e (by omega), z1, p3 _ (by omega)]
      · rw [if_neg c2, if_neg c2]
        by_cases c3 : what = -3
        · rw [if_pos c3, if_pos c3, el]
        · rw [if_neg c3, if_neg c3, el, w32_id (by omega)]
          by_cases c4 : what < (((out kk).length - 1 : Nat) : Int)
          · have z2 : (164 * (kk : Int) + what).toNat = 164 * kk + what.toNat := by omega
            rw [if_pos c4, if_pos c4, rdI_e (by omega), z2, p3 _ (by omega), bX_some]
          · rw [if_neg c4, if_neg c4, bX_some]
end KFIND
section PATHCALL
variable {c : Nat} {S : Sto}
theorem L43 {p1 p2 p3 : Int} (h : Inv c S) (hc : c < 64) (h1 : i32 p1) (h2 : i32 p2) (h3 : i32 p3) : WP (mL_43 S p1 p2 p3) (Inv (c + 1)) := by
  have rx := h.1.x hc
  unfold mL_43 mX0_path
  by_cases hq : isCh S p1
  · have hx := chipIn_t hq; obtain ⟨k, C, hk, rfl, w, r, m, wx, rX, mX⟩ := InvC.get h hq; rw [Int.toNat_natCast] at hx; have hn := w.nums; have eg := r.1.2.2.2.1; have em := m.1.2.2.2.1; rw [w.g] at eg em; have ei := r.1.1; have mi := m.1.1; rw [w.i] at ei mi; have er := r.1.2.1; have mr := m.1.2.1; rw [w.r] at er mr; have eo := r.1.2.2.1; have mo := m.1.2.2.1; rw [w.o] at eo mo; have el := r.1.2.2.2.2.1; have ml := m.1.2.2.2.2.1; rw [w.l] at el ml
    have h2' := h2
    have h3' := h3
    unfold i32 at h2 h3
    by_cases q1 : (0 ≤ p2 ∧ p2 < 40) ∧ -3 ≤ p3
    · obtain ⟨⟨a1, a2⟩, a3⟩ := q1
      obtain ⟨kk, rfl⟩ : ∃ n : Nat, p2 = (n : Int) := ⟨p2.toNat, by omega⟩
      obtain ⟨x, gx, x1, n, out, x2, x3, x4⟩ := k_findP hk r w wx.1 rX.1 rX.2.2.2.1 wx.2.2.2.1
      have sc : Sc S x := Sc.tr Sc.refl.sR.sR (Sc.ch x1 rfl)
      have ka := k_path x2 x3 w wx.1 x4 (kk := kk) (by omega) (what := p3) (by omega)
      refine L_scr (m1 := fun S1 => mX23_path S1 _ _ _) (if n ≤ kk then -1 else pO C (out kk) p3) h hc ?_ (fun S1 eS => ?_)
      · unfold mX1_path
        rw [hx, bT_inl, gkc_chip hk, w32_id (x := (kk : Int)) (by omega), if_pos a1, if_pos a2, w32_id h3, if_pos a3, bX_some, if_pos rfl, bX_some, inside_1, bT_inl, gx, bX_some, ka, bX_some]
        exact WP_some.2 ⟨rfl, sc⟩
      · have s0 : Sc S1 (sI S1 2000 0 0) := Sc.refl.sI rfl
        have mS := eS.M m
        have mY := eS.Y w wx mX
        have s0Y := s0.Y w wx mY
        have wi : mX23_within (kk : Int) 0 39 = some 1 := m_within_t (by omega) (by omega) (by omega) (by omega)
        unfold mX23_path
        rw [eS.chip h h1 hq, bX_some, if_pos (by decide), wi, bX_some, if_pos (by decide), w32_id h3, if_neg (by omega), bX_some, if_neg (by decide), bX_some, wf_eq, gI_set, if_neg (by decide)]
        refine WP_callF (m_findPaths (s0.M mS) s0Y.1 s0Y.2.2.2.1 wx.2.2.2.1 w wx.1 hk) fr_mX23_findPaths (fun v hv hf => ?_)
        obtain ⟨n', out', N, T, v1, v2⟩ := hv
        have sc' := s0.tr (Sc.fr hf rfl rfl)
        have z0 : gI v 2000 0 = 0 := (hf.ei rfl).trans gI_set
        have te := m_tellP w wx.1 v1 v2.1 (kk := kk) (by omega) (what := p3) (by omega)
        rw [w32_id h3] at te
        refine te.mono (fun y hy => ?_)
        obtain ⟨y1, y2⟩ := hy
        have eq := x4.eq (befP_irr C) (befP_tr C) v2
        refine ⟨?_, by rw [y2]; exact z0, by rw [y2]; exact sc'⟩
        rw [y1, ← eq.1]
        by_cases g : n ≤ kk
        · rw [if_pos g, if_pos g]
        · rw [if_neg g, if_neg g, eq.2 kk (by omega)]
    · have q1' : ¬ ((0 ≤ p2 ∧ p2 ≤ 39) ∧ -3 ≤ p3) := fun g => q1 ⟨⟨g.1.1, by omega⟩, g.2⟩
      refine L_modF (m1 := fun S1 => mX23_path S1 _ _ _) 1 1 h hc ?_ rfl (by omega) (fun S1 eS => ?_)
      · unfold mX1_path
        rw [hx, bT_inl, gkc_chip hk, w32_id h2, w32_id h3]
        by_cases a1 : 0 ≤ p2
        · rw [if_pos a1]
          by_cases a2 : p2 < 40
          · rw [if_pos a2, if_neg (fun g => q1 ⟨⟨a1, a2⟩, g⟩), bX_some, if_neg (by decide), bX_some, inside_0 rx]; rfl
          · rw [if_neg a2, bX_some, if_neg (by decide), bX_some, inside_0 rx]; rfl
        · rw [if_neg a1, bX_some, if_neg (by decide), bX_some, inside_0 rx]; rfl
      · unfold mX23_path
        rw [m_isChip_t h eS h1 hq, bX_some, if_pos (by decide), w32_id h3]
        by_cases a1 : 0 ≤ p2 ∧ p2 ≤ 39
        · rw [m_within_t (by omega) (by omega) (by omega) a1, bX_some, if_pos (by decide), if_pos (by omega), bX_some, if_pos rfl, bX_some, wf_eq, gI_set, if_pos (by decide)]
        · rw [m_within_f (by omega) (by omega) (by omega) a1, bX_some, if_neg (by decide), bX_some, if_pos rfl, bX_some, wf_eq, gI_set, if_pos (by decide)]
  · refine L_modF (m1 := fun S1 => mX23_path S1 _ _ _) 1 1 h hc ?_ rfl (by omega) (fun S1 eS => ?_)
    · rw [mX1_path, chipIn_f hq rx h1]; rfl
    · unfold mX23_path; rw [m_isChip_f h eS h1 hq]; rfl
end PATHCALL
