/-! the class: a row goes on -/
def KAl (z : Sto) (C : Chp) (m : Nat) : Prop := ∀ s a, s < m → a < kN C → MxP C (Tg C s a) (gI z 257 (162 * s + a))
def Pg (C : Chp) (q : List Nat) (m : Nat) (r : List Nat) : Prop := ∃ x, m ≤ x ∧ r = q ++ [x] ∧ ∃ p, Cmp C r p
def GG (C : Chp) (x y : List Nat × Int) : Prop := Rk C y ∧ Gq x y
section GOON
variable {C : Chp} {s a e n k : Nat} {p r t : List Nat} {q : List Nat × Int} {S z : Sto} {out : Nat → List Nat} {Pd Pd' : List Nat → Prop}
theorem k_go38 (h : KTx S k C) (w : WFC C) (hk : k < 4) {g : Nat} (hg : g < kG C) (ha : a < kN C) : lpF (mX17_goOn_L38 ((g : Int), S) (a : Int)) (0, 0) = some (cI (rdN C a (kB C + g)) 1 0) := by
  have hn := w.nums
  have rd : rdN C a (kB C + g) ↔ ∃ j, j < kAr C g ∧ kP C g j = a := ⟨fun ⟨g', j, h1, h2, h3, h4⟩ => by
    have : g' = g := by omega
    subst this; exact ⟨j, h2, h3⟩, fun ⟨j, h2, h3⟩ => ⟨g, j, hg, h2, h3, rfl⟩⟩
  refine WP.of ?_
  refine WP_cnt (kAr C g) (fun i s => s.2 = (i : Int) ∧ ((s.1 = 0 ∧ ∀ j, j < i → kP C g j ≠ a) ∨ (s.1 = 1 ∧ ∃ j, j < kAr C g ∧ kP C g j = a))) (by have := w.ar hg; unfold cFU; omega) ⟨rfl, .inl ⟨rfl, fun j hj => absurd hj (Nat.not_lt_zero _)⟩⟩ (fun i s hi hI => ?_) (fun s hI => ?_)
  · obtain ⟨z1, z2⟩ := s
    obtain ⟨b1, b2⟩ := hI
    dsimp only at b1 b2
    subst b1
    have p := w.p hg hi
    have ar := w.ar hg
    have p5 := h.2.1.2.2.1 (3 * g + i) (by omega)
    rw [p.1] at p5
    have zt : (3 * (g : Int) + (i : Int)).toNat = 3 * g + i := by omega
    unfold mX17_goOn_L38
    dsimp only
    rw [h.1, gk_chip hk, k_inputsOf h.2.1 w (by omega), bX_some, Int.toNat_natCast, w32_id (x := (i : Int)) (by omega), w32_id (x := ((kAr C g : Nat) : Int)) (by omega), if_pos (by omega), gk_chip hk, rdI_e (by omega), zt, p5, w32_id (by omega), w32_id (by omega)]
    by_cases q : kP C g i = a
    · rw [if_pos (by omega)]
      refine WP_some.2 ⟨by show (i : Int) + 1 = _; omega, .inr ⟨?_, i, hi, q⟩⟩
      dsimp only
      rcases b2 with ⟨rfl, _⟩ | ⟨rfl, _⟩ <;> rfl
    · rw [if_neg (by omega)]
      refine WP_some.2 ⟨by show (i : Int) + 1 = _; omega, ?_⟩
      dsimp only
      rcases b2 with ⟨rfl, b2⟩ | ⟨rfl, b2⟩
      · refine .inl ⟨rfl, fun j hj => ?_⟩
        by_cases ej : j = i
        · rw [ej]; exact q
        · exact b2 j (by omega)
      · exact .inr ⟨rfl, b2⟩
  · obtain ⟨z1, z2⟩ := s
    obtain ⟨b1, b2⟩ := hI
    dsimp only at b1 b2
    subst b1
    unfold mX17_goOn_L38
    dsimp only
    rw [h.1, gk_chip hk, k_inputsOf h.2.1 w (by omega), bX_some, Int.toNat_natCast, if_neg (by omega)]
    refine WP_some.2 ?_
    show z1 = _
    rcases b2 with ⟨rfl, b2⟩ | ⟨rfl, b2⟩
    · rw [cI_f (fun h => by obtain ⟨j, h1, h2⟩ := rd.1 h; exact b2 j h1 h2)]
    · rw [cI_t (rd.2 b2)]
theorem Spr_snoc {x : Nat} (h : Spr S r) (hx : x < 100000) : Spr (sI S 253 r.length (x : Int)) (r ++ [x]) := fun i hi => by
  have ll : (r ++ [x]).length = r.length + 1 := by rw [List.length_append]; rfl
  by_cases q : i = r.length
  · rw [q, gI_set, w32_id (by omega), List.getD_eq_getElem?_getD, List.getElem?_append_right (by omega), Nat.sub_self]; rfl
  · rw [hI_sI_i q, h i (by omega), List.getD_eq_getElem?_getD, List.getD_eq_getElem?_getD, List.getElem?_append_left (by omega)]
theorem Spr_pre {u : List Nat} (h : Spr S (r ++ u)) : Spr S r := fun i hi => by
  rw [h i (by rw [List.length_append]; omega), List.getD_eq_getElem?_getD, List.getD_eq_getElem?_getD, List.getElem?_append_left hi]
theorem Spr.mv (h : Spr S r) (e : ∀ i, gI z 253 i = gI S 253 i) : Spr z r := fun i hi => (e i).trans (h i hi)
theorem KQu.mv {na : Nat} {A : Nat → List Nat × Int} (h : KQu S C n na A) (e : ∀ a i, a = 244 ∨ (249 ≤ a ∧ a ≤ 252) → gI z a i = gI S a i) : KQu z C n na A := by
  refine ⟨(e _ _ (by omega)).trans h.1, (e _ _ (by omega)).trans h.2.1, fun k hk => (h.2.2 k hk).mv (fun a l1 l2 => e _ _ (by omega)) (fun i _ => e _ _ (by omega))⟩
theorem k_go20 (h : KTx S k C) (w : WFC C) (wp : WFP C) (hk : k < 4) (hw : Rw C s a q.1) (hq : Bd C q.1 q.2) (hr : Rk C q) (hn40 : n < 40) (ht : ∀ n, n < kN C → gI S 245 n = kTime C n) (hA : KAl S C (kB C)) (hs : Spr S q.1)
    (h0 : ∃ na A, KQu S C n na A ∧ QIn C n out na A (Pg C q.1 (kB C)) ∧ ∀ i, i < na → GG C q (A i)) :
    WP (lpF (mX17_goOn_L20 (a : Int) (s : Int) (q.1.length : Int) (tLen C q.1)) (0, S)) (fun z => ChW PF S z ∧ Spr z q.1 ∧ ∃ na A, KQu z C n na A ∧ QIn C n out na A (Pg C q.1 (kN C)) ∧ ∀ i, i < na → GG C q (A i)) := by
  have hn := w.nums
  have hN := kN_le w
  obtain ⟨r1, r2, r3, r4, r5, r6, r7, r8, r9⟩ := Rw_rng w wp hw
  refine WP_cnt (kG C) (fun i s => s.1 = (i : Int) ∧ ChW PF S s.2 ∧ Spr s.2 q.1 ∧ ∃ na A, KQu s.2 C n na A ∧ QIn C n out na A (Pg C q.1 (kB C + i)) ∧ ∀ i, i < na → GG C q (A i)) (by unfold cFU; omega) ⟨rfl, ChW.refl, hs, h0⟩ (fun i s' hi hI => ?_) (fun s' hI => ?_)
  · obtain ⟨z1, z2⟩ := s'
    obtain ⟨b1, b2, b3, na, A, b4, b5, b6⟩ := hI
    dsimp only at b1 b2 b3 b4
    subst b1
    have hz : KTx z2 k C := h.ch (b2.of (lo := 244) (hi := 257) (fun a i g => by rcases g with g | g <;> omega)) (by omega)
    have tz : ∀ n, n < kN C → gI z2 245 n = kTime C n := fun n hn' => (b2.1 _ _ (fun g => by rcases g with g | g <;> omega)).trans (ht n hn')
    have az : KAl z2 C (kB C) := fun s a h1 h2 => by
      rw [b2.1 257 _ (fun g => by rcases g with g | g <;> omega)]; exact hA s a h1 h2
    have e6 := hz.2.1.1.2.2.2.1
    rw [w.g] at e6
    obtain ⟨x, hx⟩ : ∃ x, x = kB C + i := ⟨_, rfl⟩
    have xN : x < kN C := by omega
    have ex : (kB C : Int) + (i : Int) = (x : Int) := by omega
    have M := az s x r1 xN
    have tx := tz x xN
    have tr := kTime_rng w wp xN
    have zr : ((s : Int) * 162 + (x : Int)).toNat = 162 * s + x := by omega
    -- no row for this gate
    have skip : (¬ ∃ p, Cmp C (q.1 ++ [x]) p) → WP (some (Sum.inl ((i : Int) + 1, z2)) : Option ((Int × Sto) ⊕ Sto)) (WE (fun s => s.1 = ((i + 1 : Nat) : Int) ∧ ChW PF S s.2 ∧ Spr s.2 q.1 ∧ ∃ na A, KQu s.2 C n na A ∧ QIn C n out na A (Pg C q.1 (kB C + (i + 1))) ∧ ∀ i, i < na → GG C q (A i)) (fun z => ChW PF S z ∧ Spr z q.1 ∧ ∃ na A, KQu z C n na A ∧ QIn C n out na A (Pg C q.1 (kN C)) ∧ ∀ i, i < na → GG C q (A i))) := fun no => by
      refine WP_some.2 ⟨by show (i : Int) + 1 = _; omega, b2, b3, na, A, b4, b5.pd (fun r => ⟨fun ⟨y, y1, y2⟩ => ⟨y, by omega, y2⟩, fun ⟨y, y1, y2, y3⟩ => ?_⟩), b6⟩
      by_cases e : y = x
      · subst e; rw [y2] at y3; exact absurd y3 no
      · exact ⟨y, by omega, y2, y3⟩
    unfold mX17_goOn_L20
    dsimp only
    rw [hz.1, gk_chip hk, e6, w32_id (x := (i : Int)) (by omega), w32_id (x := (kG C : Int)) (by omega), if_pos (by omega), k_go38 hz w hk hi r2, bX_some, gk_chip hk, k_netOfGate hz.2.1 w, bX_some, ex, ← hx]
    by_cases rd : rdN C a x
    · rw [cI_t rd, if_pos (by decide)]
      have hwx := Rw_ext hw rd
      unfold mX17_rest
      rw [rdI_e (by omega), zr, bX_some, w32_gI]
      by_cases q1 : gI z2 257 (162 * s + x) = -1
      · rw [q1] at M
        rw [if_pos q1, bX_some]
        exact skip (Rw_no w hwx M)
      · have bd := Rw_bd w hwx M q1
        have lx' : tLen C (q.1 ++ [x]) = tLen C q.1 + kTime C x := by rw [tLen_app, tLen_n (by omega)]; show _ + (_ + 0) = _; omega
        have vr : 0 ≤ gI z2 257 (162 * s + x) ∧ gI z2 257 (162 * s + x) ≤ 130000 := by
          rcases M with ⟨M, _⟩ | ⟨M1, ⟨t, M2, M3⟩, _⟩
          · exact absurd M q1
          · have := Tg_rng w wp xN M2; omega
        obtain ⟨V, hV⟩ : ∃ V, V = tLen C (q.1 ++ [x]) + gI z2 257 (162 * s + x) := ⟨_, rfl⟩
        rw [← hV] at bd
        have rx := Rw_rng w wp hwx
        have rk : Rk C (q.1 ++ [x], V) := Rw_rk w wp hwx (by omega)
        rw [if_neg q1, wrI_e (by omega), Int.toNat_natCast]
        obtain ⟨Y, hY⟩ : ∃ Y, Y = sI z2 253 q.1.length (x : Int) := ⟨_, rfl⟩
        rw [← hY]
        have yo : ∀ a i, a ≠ 253 → gI Y a i = gI z2 a i := fun a i q => by rw [hY, hI_sI_a q]
        have sp : Spr Y (q.1 ++ [x]) := by rw [hY]; exact Spr_snoc b3 (by omega)
        rw [rdI_e (by omega), Int.toNat_natCast, yo 245 _ (by omega), tx, rdI_e (by omega), zr, yo 257 _ (by omega), bX_some, rdI_e (by omega), Int.toNat_natCast, yo 245 _ (by omega), tx]
        have pg : Pg C q.1 (kB C + i) (q.1 ++ [x]) := by
          obtain ⟨c, c1, _⟩ := bd.1
          exact ⟨x, by omega, rfl, c, c1⟩
        have hP : ∀ u, Pg C q.1 (kB C + (i + 1)) u ↔ Pg C q.1 (kB C + i) u ∧ u ≠ q.1 ++ [x] := fun u => by
          constructor
          · rintro ⟨y, y1, y2, y3⟩
            refine ⟨⟨y, by omega, y2, y3⟩, fun e => ?_⟩
            rw [y2] at e
            have := List.append_cancel_left e
            injection this with e _
            omega
          · rintro ⟨⟨y, y1, y2, y3⟩, ne⟩
            refine ⟨y, ?_, y2, y3⟩
            by_cases e : y = x
            · subst e; exact absurd y2 ne
            · omega
        have e1 : tLen C q.1 + kTime C x + gI z2 257 (162 * s + x) = V := by omega
        have e3 : (q.1.length : Int) + 1 = ((q.1 ++ [x]).length : Int) := by rw [List.length_append]; show _ = ((q.1.length + 1 : Nat) : Int); omega
        refine WP_call (R := fun z => (∃ na' A', KQu z C n na' A' ∧ QIn C n out na' A' (Pg C q.1 (kB C + (i + 1))) ∧ ∀ i, i < na' → GG C q (A' i)) ∧ ChW PO Y z) (WP_call (k_putP (G := GG C q) (x := (q.1 ++ [x], V)) (fun y hy => hy.1.1) (b4.mv (fun a i q => yo a i (by omega))) b5 b6 sp ⟨rk, .inl ⟨x, rfl⟩⟩ bd pg hP e1 lx'.symm e3) (fun y hy => WP_some.2 hy)) (fun y hy => ?_)
        · obtain ⟨⟨na', A', y1, y2, y3⟩, y4⟩ := hy
          have cy : ChW PF S y := (show ChW PF S Y by rw [hY]; exact b2.sI (.inr ⟨by omega, by omega⟩)).tr y4 (fun a i g => g.imp id (fun g => ⟨g.1, by omega⟩))
          have spy : Spr y q.1 := (Spr_pre sp).mv (fun i => y4.1 _ _ (fun g => by rcases g with g | g <;> omega))
          exact WP_some.2 ⟨by show (i : Int) + 1 = _; omega, cy, spy, na', A', y1, y2, y3⟩
    · rw [cI_f rd, if_neg (by decide), bX_some]
      refine skip (fun ⟨p, hp⟩ => ?_)
      obtain ⟨k, e, _, _, hk⟩ := Rw_x w hw hp
      rcases Tl_inv hk with ⟨g, _⟩ | ⟨g, _⟩
      · omega
      · exact rd g
  · obtain ⟨z1, z2⟩ := s'
    obtain ⟨b1, b2, b3, b4⟩ := hI
    dsimp only at b1 b2 b3 b4
    subst b1
    have hz : KTx z2 k C := h.ch (b2.of (lo := 244) (hi := 257) (fun a i g => by rcases g with g | g <;> omega)) (by omega)
    have e6 := hz.2.1.1.2.2.2.1
    rw [w.g] at e6
    unfold mX17_goOn_L20
    dsimp only
    rw [hz.1, gk_chip hk, e6, if_neg (by omega)]
    exact WP_some.2 ⟨b2, b3, b4⟩
theorem k_go168 (h : KTx S k C) (w : WFC C) (wp : WFP C) (wF : WFF C) (hk : k < 4) (hw : Rw C s a q.1) (hn40 : n < 40) (hs : Spr S q.1)
    (h0 : ∃ na A, KQu S C n na A ∧ QIn C n out na A (Pg C q.1 (kN C)) ∧ ∀ i, i < na → GG C q (A i)) :
    WP (lpF (mX17_goOn_L168 (a : Int) (s : Int) (q.1.length : Int) (tLen C q.1)) (0, S)) (fun z => ChW PF S z ∧ ∃ na A, KQu z C n na A ∧ QIn C n out na A (fun _ => False) ∧ ∀ i, i < na → GG C q (A i)) := by
  have hn := w.nums
  have hN := kN_le w
  obtain ⟨r1, r2, r3, r4, r5, r6, r7, r8, r9⟩ := Rw_rng w wp hw
  -- what may come now is an end
  have only : ∀ x p, kN C ≤ x → Cmp C (q.1 ++ [x]) p → ∃ e, e < kO C + kR C ∧ x = 10000 + e ∧ kFls C (s : Int) (e : Int) = false ∧ kEnd C e = (a : Int) := fun x p hx hp => by
    obtain ⟨k, e, h1, h2, hk⟩ := Rw_x w hw hp
    rcases Tl_inv hk with ⟨g1, _, g2⟩ | ⟨g, _⟩
    · exact ⟨e, h1, g1, h2, g2⟩
    · have := (rdN_lt w g).2.2; omega
  refine WP_cnt (kO C + kR C) (fun i s => s.1 = (i : Int) ∧ ChW PF S s.2 ∧ Spr s.2 q.1 ∧ ∃ na A, KQu s.2 C n na A ∧ QIn C n out na A (Pg C q.1 (10000 + i)) ∧ ∀ i, i < na → GG C q (A i)) (by unfold cFU; omega) ⟨rfl, ChW.refl, hs, ?_⟩ (fun i s' hi hI => ?_) (fun s' hI => ?_)
  · obtain ⟨na, A, c1, c2, c3⟩ := h0
    refine ⟨na, A, c1, c2.pd (fun r => ⟨fun ⟨y, y1, y2⟩ => ⟨y, by omega, y2⟩, fun ⟨y, y1, y2, p, y3⟩ => ⟨y, ?_, y2, p, y3⟩⟩), c3⟩
    rw [y2] at y3
    obtain ⟨e, _, e2, _⟩ := only y p y1 y3
    omega
  · obtain ⟨z1, z2⟩ := s'
    obtain ⟨b1, b2, b3, na, A, b4, b5, b6⟩ := hI
    dsimp only at b1 b2 b3 b4
    subst b1
    have hz : KTx z2 k C := h.ch (b2.of (lo := 244) (hi := 257) (fun a i g => by rcases g with g | g <;> omega)) (by omega)
    have kr := kEnd_rng w hi
    have skip : ¬ (kFls C (s : Int) (i : Int) = false ∧ kEnd C i = (a : Int)) → WP (some (Sum.inl ((i : Int) + 1, z2)) : Option ((Int × Sto) ⊕ Sto)) (WE (fun s => s.1 = ((i + 1 : Nat) : Int) ∧ ChW PF S s.2 ∧ Spr s.2 q.1 ∧ ∃ na A, KQu s.2 C n na A ∧ QIn C n out na A (Pg C q.1 (10000 + (i + 1))) ∧ ∀ i, i < na → GG C q (A i)) (fun z => ChW PF S z ∧ ∃ na A, KQu z C n na A ∧ QIn C n out na A (fun _ => False) ∧ ∀ i, i < na → GG C q (A i))) := fun no => by
      refine WP_some.2 ⟨by show (i : Int) + 1 = _; omega, b2, b3, na, A, b4, b5.pd (fun r => ⟨fun ⟨y, y1, y2⟩ => ⟨y, by omega, y2⟩, fun ⟨y, y1, y2, p, y3⟩ => ⟨y, ?_, y2, p, y3⟩⟩), b6⟩
      rw [y2] at y3
      obtain ⟨e, _, e2, e3, e4⟩ := only y p (by omega) y3
      by_cases g : e = i
      · subst g; exact absurd ⟨e3, e4⟩ no
      · omega
    unfold mX17_goOn_L168
    dsimp only
    rw [k_ends hk rfl hz.1 hz.2.1 w, bX_some, w32_id (x := (i : Int)) (by omega), w32_id (x := ((kO C + kR C : Nat) : Int)) (by omega), if_pos (by omega), k_netOfEnd hk rfl hz.1 hz.2.1 w hi, bX_some, w32_id (x := kEnd C i) (by omega), w32_id (x := (a : Int)) (by omega)]
    by_cases q1 : kEnd C i = (a : Int)
    · rw [if_pos q1, k_isFalse hk rfl hz.1 hz.2.2 wF ⟨by omega, by omega⟩ ⟨by omega, by omega⟩, bX_some]
      by_cases f : kFls C (s : Int) (i : Int) = true
      · rw [f, if_pos (by decide), bX_some]
        exact skip (fun g => by rw [f] at g; exact absurd g.1 (by decide))
      · have f := Bool.eq_false_iff.2 f
        obtain ⟨v1, v2, v3, v4⟩ := Rw_end w wp hw hi f q1
        have e10 : (10000 : Int) + (i : Int) = ((10000 + i : Nat) : Int) := by omega
        rw [f, if_neg (by decide), wrI_e (by omega), Int.toNat_natCast, e10]
        obtain ⟨Y, hY⟩ : ∃ Y, Y = sI z2 253 q.1.length ((10000 + i : Nat) : Int) := ⟨_, rfl⟩
        rw [← hY]
        have yo : ∀ a i, a ≠ 253 → gI Y a i = gI z2 a i := fun a i q => by rw [hY, hI_sI_a q]
        have sp : Spr Y (q.1 ++ [10000 + i]) := by rw [hY]; exact Spr_snoc b3 (by omega)
        have hY' : KTx Y k C := hz.mv (fun a i l1 l2 => yo _ _ (by omega)) (by rw [hY]; rfl)
        have pg : Pg C q.1 (10000 + i) (q.1 ++ [10000 + i]) := ⟨_, Nat.le_refl _, rfl, _, v1, List.prefix_rfl⟩
        rw [k_more hY' w hk (by omega), bX_some, bX_some]
        have hP : ∀ u, Pg C q.1 (10000 + (i + 1)) u ↔ Pg C q.1 (10000 + i) u ∧ u ≠ q.1 ++ [10000 + i] := fun u => by
          constructor
          · rintro ⟨y, y1, y2, y3⟩
            refine ⟨⟨y, by omega, y2, y3⟩, fun e => ?_⟩
            rw [y2] at e
            have := List.append_cancel_left e
            injection this with e _
            omega
          · rintro ⟨⟨y, y1, y2, y3⟩, ne⟩
            refine ⟨y, ?_, y2, y3⟩
            by_cases e : y = 10000 + i
            · subst e; exact absurd y2 ne
            · omega
        have e3 : (q.1.length : Int) + 1 = ((q.1 ++ [10000 + i]).length : Int) := by rw [List.length_append]; show _ = ((q.1.length + 1 : Nat) : Int); omega
        refine WP_call (R := fun z => (∃ na' A', KQu z C n na' A' ∧ QIn C n out na' A' (Pg C q.1 (10000 + (i + 1))) ∧ ∀ i, i < na' → GG C q (A' i)) ∧ ChW PO Y z) (WP_call (k_putP (G := GG C q) (x := (q.1 ++ [10000 + i], tLen C q.1 + moF C i)) (fun y hy => hy.1.1) (b4.mv (fun a i q => yo a i (by omega))) b5 b6 sp ⟨v4, .inl ⟨_, rfl⟩⟩ v2 pg hP rfl v3.symm e3) (fun y hy => WP_some.2 hy)) (fun y hy => ?_)
        · obtain ⟨⟨na', A', y1, y2, y3⟩, y4⟩ := hy
          have cy : ChW PF S y := (show ChW PF S Y by rw [hY]; exact b2.sI (.inr ⟨by omega, by omega⟩)).tr y4 (fun a i g => g.imp id (fun g => ⟨g.1, by omega⟩))
          have spy : Spr y q.1 := (Spr_pre sp).mv (fun i => y4.1 _ _ (fun g => by rcases g with g | g <;> omega))
          exact WP_some.2 ⟨by show (i : Int) + 1 = _; omega, cy, spy, na', A', y1, y2, y3⟩
    · rw [if_neg q1, bX_some]
      exact skip (fun g => q1 g.2)
  · obtain ⟨z1, z2⟩ := s'
    obtain ⟨b1, b2, b3, na, A, b4, b5, b6⟩ := hI
    dsimp only at b1 b2 b3 b4
    subst b1
    have hz : KTx z2 k C := h.ch (b2.of (lo := 244) (hi := 257) (fun a i g => by rcases g with g | g <;> omega)) (by omega)
    unfold mX17_goOn_L168
    dsimp only
    rw [k_ends hk rfl hz.1 hz.2.1 w, bX_some, if_neg (by omega)]
    refine WP_some.2 ⟨b2, na, A, b4, b5.pd (fun r => ⟨fun g => g.elim, fun ⟨y, y1, y2, p, y3⟩ => ?_⟩), b6⟩
    rw [y2] at y3
    obtain ⟨e, e1, e2, _⟩ := only y p (by omega) y3
    omega
theorem k_goOn (h : KTx S k C) (w : WFC C) (wp : WFP C) (wF : WFF C) (hk : k < 4) (hw : Rw C s a q.1) (hq : Bd C q.1 q.2) (hr : Rk C q) (hn40 : n < 40) (ht : ∀ n, n < kN C → gI S 245 n = kTime C n) (hA : KAl S C (kB C)) (hs : Spr S q.1)
    (h0 : ∃ na A, KQu S C n na A ∧ QIn C n out na A (Ext C q.1) ∧ ∀ i, i < na → GG C q (A i)) :
    WP (mX17_goOn S (tLen C q.1) (q.1.length : Int)) (fun z => ChW PF S z ∧ ∃ na A, KQu z C n na A ∧ QIn C n out na A (fun _ => False) ∧ ∀ i, i < na → GG C q (A i)) := by
  have hN := kN_le w
  have hn := w.nums
  obtain ⟨r1, r2, r3, r4, r5, r6, r7, r8, r9⟩ := Rw_rng w wp hw
  have z1 : ((q.1.length : Int) - 1).toNat = q.1.length - 1 := by omega
  have e0 := hs 0 (by omega)
  have e1 := hs (q.1.length - 1) (by omega)
  rw [r8] at e0
  rw [r9] at e1
  unfold mX17_goOn
  rw [rdI_e (by omega), show (0 : Int).toNat = 0 from rfl, e0, rdI_e (by omega), z1, e1]
  obtain ⟨na, A, c1, c2, c3⟩ := h0
  refine WP_call (k_go20 h w wp hk hw hq hr hn40 ht hA hs ⟨na, A, c1, c2.pd (fun r => ⟨fun ⟨x, x1, x2, x3⟩ => ⟨x, x2, x3⟩, fun ⟨x, x2, p, x3⟩ => ⟨x, ?_, x2, p, x3⟩⟩), c3⟩) (fun y hy => ?_)
  · rw [x2] at x3
    obtain ⟨k, e, _, _, hk⟩ := Rw_x w hw x3
    rcases Tl_inv hk with ⟨g, _⟩ | ⟨g, _⟩
    · omega
    · exact (rdN_lt w g).2.1
  · obtain ⟨y1, y2, y3⟩ := hy
    have hy' : KTx y k C := h.ch (y1.of (lo := 244) (hi := 257) (fun a i g => by rcases g with g | g <;> omega)) (by omega)
    exact WP_call (k_go168 hy' w wp wF hk hw hn40 y2 y3) (fun v hv => WP_some.2 ⟨y1.tr hv.1 (fun _ _ g => g), hv.2⟩)
end GOON
