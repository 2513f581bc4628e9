/-! the reference's jobs: a gate's work, whole -/
section MWORK4
variable {S z z' : Sto} {G : Dsg} {B : Lib} {d n i k l m o tu x t b f p : Nat} {s s1 T : MkS} {L : List (Nat × Nat)}
theorem m_wk0 (w : WFG G) (wl : WFL B) (hr : rOK G B) (hd : d < 6) (hl3 : l < 3) (hM : MKg S G B d l) (hk : k < 2) (h : JIn S G B d l T ((n, k) :: L) s z) (hc : ∀ p ∈ L, s.2 p.1 p.2 = -1) : WP (mX23_work z) (WkO S G B d l T n k L s) := by
  have hj := h
  obtain ⟨h1, h2, h3, h4, h5, h6, h7, h8, h9, h10⟩ := h
  have hno := no_le w
  have ng := w.nums
  have ln := wl.nums
  have e13 : gFi G = 1 + gIn G + gSt G := rfl
  have sl := miss_len w hj
  obtain ⟨gd, rk⟩ := h4 (n, k) (.head _)
  dsimp only at gd rk
  obtain ⟨g1, g2, g3⟩ := Gd_n w gd
  obtain ⟨_, hn, gc, gr⟩ := gd.resolve_right (fun g => by omega)
  have Mz := hM.cw w wl hl3 h10
  have hl := stkU_len (G := G) (B := B) 5000 _ 0 h5 (fun p hp => ⟨Nat.zero_le _, (h4 p hp).2⟩) (Nat.zero_le _)
  have hl' : L.length + 1 ≤ 5000 := hl
  have e137 : gI z 2000 137 - 1 = (L.length : Int) := by rw [h2.1]; show ((L.length + 1 : Nat) : Int) - 1 = _; omega
  have jc : jbC (n, k) = 2 * n + k := by unfold jbC; rw [if_neg (by dsimp only; omega)]
  have jk : jbK (n, k) = 0 := by unfold jbK; rw [if_neg (by dsimp only; omega)]
  have c3 : gI z 2103 L.length = ((2 * n + k : Nat) : Int) := by rw [← jc]; exact h2.2.1
  have c4 : gI z 2104 L.length = 0 := by have := h2.2.2.1; rw [jk] at this; exact this
  have rg : ∀ a b, -1 ≤ s.2 a b ∧ s.2 a b < 6000 := fun a b => by have := h3 a b; omega
  have net : ∀ u, u < 2 → gI z 2101 (2 * n + u) = s.2 n u := fun u hu => by
    obtain ⟨a, b⟩ := h1.2.2.1 n hn.1 g1
    rcases (show u = 0 ∨ u = 1 by omega) with rfl | rfl
    · exact a
    · exact b
  have rk' := rg n k
  have MW := Mz.2.2.2 n hn g1
  unfold mX23_work
  rw [e137, rdI_e (by omega), Int.toNat_natCast, c3, rdI_e (by omega), Int.toNat_natCast, c4, if_neg (by decide), rdI_e (by omega), Int.toNat_natCast, net k hk, w32_id (x := s.2 n k) (by omega)]
  by_cases q : s.2 n k = -1
  case neg =>
    rw [if_pos q, e137.symm]
    exact (hj.pop q hc).mono (fun z hz => .inl ⟨hz, q⟩)
  case pos =>
    have e94 := (MW.2 k hk).2
    rw [if_neg (fun g => g q), rdZ_e (by omega), Int.toNat_natCast, e94]
    by_cases g : trn G B n k
    · have gt := gd.turn hk g
      have r2 := rk_trn (G := G) (B := B) (show k ≠ 2 by omega) g
      have r1 := rk_way (G := G) (B := B) (n := n) (k := 1 - k) (by omega) (trn_not hk g)
      have ex : aXor ((2 * n + k : Nat) : Int) 1 = ((2 * n + (1 - k) : Nat) : Int) := by
        have := aXor_nat (a := 2 * n + k) (b := 1) (by omega) (by omega)
        rw [xor1 hk] at this
        exact this
      have r' := rg n (1 - k)
      rw [bo_t g, if_pos (by decide), ex, rdI_e (by omega), Int.toNat_natCast, net (1 - k) (by omega), w32_id (x := s.2 n (1 - k)) (by omega)]
      refine WP_call (R := WkO S G B d l T n k L s) ?_ (fun y hy => WP_some.2 hy)
      by_cases m : s.2 n (1 - k) = -1
      · rw [if_pos m]
        exact WP_call (hj.push w wl q gt (by omega) (den_trn w wl hr gd rk h3 hk q g) hc (by unfold jbK; rw [if_neg (by dsimp only; omega)]; rfl) (by unfold jbC; rw [if_neg (by dsimp only; omega)])) (fun y hy => WP_some.2 (.inr (.inl ⟨q, n, 1 - k, hy, m⟩)))
      · rw [if_neg m]
        refine WP_call (m_turned w wl hl3 Mz hd h1 sl h9.turn (by omega)) (fun x8 hx => ?_)
        obtain ⟨y1, y2, y3, y4⟩ := hx
        rw [wrI_e (by omega), Int.toNat_natCast]
        have em := mk_trn w wl hr gd rk h3 hk q g m
        obtain ⟨_, _, iv, _⟩ := trn_some g
        have iv' : lInv B ≠ -1 := fun e => iv (if_pos e)
        refine WP_some.2 (.inr (.inr ⟨q, _, hj.made w q em (MSg_put y2 hk y1 sl (by omega)) ((ChW.refl.tr y4 (fun _ _ g => .inl g)).sI (.inr (.inl rfl))) (h9.add hk ?_)⟩))
        rw [hI_sI_a (by omega), y3]
        rcases h9.turn with e | e
        · rw [e, if_neg (fun g => by rcases g with g | g; omega; exact iv' g)]
        · rw [e, if_pos (.inl rfl)]
    · obtain ⟨y, hy⟩ := ndR_way gr g
      obtain ⟨a1, a2, a3, a4, a5, a6⟩ := way_inp w wl hr hn hy
      obtain ⟨W0, W1, W2⟩ := (MW.1 k hk).2 y hy
      have e1 := (Mz.2.1.2.1.2 y.2.1 a1).1
      rw [(bI_rng wl a1).2.2.1, ← a3] at e1
      have za : (12 * (l : Int) + (y.2.1 : Int)).toNat = 12 * l + y.2.1 := by omega
      rw [bo_f g, if_neg (by decide), rdI_e (by omega), Int.toNat_natCast, W0, Mz.2.1.1, rdI_e (by omega), za, e1]
      refine WP_bE.2 ((m_wk175 w wl hr hd hl3 hM hk hj hc q g hy hn ⟨W0, W1, W2⟩).mono (fun x hx => ?_))
      cases x with
      | inr zz => exact hx
      | inl zz =>
        obtain ⟨e, all⟩ := hx
        subst e
        have q2 : ∀ i, bitN y.2.2.1 i < 2 := fun i => bitN_2
        have z3 : ∀ i : Nat, (3 * ((2 * n + k : Nat) : Int) + (i : Int)).toNat = 3 * (2 * n + k) + i := fun i => by omega
        have bt : ∀ i : Nat, i < 3 → aAnd (aShr (y.2.2.1 : Int) (i : Int)) 1 = ((bitN y.2.2.1 i : Nat) : Int) := fun i hi => by rw [aBit (by omega) (by omega), b2i_bit]
        have bt0 : aAnd (y.2.2.1 : Int) 1 = ((bitN y.2.2.1 0 : Nat) : Int) := by
          rw [aAnd1_n]
          refine congrArg _ ?_
          unfold bitN
          rw [Nat.testBit_zero]
          by_cases h : y.2.2.1 % 2 = 1
          · rw [if_pos (decide_eq_true h), h]
          · rw [if_neg (by rw [decide_eq_false h]; decide)]; omega
        have nt : ∀ i, i < y.2.2.2.length → mX23_netOfInput zz ((y.2.2.2.getD i 0 : Nat) : Int) ((bitN y.2.2.1 i : Nat) : Int) = some (inN G s (y.2.2.2.getD i 0) (bitN y.2.2.1 i)) := fun i hi => m_netOfInput w Mz hd h1 (a6 i hi).1 (q2 i)
        have i0 : inX G s y.2.2.2 y.2.2.1 0 = inN G s (y.2.2.2.getD 0 0) (bitN y.2.2.1 0) := if_pos (by omega)
        have ir : ∀ j, -1 ≤ inX G s y.2.2.2 y.2.2.1 j ∧ inX G s y.2.2.2 y.2.2.1 j < 6000 := fun j => by
          unfold inX
          by_cases gj : j < y.2.2.2.length
          · rw [if_pos gj]
            have p1 := (a6 j gj).1
            have xl := Wd_lt w p1
            by_cases gg : hasK G (y.2.2.2.getD j 0) (bitN y.2.2.1 j)
            · rw [inN_it (q2 j) gg]; exact rg _ _
            · rw [(inN_src p1 gg).1]; omega
          · rw [if_neg gj]; omega
        have ir0 := ir 0
        have ir1 := ir 1
        have ir2 := ir 2
        have k1 : ((3 * ((2 * n + k : Nat) : Int))).toNat = 3 * (2 * n + k) + 0 := by omega
        have k2 : (3 * ((2 * n + k : Nat) : Int) + 1).toNat = 3 * (2 * n + k) + 1 := by omega
        have k3 : (3 * ((2 * n + k : Nat) : Int) + 2).toNat = 3 * (2 * n + k) + 2 := by omega
        have in1 : (if 1 < w32 (y.2.2.2.length : Int) then rdI 12288 zz 2091 ((3 * ((2 * n + k : Nat) : Int)) + 1) fun v31 => rdI 4096 zz 2092 ((2 * n + k : Nat) : Int) fun v32 => bX (mX23_netOfInput zz v31 (aAnd (aShr v32 1) 1)) fun x33 => some x33 else some (-1)) = some (inX G s y.2.2.2 y.2.2.1 1) := by
          rw [w32_id (by omega)]
          unfold inX
          by_cases h : 1 < y.2.2.2.length
          · have b1 := bt 1 (by omega)
            rw [if_pos (by omega), rdI_e (by omega), k2, W2 1 h, rdI_e (by omega), Int.toNat_natCast, W1, show (1 : Int) = ((1 : Nat) : Int) from rfl] at *
            rw [b1, nt 1 h, bX_some, if_pos h]
          · rw [if_neg (by omega), if_neg h]
        have in2 : (if 2 < w32 (y.2.2.2.length : Int) then rdI 12288 zz 2091 ((3 * ((2 * n + k : Nat) : Int)) + 2) fun v35 => rdI 4096 zz 2092 ((2 * n + k : Nat) : Int) fun v36 => bX (mX23_netOfInput zz v35 (aAnd (aShr v36 2) 1)) fun x37 => some x37 else some (-1)) = some (inX G s y.2.2.2 y.2.2.1 2) := by
          rw [w32_id (by omega)]
          unfold inX
          by_cases h : 2 < y.2.2.2.length
          · have b2 : aAnd (aShr (y.2.2.1 : Int) 2) 1 = ((bitN y.2.2.1 2 : Nat) : Int) := bt 2 (by omega)
            rw [if_pos (by omega), rdI_e (by omega), k3, W2 2 h, rdI_e (by omega), Int.toNat_natCast, W1, b2, nt 2 h, bX_some, if_pos h]
          · rw [if_neg (by omega), if_neg h]
        show WP (rdI 12288 zz 2091 _ _) _
        rw [rdI_e (by omega), k1, W2 0 (by omega), rdI_e (by omega), Int.toNat_natCast, W1, bt0, nt 0 (by omega), bX_some, in1, bX_some, in2, bX_some, rdI_e (by omega), Int.toNat_natCast, W0]
        refine WP_call (m_make w Mz hd h1 sl (by omega) (by rw [← i0]; omega) (by omega) (by omega)) (fun x40 hx => ?_)
        obtain ⟨y1, y2, y3⟩ := hx
        rw [wrI_e (by omega), Int.toNat_natCast]
        have em := mk_way w wl hr gd rk h3 hk q g hy (fun i hi hh => by rw [← inN_it (q2 i) hh]; exact all i hi)
        rw [i0] at em
        refine WP_some.2 (.inr (.inr ⟨q, _, hj.made w q em (MSg_put y2 hk y1 sl (by omega)) ((ChW.refl.tr y3 (fun a i g => .inl (by unfold PT3; omega))).sI (.inr (.inl rfl))) (h9.add hk ?_)⟩))
        rw [hI_sI_a (by omega), y3.1 _ _ (by omega)]
end MWORK4
