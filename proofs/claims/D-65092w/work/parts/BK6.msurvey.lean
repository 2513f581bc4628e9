/-! the reference lays a design's graph -/
def MGx (S : Sto) (d : Nat) (G : Dsg) : Prop := gI S 2000 105 = (d : Int) ∧ RefG S d G
section MSURVEY
variable {S z : Sto} {G : Dsg} {d x n : Nat} {u : Nat → Nat}
theorem MGx.mv (w : WFG G) (h : MGx S d G) (e : ∀ a i, 2037 ≤ a → a ≤ 2053 → gI z a i = gI S a i) (e0 : gI z 2000 105 = gI S 2000 105) : MGx z d G := ⟨e0.trans h.1, RefG.cg w h.2 (fun a i l1 l2 _ _ => e a i l1 l2)⟩
theorem MGx.ch (w : WFG G) {lo hi : Nat} (h : MGx S d G) (g : Ch lo hi S z) (q : 2053 < lo) : MGx z d G := h.mv w (fun a i l1 l2 => g.1 a i (by omega)) (g.1 _ _ (by omega))
theorem MGx.first (h : MGx S d G) (w : WFG G) : gI S 2043 d = (gFi G : Int) := by
  have e := h.2.1.2.2.2.2.1
  have := w.i
  have := w.s
  rw [e]; unfold gFi; omega
theorem m_keptLit {l : Nat} (h : MGx S d G) (w : WFG G) (hd : d < 6) (hl : l < 2 * gNo G) : mX23_keptLiteral S (l : Int) = some (swN G l : Int) := by
  have hn := no_le w
  have s6 := w.st6 (n := l / 2) (by omega)
  have e := h.2.2.2.1 (l / 2) (by omega)
  have zt : (2048 * (d : Int) + ((l / 2 : Nat) : Int)).toNat = 2048 * d + l / 2 := by omega
  unfold mX23_keptLiteral
  rw [h.1, aShr1_n (by omega), rdI_e (by omega), zt, e, aAnd1_n, s6.1, aXor_b (by omega) (by omega)]
  rfl
theorem m_want {l : Nat} {w' : Nat → Prop} (h : MGx S d G) (w : WFG G) (hd : d < 6) (hl : l < 2 * gNo G) (hs : SvX S G 2085 2084 w' u) : mX23_want S (l : Int) = some (sI (sI (sI S 2085 (swN G l / 2) 1) 2086 (swN G l / 2) (if (gFi G : Int) ≤ ((swN G l / 2 : Nat) : Int) then 1 else 0)) 2084 (swN G l / 2) ((u (swN G l / 2) : Int) + 1)) := by
  have hn := no_le w
  have sl := swN_lt w hl
  have fi := w.nums
  have f := h.first w
  unfold mX23_want
  rw [m_keptLit h w hd hl, bX_some, aShr1_n (by omega), wrI_e (by omega), Int.toNat_natCast, hI_sI_a (by omega), h.1, rdI_e (by omega), Int.toNat_natCast, hI_sI_a (by omega), f, w32_id (by omega), w32_id (by omega), wrI_e (by omega), Int.toNat_natCast, rdI_e (by omega), Int.toNat_natCast, hI_sI_a (by omega), hI_sI_a (by omega), (hs _ (by omega)).2, wrI_e (by omega), Int.toNat_natCast]
theorem m_lg12 (w : WFG G) : WP (lpF (mX23_layGraph_L12 (gNo G : Int)) (0, S)) (fun z => Ch 2082 2086 S z ∧ SvX z G 2085 2084 (prt G 0) (pus G 0) ∧ RtX z G 2086 0) := by
  have hn := no_le w
  refine WP_cnt (gNo G) (fun i z => z.1 = (i : Int) ∧ Ch 2082 2086 S z.2 ∧ ∀ n, n < i → gI z.2 2085 n = 0 ∧ gI z.2 2084 n = 0 ∧ gI z.2 2086 n = 0) (by unfold cFU; omega) ⟨rfl, Ch.refl, fun n h => absurd h (Nat.not_lt_zero _)⟩ (fun i z hi hI => ?_) (fun z hI => ?_)
  · obtain ⟨z1, z2⟩ := z
    obtain ⟨b1, b2, b3⟩ := hI
    dsimp only at b1 b2 b3
    subst b1
    unfold mX23_layGraph_L12
    dsimp only
    rw [w32_id (by omega), w32_id (by omega), if_pos (by omega), wrI_e (by omega), wrI_e (by omega), wrI_e (by omega), Int.toNat_natCast]
    refine WP_some.2 ⟨by show (i : Int) + 1 = _; omega, ((b2.sI (by omega)).sI (by omega)).sI (by omega), fun n hn' => ?_⟩
    dsimp only
    by_cases q : n = i
    · subst q
      rw [hI_sI_a (by omega), hI_sI_a (by omega), gI_set, gI_set, hI_sI_a (by omega), gI_set]; exact ⟨rfl, rfl, rfl⟩
    · rw [hI_sI_i q, hI_sI_i q, hI_sI_i q, hI_sI_i q, hI_sI_i q, hI_sI_i q, hI_sI_i q, hI_sI_i q, hI_sI_i q]; exact b3 n (by omega)
  · obtain ⟨z1, z2⟩ := z
    obtain ⟨b1, b2, b3⟩ := hI
    dsimp only at b1 b2 b3
    subst b1
    unfold mX23_layGraph_L12
    dsimp only
    rw [if_neg (by omega)]
    have p0 : ∀ n, ¬ prt G 0 n := fun n ⟨i, h, _⟩ => absurd h (Nat.not_lt_zero _)
    refine WP_some.2 ⟨b2, fun n hn' => ⟨by rw [bo_f (p0 n)]; exact (b3 n hn').1, (b3 n hn').2.1⟩, fun n _ hn' => by rw [bo_f (p0 n)]; exact (b3 n hn').2.2⟩
/-- one root more -/
theorem m_want_r {i l : Nat} (h : MGx S d G) (w : WFG G) (hd : d < 6) (hl : l < 2 * gNo G) (rt : rtL G i = swN G l) (hi : i ≤ 100) (b3 : SvX S G 2085 2084 (prt G i) (pus G i)) (b4 : RtX S G 2086 i) : WP (mX23_want S (l : Int)) (fun z => Ch 2084 2086 S z ∧ SvX z G 2085 2084 (prt G (i + 1)) (pus G (i + 1)) ∧ RtX z G 2086 (i + 1)) := by
  have sl := swN_lt w hl
  rw [m_want h w hd hl b3]
  have b3' : SvX (sI S 2086 (swN G l / 2) (if (gFi G : Int) ≤ ((swN G l / 2 : Nat) : Int) then 1 else 0)) G 2085 2084 (prt G i) (pus G i) := fun n hn' => by
    rw [hI_sI_a (by omega), hI_sI_a (by omega)]; exact b3 n hn'
  have s1 := b3'.use (by decide) sl.2 (fun n _ => by have := pus_le (G := G) (n := n) (i := i); omega)
  rw [← rt, ← prt_succ, ← pus_succ] at s1
  refine WP_some.2 ⟨((Ch.refl.sI (by omega)).sI (by omega)).sI (by omega), fun n hn' => ?_, ?_⟩
  · have := s1 n hn'
    rw [← rt]
    by_cases q : n = rtL G i / 2
    · subst q
      rw [hI_sI_a (by omega), gI_set] at this
      rw [hI_sI_a (by omega), hI_sI_a (by omega), gI_set, gI_set]
      exact ⟨this.1, by rw [gI_set] at this; exact this.2⟩
    · rw [hI_sI_a (by omega), hI_sI_i q, hI_sI_a (by omega), hI_sI_i q, hI_sI_a (by omega), hI_sI_a (by omega)] at this
      rw [hI_sI_a (by omega), hI_sI_a (by omega), hI_sI_i q, hI_sI_i q, hI_sI_a (by omega), hI_sI_a (by omega)]
      exact this
  · have r1 : RtX (sI S 2086 (rtL G i / 2) (if (gFi G : Int) ≤ ((swN G l / 2 : Nat) : Int) then 1 else 0)) G 2086 (i + 1) := RtX.set b4 (fun g => by rw [rt] at g; rw [if_pos (by omega)]; rfl)
    refine fun n q1 q2 => ?_
    have := r1 n q1 q2
    rw [rt] at this
    rw [hI_sI_a (by omega)]
    by_cases q : n = swN G l / 2
    · subst q; rw [gI_set] at this ⊢; exact this
    · rw [hI_sI_i q] at this ⊢; rw [hI_sI_a (by omega)]; exact this
theorem m_lg46 (h : MGx S d G) (w : WFG G) (hd : d < 6) (h1 : SvX S G 2085 2084 (prt G 0) (pus G 0)) (h2 : RtX S G 2086 0) : WP (lpF mX23_layGraph_L46 (0, S)) (fun z => Ch 2082 2086 S z ∧ SvX z G 2085 2084 (prt G (gOu G)) (pus G (gOu G)) ∧ RtX z G 2086 (gOu G)) := by
  have wo := w.o
  have wn := w.n
  have nn := w.nums
  refine WP_cnt (gOu G) (fun i z => z.1 = (i : Int) ∧ Ch 2082 2086 S z.2 ∧ SvX z.2 G 2085 2084 (prt G i) (pus G i) ∧ RtX z.2 G 2086 i) (by unfold cFU; omega) ⟨rfl, Ch.refl, h1, h2⟩ (fun i z hi hI => ?_) (fun z hI => ?_)
  · obtain ⟨z1, z2⟩ := z
    obtain ⟨b1, b2, b3, b4⟩ := hI
    dsimp only at b1 b2 b3 b4
    subst b1
    have hz := h.ch w b2 (by omega)
    have e6 := hz.2.1.2.2.1
    rw [wo] at e6
    have g7 := w.2.2.2.1 i hi
    have r7 := hz.2.2.2.2.1 i hi
    have rt : rtL G i = swN G (G 7 i).toNat := if_pos hi
    have e7 : G 7 i = ((G 7 i).toNat : Int) := by omega
    have zt : (16 * (d : Int) + (i : Int)).toNat = 16 * d + i := by omega
    unfold mX23_layGraph_L46
    dsimp only
    rw [hz.1, rdI_e (by omega), Int.toNat_natCast, e6, w32_id (by omega), w32_id (by omega), if_pos (by omega), rdI_e (by omega), zt, r7, e7]
    refine WP_call (m_want_r hz w hd (by omega) rt (by omega) b3 b4) (fun y hy => ?_)
    exact WP_some.2 ⟨by show (i : Int) + 1 = _; omega, b2.tr hy.1 (by omega) (by omega), hy.2⟩
  · obtain ⟨z1, z2⟩ := z
    obtain ⟨b1, b2, b3, b4⟩ := hI
    dsimp only at b1 b2 b3 b4
    subst b1
    have hz := h.ch w b2 (by omega)
    have e6 := hz.2.1.2.2.1
    rw [wo] at e6
    unfold mX23_layGraph_L46
    dsimp only
    rw [hz.1, rdI_e (by omega), Int.toNat_natCast, e6, if_neg (by omega)]
    exact WP_some.2 ⟨b2, b3, b4⟩
theorem m_lg85 (h : MGx S d G) (w : WFG G) (hd : d < 6) (h1 : SvX S G 2085 2084 (prt G (gOu G)) (pus G (gOu G))) (h2 : RtX S G 2086 (gOu G)) : WP (lpF mX23_layGraph_L85 (0, S)) (fun z => Ch 2082 2086 S z ∧ SvX z G 2085 2084 (prt G (nRt G)) (pus G (nRt G)) ∧ RtX z G 2086 (nRt G)) := by
  have ws := w.s
  have wn := w.n
  have nn := w.nums
  refine WP_cnt (gSt G) (fun i z => z.1 = (i : Int) ∧ Ch 2082 2086 S z.2 ∧ SvX z.2 G 2085 2084 (prt G (gOu G + i)) (pus G (gOu G + i)) ∧ RtX z.2 G 2086 (gOu G + i)) (by unfold cFU; omega) ⟨rfl, Ch.refl, h1, h2⟩ (fun i z hi hI => ?_) (fun z hI => ?_)
  · obtain ⟨z1, z2⟩ := z
    obtain ⟨b1, b2, b3, b4⟩ := hI
    dsimp only at b1 b2 b3 b4
    subst b1
    have hz := h.ch w b2 (by omega)
    have e6 := hz.2.1.2.1
    rw [ws] at e6
    have g7 := w.2.2.2.2.1 i hi
    have r7 := hz.2.2.2.2.2.1 i hi
    have rt : rtL G (gOu G + i) = swN G (G 8 i).toNat := by
      unfold rtL
      rw [if_neg (by omega), Nat.add_sub_cancel_left]
    have e7 : G 8 i = ((G 8 i).toNat : Int) := by omega
    have zt : (6 * (d : Int) + (i : Int)).toNat = 6 * d + i := by omega
    unfold mX23_layGraph_L85
    dsimp only
    rw [hz.1, rdI_e (by omega), Int.toNat_natCast, e6, w32_id (by omega), w32_id (by omega), if_pos (by omega), rdI_e (by omega), zt, r7, e7]
    refine WP_call (m_want_r hz w hd (by omega) rt (by omega) b3 b4) (fun y hy => ?_)
    exact WP_some.2 ⟨by show (i : Int) + 1 = _; omega, b2.tr hy.1 (by omega) (by omega), hy.2⟩
  · obtain ⟨z1, z2⟩ := z
    obtain ⟨b1, b2, b3, b4⟩ := hI
    dsimp only at b1 b2 b3 b4
    subst b1
    have hz := h.ch w b2 (by omega)
    have e6 := hz.2.1.2.1
    rw [ws] at e6
    unfold mX23_layGraph_L85
    dsimp only
    rw [hz.1, rdI_e (by omega), Int.toNat_natCast, e6, if_neg (by omega)]
    exact WP_some.2 ⟨b2, b3, b4⟩
theorem m_lg126 (h : MGx S d G) (w : WFG G) (hd : d < 6) (h1 : SvX S G 2085 2084 (wtN G 0) (usN G 0)) : WP (lpF mX23_layGraph_L126 ((gNo G : Int) - 1, S)) (fun z => Ch 2082 2085 S z ∧ SvX z G 2085 2084 (Wt G) (usN G (gJ G)) ∧ SdX z G 2082 2083 (gFi G)) := by
  have hn := no_le w
  have wn := w.n
  have nn := w.nums
  have jj : gJ G = gNo G - gFi G := rfl
  refine WP_cnt (gJ G) (fun j z => z.1 = (gNo G : Int) - 1 - (j : Int) ∧ Ch 2082 2085 S z.2 ∧ SvX z.2 G 2085 2084 (wtN G j) (usN G j) ∧ SdX z.2 G 2082 2083 (gNo G - j)) (by unfold cFU; omega) ⟨by dsimp only; omega, Ch.refl, h1, fun n q1 q2 => by have := q2.2.1; omega⟩ (fun j z hj hI => ?_) (fun z hI => ?_)
  · obtain ⟨z1, z2⟩ := z
    obtain ⟨b1, b2, b3, b4⟩ := hI
    dsimp only at b1 b2 b3 b4
    obtain ⟨m, hm⟩ : ∃ m : Nat, m = gNo G - 1 - j := ⟨_, rfl⟩
    have ez : z1 = (m : Int) := by omega
    subst ez
    have hz := h.ch w b2 (by omega)
    have f := hz.first w
    have mN : gFi G ≤ m ∧ m < gNo G := by omega
    obtain ⟨l1, l2, l3, l4⟩ := w.lo mN.1 mN.2
    have rl := hz.2.2.1 m mN.1 mN.2
    have bw := (b3 m mN.2).1
    have zt : (2048 * (d : Int) + (m : Int)).toNat = 2048 * d + m := by omega
    have rng : ∀ n, n < gNo G → usN G j n ≤ 4000 := fun n _ => by
      have := usN_le (G := G) (j := j) (n := n); unfold nRt at this; omega
    unfold mX23_layGraph_L126
    dsimp only
    rw [hz.1, rdI_e (by omega), Int.toNat_natCast, f, w32_id (by omega), w32_id (by omega), if_pos (by omega), rdZ_e (by omega), Int.toNat_natCast, w32_bz, bw]
    by_cases q' : wtN G j m
    · have q : wtN G j (gNo G - 1 - j) := by rw [← hm]; exact q'
      have x1 := swN_lt w (l := (G 4 m).toNat) (by omega)
      have x2 := swN_lt w (l := (G 5 m).toNat) (by omega)
      obtain ⟨a, ha⟩ : ∃ a, a = swN G (G 4 m).toNat := ⟨_, rfl⟩
      obtain ⟨b, hb⟩ : ∃ b, b = swN G (G 5 m).toNat := ⟨_, rfl⟩
      rw [← ha] at x1
      rw [← hb] at x2
      have s1 : SvX (sI (sI z2 2082 m (lA G m)) 2083 m (lB G m)) G 2085 2084 (wtN G j) (usN G j) := fun n hn' => by
        rw [hI_sI_a (by omega), hI_sI_a (by omega), hI_sI_a (by omega), hI_sI_a (by omega)]; exact b3 n hn'
      have s2 := s1.use (by decide) x1.2 (fun n hn' => by have := rng n hn'; omega)
      have s3 := s2.use (by decide) x2.2 (fun n hn' => by
        have := rng n hn'
        have := @bo_le (a / 2 = n)
        unfold useU; omega)
      have es := stage_w q
      have eu := stage_u q
      rw [← hm, ← ha, ← hb] at es eu
      rw [es, eu] at s3
      have mi : (if (a : Int) < (b : Int) then (a : Int) else (b : Int)) = (lA G m : Int) := by unfold lA; rw [← ha, ← hb]; split <;> omega
      have ma : (if (a : Int) < (b : Int) then (b : Int) else (a : Int)) = (lB G m : Int) := by unfold lB; rw [← ha, ← hb]; split <;> omega
      have e1 : bz ((1 : Nat) : Int) = 1 := rfl
      have u1 := (b3 (a / 2) (by omega)).2
      have u2 := (b3 (b / 2) (by omega)).2
      rw [bo_t q', e1, if_pos (by decide), rdI_e (by omega), zt, rl.1, l3, m_keptLit hz w hd (by omega), bX_some, rdI_e (by omega), zt, rl.2, l4, m_keptLit hz w hd (by omega), bX_some, ← ha, ← hb, w32_id (x := (a : Int)) (by omega), w32_id (x := (b : Int)) (by omega), wrI_e (by omega), Int.toNat_natCast, wrI_e (by omega), Int.toNat_natCast, mi, ma, aShr1_n (by omega), aShr1_n (by omega), wrI_e (by omega), Int.toNat_natCast, wrI_e (by omega), Int.toNat_natCast, rdI_e (by omega), Int.toNat_natCast, hI_sI_a (by omega), hI_sI_a (by omega), hI_sI_a (by omega), hI_sI_a (by omega), u1, wrI_e (by omega), Int.toNat_natCast, rdI_e (by omega), Int.toNat_natCast, wrI_e (by omega), Int.toNat_natCast, bX_some]
      obtain ⟨Y, hY⟩ : ∃ Y, Y = sI (sI (sI (sI (sI z2 2082 m (lA G m)) 2083 m (lB G m)) 2085 (a / 2) 1) 2085 (b / 2) 1) 2084 (a / 2) ((usN G j (a / 2) : Int) + 1) := ⟨_, rfl⟩
      rw [← hY]
      have yb : gI Y 2084 (b / 2) = (useU (usN G j) a (b / 2) : Int) := by
        rw [hY]
        unfold useU
        by_cases g : b / 2 = a / 2
        · have := rng (a / 2) (by omega)
          rw [g, gI_set, bo_t rfl, w32_id (by omega)]; rfl
        · rw [hI_sI_i g, hI_sI_a (by omega), hI_sI_a (by omega), hI_sI_a (by omega), hI_sI_a (by omega), u2, bo_f (fun e => g e.symm), Nat.add_zero]
      rw [yb]
      obtain ⟨Z, hZ⟩ : ∃ Z, Z = sI Y 2084 (b / 2) ((useU (usN G j) a (b / 2) : Int) + 1) := ⟨_, rfl⟩
      rw [← hZ]
      -- the other order of the writes
      obtain ⟨T, hT⟩ : ∃ T, T = sI (sI (sI (sI (sI (sI z2 2082 m (lA G m)) 2083 m (lB G m)) 2085 (a / 2) 1) 2084 (a / 2) ((usN G j (a / 2) : Int) + 1)) 2085 (b / 2) 1) 2084 (b / 2) ((useU (usN G j) a (b / 2) : Int) + 1) := ⟨_, rfl⟩
      rw [← hT] at s3
      have eZT : ∀ c i, gI Z c i = gI T c i := fun c i => by
        rw [hZ, hT, hY]
        simp only [hI_sI]
        by_cases c1 : c = 2084
        · subst c1; simp
        · by_cases c2 : c = 2085
          · subst c2; simp
          · simp [c1, c2]
      have z1 : ∀ n, gI Z 2082 n = if n = m then (lA G m : Int) else gI z2 2082 n := fun n => by
        rw [hZ, hY, hI_sI_a (by omega), hI_sI_a (by omega), hI_sI_a (by omega), hI_sI_a (by omega), hI_sI_a (by omega)]
        by_cases g : n = m
        · rw [g, gI_set, if_pos rfl, w32_id (by unfold lA; rw [← ha, ← hb]; omega)]
        · rw [hI_sI_i g, if_neg g]
      have z2' : ∀ n, gI Z 2083 n = if n = m then (lB G m : Int) else gI z2 2083 n := fun n => by
        rw [hZ, hY, hI_sI_a (by omega), hI_sI_a (by omega), hI_sI_a (by omega), hI_sI_a (by omega)]
        by_cases g : n = m
        · rw [g, gI_set, if_pos rfl, w32_id (by unfold lB; rw [← ha, ← hb]; omega)]
        · rw [hI_sI_i g, if_neg g, hI_sI_a (by omega)]
      have cZ : Ch 2082 2085 S Z := by
        rw [hZ, hY]
        exact (((((b2.sI (by omega)).sI (by omega)).sI (by omega)).sI (by omega)).sI (by omega)).sI (by omega)
      refine WP_some.2 ⟨by show (m : Int) + -1 = _; omega, cZ, fun n hn' => ?_, fun n q1 q2 => ?_⟩
      · dsimp only
        rw [eZT, eZT]; exact s3 n hn'
      · dsimp only
        rw [z1, z2']
        by_cases g : n = m
        · rw [if_pos g, if_pos g, g]; exact ⟨rfl, rfl⟩
        · rw [if_neg g, if_neg g]; exact b4 n (by omega) q2
    · have q : ¬ wtN G j (gNo G - 1 - j) := by rw [← hm]; exact q'
      have es := stage_no q
      have e0 : bz ((0 : Nat) : Int) = 0 := rfl
      rw [bo_f q', e0, if_neg (by decide), bX_some]
      refine WP_some.2 ⟨by show (m : Int) + -1 = _; omega, b2, by rw [es.1, es.2]; exact b3, fun n q1 q2 => ?_⟩
      dsimp only
      by_cases g : n = m
      · exfalso
        subst g
        have := (Wt_at w mN.1 mN.2).1 q2.2.2
        rw [show gNo G - 1 - n = j by omega] at this
        exact q' this
      · exact b4 n (by omega) q2
  · obtain ⟨z1, z2⟩ := z
    obtain ⟨b1, b2, b3, b4⟩ := hI
    dsimp only at b1 b2 b3 b4
    have hz := h.ch w b2 (by omega)
    have f := hz.first w
    unfold mX23_layGraph_L126
    dsimp only
    rw [hz.1, rdI_e (by omega), Int.toNat_natCast, f, b1, w32_id (by omega), w32_id (by omega), if_neg (by omega)]
    rw [show gNo G - gJ G = gFi G by omega] at b4
    exact WP_some.2 ⟨b2, b3, b4⟩
theorem m_lg285 (w : WFG G) (h1 : SvX S G 2085 2084 (Wt G) (usN G (gJ G))) (h2 : RtX S G 2086 (nRt G)) : WP (lpF (mX23_layGraph_L285 (gNo G : Int)) ((gFi G : Int), S)) (fun z => Ch 2086 2086 S z ∧ ∀ n, gFi G ≤ n → n < gNo G → gI z 2086 n = (bo (Rt G n) : Int)) := by
  have hn := no_le w
  have nn := w.nums
  refine WP_cnt (gNo G - gFi G) (fun j z => z.1 = ((gFi G + j : Nat) : Int) ∧ Ch 2086 2086 S z.2 ∧ (∀ n, gFi G ≤ n → n < gFi G + j → gI z.2 2086 n = (bo (Rt G n) : Int)) ∧ ∀ n, gFi G + j ≤ n → gI z.2 2086 n = gI S 2086 n) (by unfold cFU; omega) ⟨rfl, Ch.refl, fun n q1 q2 => by omega, fun n _ => rfl⟩ (fun j z hj hI => ?_) (fun z hI => ?_)
  · obtain ⟨z1, z2⟩ := z
    obtain ⟨b1, b2, b3, b4⟩ := hI
    dsimp only at b1 b2 b3 b4
    obtain ⟨m, hm⟩ : ∃ m : Nat, m = gFi G + j := ⟨_, rfl⟩
    rw [← hm] at b1
    subst b1
    have mN : m < gNo G := by omega
    have ur := usN_le (G := G) (j := gJ G) (n := m)
    have jj : gJ G = gNo G - gFi G := rfl
    have e1 : gI z2 2085 m = (bo (Wt G m) : Int) := (b2.1 _ _ (by omega)).trans (h1 m mN).1
    have e2 : gI z2 2084 m = (usN G (gJ G) m : Int) := (b2.1 _ _ (by omega)).trans (h1 m mN).2
    have e4 : gI z2 2086 m = (bo (prt G (nRt G) m) : Int) := (b4 m (by omega)).trans (h2 m (by omega) mN)
    have val : (bX (if w32 (bz (gI z2 2086 m)) = 0 then rdZ 2048 z2 2085 (m : Int) fun v37 => if ¬ w32 v37 = 0 then rdI 2048 z2 2084 (m : Int) fun v38 => if 1 < w32 v38 then some true else some false else some false else some true) fun b => if b = true then some (1 : Int) else some 0) = some ((bo (Rt G m) : Nat) : Int) := by
      unfold nRt at ur
      rw [w32_bz, e4]
      by_cases r : prt G (nRt G) m
      · rw [bo_t r, if_neg (by decide), bX_some, if_pos rfl, bo_t (show Rt G m from .inl r)]; rfl
      · rw [bo_f r, if_pos (by decide), rdZ_e (by omega), Int.toNat_natCast, w32_bz, e1]
        by_cases q : Wt G m
        · rw [bo_t q, if_pos (by decide), rdI_e (by omega), Int.toNat_natCast, e2, w32_id (by omega)]
          by_cases t : 1 < usN G (gJ G) m
          · rw [if_pos (by omega), bX_some, if_pos rfl, bo_t (show Rt G m from .inr ⟨q, t⟩)]; rfl
          · rw [if_neg (by omega), bX_some, if_neg (by decide), bo_f (show ¬ Rt G m from fun g => g.elim r (fun g => t g.2))]; rfl
        · rw [bo_f q, if_neg (by decide), bX_some, if_neg (by decide), bo_f (show ¬ Rt G m from fun g => g.elim (fun g => q (root_Wt g)) (fun g => q g.1))]; rfl
    have o1 : ((bo (Rt G m) : Nat) : Int) = 0 ∨ ((bo (Rt G m) : Nat) : Int) = 1 := by have := @bo_le (Rt G m); omega
    unfold mX23_layGraph_L285
    dsimp only
    rw [w32_id (by omega), w32_id (by omega), if_pos (by omega), rdZ_e (by omega), Int.toNat_natCast, val, bX_some, w1_o1 o1, wrI_e (by omega), Int.toNat_natCast]
    refine WP_some.2 ⟨by show (m : Int) + 1 = _; omega, b2.sI (by omega), fun n q1 q2 => ?_, fun n q1 => ?_⟩
    · dsimp only
      by_cases g : n = m
      · rw [g, gI_set, w32_id (by omega)]
      · rw [hI_sI_i g]; exact b3 n q1 (by omega)
    · dsimp only
      rw [hI_sI_i (by omega)]; exact b4 n (by omega)
  · obtain ⟨z1, z2⟩ := z
    obtain ⟨b1, b2, b3, b4⟩ := hI
    dsimp only at b1 b2 b3 b4
    unfold mX23_layGraph_L285
    dsimp only
    rw [b1, w32_id (by omega), w32_id (by omega), if_neg (by omega)]
    exact WP_some.2 ⟨b2, fun n q1 q2 => b3 n q1 (by omega)⟩
theorem m_layGraph (h : MGx S d G) (w : WFG G) (hd : d < 6) : WP (mX23_layGraph S) (fun z => Ch 2082 2086 S z ∧ SvE z G 2085 2084 2086 2082 2083) := by
  have wn := w.n
  have e3 := h.2.1.2.2.2.1
  rw [wn] at e3
  unfold mX23_layGraph
  rw [h.1, rdI_e (by omega), Int.toNat_natCast, e3]
  refine WP_call (m_lg12 w) (fun x1 h1 => ?_)
  have hx1 := h.ch w h1.1 (by omega)
  refine WP_call (m_lg46 hx1 w hd h1.2.1 h1.2.2) (fun x2 h2 => ?_)
  have c2 := h1.1.tr h2.1 (by omega) (by omega)
  have hx2 := h.ch w c2 (by omega)
  refine WP_call (m_lg85 hx2 w hd h2.2.1 h2.2.2) (fun x3 h3 => ?_)
  have c3 := c2.tr h3.1 (by omega) (by omega)
  have hx3 := h.ch w c3 (by omega)
  refine WP_call (m_lg126 hx3 w hd h3.2.1) (fun x4 h4 => ?_)
  have c4 := c3.tr h4.1 (by omega) (by omega)
  have hx4 := h.ch w c4 (by omega)
  rw [hx4.1, rdI_e (by omega), Int.toNat_natCast, hx4.first w]
  refine WP_call (m_lg285 w h4.2.1 (fun n q1 q2 => (h4.1.1 _ _ (by omega)).trans (h3.2.2 n q1 q2))) (fun x5 h5 => WP_some.2 ⟨c4.tr h5.1 (by omega) (by omega), fun n hn' => ?_, h5.2, fun n q1 q2 => ?_⟩)
  · rw [h5.1.1 _ _ (by omega), h5.1.1 _ _ (by omega)]; exact h4.2.1 n hn'
  · rw [h5.1.1 _ _ (by omega), h5.1.1 _ _ (by omega)]; exact h4.2.2 n q1 q2
end MSURVEY
