/-! the reference's jobs: a gate's work -/
section MWORK3
variable {S z z' : Sto} {G : Dsg} {B : Lib} {d n i k l m o tu x t b f p : Nat} {s s1 T : MkS} {L : List (Nat × Nat)}
theorem FLg.add {g : Int × Int × Int × Int} (h : FLg z B s) (hk : k < 2) (e : gI z' 2000 134 = gI z 2000 134) : FLg z' B (mkA G s n k g) := by
  unfold FLg at *
  rw [e, h]
  refine congrArg _ (bo_cg ⟨fun ⟨a, m, b⟩ => ⟨a, m, by rw [mkA_oth (by omega)]; exact b⟩, fun ⟨a, m, b⟩ => ⟨a, m, by rw [mkA_oth (by omega)] at b; exact b⟩⟩)
theorem inN_miss (hx : WdG G x) (ht : t < 2) (h : inN G s x t = -1) : hasK G x t ∧ s.2 x (inK G x t) = -1 := by
  by_cases q : hasK G x t
  · exact ⟨q, by rw [← inN_it ht q]; exact h⟩
  · exact ((inN_src hx q).2 h).elim
theorem m_wk175 (w : WFG G) (wl : WFL B) (hr : rOK G B) (hd : d < 6) (hl3 : l < 3) (hM : MKg S G B d l) (hk : k < 2) (hj : JIn S G B d l T ((n, k) :: L) s z) (hc : ∀ p ∈ L, s.2 p.1 p.2 = -1) (q : s.2 n k = -1) (ht : ¬ trn G B n k) {y : Way} (hy : WW G B n k = some y) (hn : AndG G n) (W : gI z 2090 (2 * n + k) = (y.2.1 : Int) ∧ gI z 2092 (2 * n + k) = (y.2.2.1 : Int) ∧ ∀ i, i < y.2.2.2.length → gI z 2091 (3 * (2 * n + k) + i) = ((y.2.2.2.getD i 0 : Nat) : Int)) :
    WP (lpF (mX23_work_L175 (y.2.2.2.length : Int) ((2 * n + k : Nat) : Int)) (0, z)) (WE (fun z' => z' = z ∧ ∀ i, i < y.2.2.2.length → inN G s (y.2.2.2.getD i 0) (bitN y.2.2.1 i) ≠ -1) (WkO S G B d l T n k L s)) := by
  have hno := no_le w
  have nn := hn.2.1
  obtain ⟨h1, h2, h3, h4, h5, h6, h7, h8, h9, h10⟩ := id hj
  obtain ⟨a1, a2, a3, a4, a5, a6⟩ := way_inp w wl hr hn hy
  have Mz := hM.cw w wl hl3 h10
  have sl := miss_len w hj
  have e13 : gFi G = 1 + gIn G + gSt G := rfl
  have ng := w.nums
  have rkn := rk_way (G := G) (B := B) (show k ≠ 2 by omega) ht
  obtain ⟨gd, rk⟩ := h4 (n, k) (.head _)
  dsimp only at gd rk
  refine WP_cnt y.2.2.2.length (fun i st => st.1 = (i : Int) ∧ st.2 = z ∧ ∀ j, j < i → inN G s (y.2.2.2.getD j 0) (bitN y.2.2.1 j) ≠ -1) (by unfold cFU; omega) ⟨rfl, rfl, fun j h => absurd h (Nat.not_lt_zero _)⟩ (fun i st hi hI => ?_) (fun st hI => ?_)
  · obtain ⟨s1, s2⟩ := st
    obtain ⟨b1, b2, b3⟩ := hI
    dsimp only at b1 b2 b3
    subst b1 b2
    obtain ⟨p1, p2, p3⟩ := a6 i hi
    have z3 : (3 * ((2 * n + k : Nat) : Int) + (i : Int)).toNat = 3 * (2 * n + k) + i := by omega
    have xl := Wd_lt w p1
    have q2 : bitN y.2.2.1 i < 2 := bitN_2
    have rI : -1 ≤ inN G s (y.2.2.2.getD i 0) (bitN y.2.2.1 i) ∧ inN G s (y.2.2.2.getD i 0) (bitN y.2.2.1 i) < 6000 := by
      by_cases g : hasK G (y.2.2.2.getD i 0) (bitN y.2.2.1 i)
      · rw [inN_it q2 g]; have := h3 (y.2.2.2.getD i 0) (inK G (y.2.2.2.getD i 0) (bitN y.2.2.1 i)); omega
      · rw [(inN_src p1 g).1]; omega
    have bt : aAnd (aShr (y.2.2.1 : Int) (i : Int)) 1 = ((bitN y.2.2.1 i : Nat) : Int) := by rw [aBit (by omega) (by omega), b2i_bit]
    unfold mX23_work_L175
    dsimp only
    rw [w32_id (x := (i : Int)) (by omega), w32_id (x := (y.2.2.2.length : Int)) (by omega), if_pos (by omega), rdI_e (by omega), Int.toNat_natCast, W.2.1, rdI_e (by omega), z3, W.2.2 i hi, bt, m_netOfInput w Mz hd h1 p1 q2, bX_some, w32_id (x := inN G s _ _) (by omega)]
    by_cases g : inN G s (y.2.2.2.getD i 0) (bitN y.2.2.1 i) = -1
    · rw [if_pos g, rdI_e (by omega), z3, W.2.2 i hi]
      obtain ⟨hh, hm⟩ := inN_miss p1 q2 g
      have irk := inK_rk (G := G) (B := B) p2 q2
      have dn := den_way w wl hr gd rk h3 hk q ht hy hn hi (fun i' hi' hk' => by rw [← inN_it bitN_2 hk']; exact b3 i' hi') hh
      have push : ∀ ki co : Int, ki = (jbK (y.2.2.2.getD i 0, inK G (y.2.2.2.getD i 0) (bitN y.2.2.1 i)) : Int) → co = (jbC (y.2.2.2.getD i 0, inK G (y.2.2.2.getD i 0) (bitN y.2.2.1 i)) : Int) → WP (mX23_job s2 ki co) (WkO S G B d l T n k L s) := fun ki co e1 e2 => (hj.push w wl q (p3 hh) (by omega) dn hc e1 e2).mono (fun z hz => .inr (.inl ⟨q, _, _, hz, hm⟩))
      refine WP_call (R := WkO S G B d l T n k L s) ?_ (fun z hz => WP_some.2 hz)
      unfold mX23_askFor
      rw [m_isLeaf w Mz hd p1, bX_some]
      generalize y.2.2.2.getD i 0 = x at *
      generalize bitN y.2.2.1 i = t at *
      refine WP_call (R := WkO S G B d l T n k L s) ?_ (fun z hz => WP_some.2 hz)
      by_cases gi : InG G x
      · have e : inK G x t = t := by unfold inK; rw [cG_t gi]
        rw [cI_t gi, if_neg (by decide), bX_some, if_neg (by decide)]
        rw [e] at push
        exact WP_call (push 0 (2 * (x : Int) + (t : Int)) (by unfold jbK; rw [if_neg (by dsimp only; omega)]; rfl) (by unfold jbC; rw [if_neg (by dsimp only; omega)]; dsimp only; omega)) (fun z hz => WP_some.2 hz)
      · rw [cI_f gi, if_pos (by decide), w32_id (x := (t : Int)) (by omega)]
        by_cases t1 : t = 1
        · have e : inK G x t = 2 := by unfold inK; rw [cG_f gi, if_neg (by omega)]
          rw [if_pos (by omega), bX_some, if_pos rfl]
          rw [e] at push
          exact WP_call (push 1 (x : Int) rfl rfl) (fun z hz => WP_some.2 hz)
        · have e : inK G x t = 0 := by unfold inK; rw [cG_f gi, if_pos (by omega)]
          rw [if_neg (by omega), bX_some, if_neg (by decide)]
          rw [e] at push
          exact WP_call (push 0 (2 * (x : Int) + (t : Int)) rfl (by show 2 * (x : Int) + (t : Int) = ((2 * x + 0 : Nat) : Int); omega)) (fun z hz => WP_some.2 hz)
    · rw [if_neg g]
      refine WP_some.2 ⟨by show (i : Int) + 1 = _; omega, rfl, fun j hj' => ?_⟩
      by_cases e : j = i
      · subst e; exact g
      · exact b3 j (by omega)
  · obtain ⟨s1, s2⟩ := st
    obtain ⟨b1, b2, b3⟩ := hI
    dsimp only at b1 b2 b3
    subst b1 b2
    unfold mX23_work_L175
    dsimp only
    rw [if_neg (by omega)]
    exact WP_some.2 ⟨rfl, b3⟩
end MWORK3
