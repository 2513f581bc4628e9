/-! the reference's jobs: a root -/
def MJs (S : Sto) (G : Dsg) (B : Lib) (s : MkS) (z : Sto) : Prop := MSg z G B s ∧ MkV G s ∧ s.1.length + missN G s = 3 * gNo G ∧ FLg z B s ∧ ChW PJb S z
section MROOT
variable {S z z' : Sto} {G : Dsg} {B : Lib} {d n i k l m o tu x t b f p : Nat} {s s1 T : MkS} {L : List (Nat × Nat)}
theorem JIn.js (h : JIn S G B d l T [] s z) : MJs S G B s z := ⟨h.1, h.2.2.1, h.2.2.2.2.2.2.2.1, h.2.2.2.2.2.2.2.2.1, h.2.2.2.2.2.2.2.2.2⟩
theorem MJs.start (h : MJs S G B s z) : JIn S G B d l s [] s (sI z 2000 137 0) := by
  obtain ⟨h1, h3, h8, h9, h10⟩ := h
  refine ⟨⟨(hI_sI_i (by omega)).trans h1.1, fun i hi => by rw [hI_sI_a (by omega), hI_sI_a (by omega), hI_sI_a (by omega), hI_sI_a (by omega)]; exact h1.2.1 i hi, fun n q1 q2 => by rw [hI_sI_a (by omega), hI_sI_a (by omega)]; exact h1.2.2.1 n q1 q2, fun n q1 => by rw [hI_sI_a (by omega)]; exact h1.2.2.2 n q1⟩, ⟨by rw [gI_set]; rfl, trivial⟩, h3, fun p hp => (by cases hp), trivial, fun p hp => (by cases hp), rfl, h8, ?_, h10.sI (.inl ⟨rfl, by omega⟩)⟩
  unfold FLg at *
  rw [hI_sI_i (by omega)]; exact h9
theorem JIn.push0 (w : WFG G) (h : JIn S G B d l s [] s z) (hg : GdK G B n k) (hrk : rkK G B n k < 5000) {ki co : Int} (e1 : ki = (jbK (n, k) : Int)) (e2 : co = (jbC (n, k) : Int)) : WP (mX23_job z ki co) (JIn S G B d l (RR G B n k s) [(n, k)] s) := by
  obtain ⟨h1, h2, h3, h4, h5, h6, h7, h8, h9, h10⟩ := h
  have hno := no_le w
  obtain ⟨g1, g2, g3⟩ := Gd_n w hg
  have jc : jbC (n, k) < 5000 := by
    unfold jbC
    dsimp only
    split <;> omega
  refine (m_job (n := n) (k := k) h2 (by show 0 < 5000; omega) jc e1 e2).mono (fun z' hz => ?_)
  obtain ⟨y1, y2⟩ := hz
  have o : ∀ a i, ¬ ((a = 2000 ∧ i = 137) ∨ 2103 ≤ a ∧ a ≤ 2104) → gI z' a i = gI z a i := y2.1
  refine ⟨⟨(o _ _ (by omega)).trans h1.1, fun i hi => by rw [o _ _ (by omega), o _ _ (by omega), o _ _ (by omega), o _ _ (by omega)]; exact h1.2.1 i hi, fun n q1 q2 => by rw [o _ _ (by omega), o _ _ (by omega)]; exact h1.2.2.1 n q1 q2, fun n q1 => by rw [o _ _ (by omega)]; exact h1.2.2.2 n q1⟩, y1, h3, fun p hp => ?_, ⟨fun q hq => (by cases hq), trivial⟩, fun p hp => (by cases hp), rfl, h8, ?_, h10.tr y2 (fun a i g => by unfold PJb; omega)⟩
  · rcases List.mem_cons.1 hp with e | e
    · rw [e]; exact ⟨hg, hrk⟩
    · cases e
  · unfold FLg at *
    rw [o _ _ (by omega)]; exact h9
theorem m_netOfRoot (w : WFG G) (wl : WFL B) (hr : rOK G B) (hd : d < 6) (hl3 : l < 3) (hM : MKg S G B d l) {q0 : Nat} (hq : q0 < 2 * gNo G) (ep : swN G q0 = p) (hp : isRt G (p / 2)) (h : MJs S G B s z) : WP (mX23_netOfRoot z (q0 : Int)) (fun y => y.1 = rtN G (rtR G B p s) p ∧ MJs S G B (rtR G B p s) y.2) := by
  have hno := no_le w
  have xl := Wt_lt w (isRt_Wt hp)
  have ng := w.nums
  have e13 : gFi G = 1 + gIn G + gSt G := rfl
  have Mz0 := hM.cw w wl hl3 h.2.2.2.2
  unfold mX23_netOfRoot rtR rtN
  rw [m_keptLit Mz0.1 w hd hq, bX_some, ep]
  by_cases g : p < 2
  · rw [w32_id (by omega), if_pos (by omega), if_pos g, if_pos g]
    exact WP_some.2 ⟨rfl, h⟩
  · have e1 : aShr (p : Int) 1 = ((p / 2 : Nat) : Int) := aShr1_n (by omega)
    have e2 : aAnd (p : Int) 1 = ((p % 2 : Nat) : Int) := aAnd1_n
    have hx : WdG G (p / 2) := ⟨isRt_Wt hp, by omega⟩
    have ht : p % 2 < 2 := by omega
    have ni := isRt_nI hp
    rw [w32_id (by omega), if_neg (by omega), if_neg g, if_neg g, wf_eq, e1, e2]
    have j0 : JIn S G B d l s [] s (sI z 2000 137 0) := h.start
    generalize sI z 2000 137 0 = z0 at *
    obtain ⟨x, hxe⟩ : ∃ x, x = p / 2 := ⟨_, rfl⟩
    obtain ⟨t, hte⟩ : ∃ t, t = p % 2 := ⟨_, rfl⟩
    have gdq := fun gq => rt_gd (t := t) w hr hp (by omega : 0 < p / 2) gq
    rw [← hxe] at hx ni xl gdq ⊢
    rw [← hte] at ht ⊢
    have Mz := hM.cw w wl hl3 j0.js.2.2.2.2
    have h3 := j0.js.2.1
    have sl := miss_len w j0
    have rI : -1 ≤ inN G s x t ∧ inN G s x t < 6000 := by
      by_cases gg : hasK G x t
      · rw [inN_it ht gg]; have := h3 x (inK G x t); omega
      · rw [(inN_src hx gg).1]; omega
    have fin : ∀ y5, (∃ L, JIn S G B d l (lfR G B 5000 x t s) L s y5) → WP (bX (lpF mX23_netOfRoot_L44 y5) fun y8 => bX (mX23_netOfInput y8 (x : Int) (t : Int)) fun x9 => some (x9, y8)) (fun y => y.1 = inN G (lfR G B 5000 x t s) x t ∧ MJs S G B (lfR G B 5000 x t s) y.2) := fun y5 ⟨L, hj⟩ => by
      refine WP_call (m_loop w wl hr hd hl3 hM hj) (fun y8 h8 => ?_)
      rw [m_netOfInput w (hM.cw w wl hl3 h8.js.2.2.2.2) hd h8.1 hx ht, bX_some]
      exact WP_some.2 ⟨rfl, h8.js⟩
    rw [m_netOfInput w Mz hd j0.1 hx ht, bX_some, w32_id (x := inN G s x t) (by omega)]
    by_cases m : inN G s x t = -1
    · obtain ⟨hh, hm⟩ := inN_miss hx ht m
      have gd := gdq hh
      have er : lfR G B 5000 x t s = RR G B x (inK G x t) s := by unfold lfR; rw [cG_t hh]; rfl
      rw [if_pos m]
      refine WP_call (R := fun y5 => ∃ L, JIn S G B d l (lfR G B 5000 x t s) L s y5) ?_ (fun y5 h5 => fin y5 h5)
      refine WP_call (R := fun y5 => ∃ L, JIn S G B d l (lfR G B 5000 x t s) L s y5) ?_ (fun y5 h5 => WP_some.2 h5)
      unfold mX23_askFor
      rw [m_isLeaf w Mz hd hx, bX_some, cI_f ni, if_pos (by decide), w32_id (x := (t : Int)) (by omega)]
      refine WP_call (R := fun y5 => ∃ L, JIn S G B d l (lfR G B 5000 x t s) L s y5) ?_ (fun y5 h5 => WP_some.2 h5)
      rw [er]
      by_cases t1 : t = 1
      · have e : inK G x t = 2 := by unfold inK; rw [cG_f ni, if_neg (by omega)]
        rw [e] at gd ⊢
        rw [if_pos (by omega), bX_some, if_pos rfl]
        exact WP_call (j0.push0 w gd (rk_5 w xl) rfl rfl) (fun z hz => WP_some.2 ⟨_, hz⟩)
      · have e : inK G x t = 0 := by unfold inK; rw [cG_f ni, if_pos (by omega)]
        rw [e] at gd ⊢
        rw [if_neg (by omega), bX_some, if_neg (by decide)]
        exact WP_call (j0.push0 w gd (rk_5 w xl) rfl (by show 2 * (x : Int) + (t : Int) = ((2 * x + 0 : Nat) : Int); omega)) (fun z hz => WP_some.2 ⟨_, hz⟩)
    · have er : lfR G B 5000 x t s = s := by
        unfold lfR
        by_cases gg : hasK G x t
        · rw [cG_t gg]
          exact RR_stay (by rw [← inN_it ht gg]; exact m)
        · rw [cG_f gg]
      rw [if_neg m, bX_some]
      exact fin z0 ⟨[], by rw [er]; exact j0⟩
end MROOT
