/-! the reference's jobs: the loop -/
def topV (z : Sto) : Int := if gI z 2104 ((gI z 2000 137).toNat - 1) = 1 then gI z 2102 (gI z 2103 ((gI z 2000 137).toNat - 1)).toNat else gI z 2101 (gI z 2103 ((gI z 2000 137).toNat - 1)).toNat
def muJ (G : Dsg) (z : Sto) : Nat := (3 * gNo G - (gI z 2000 129).toNat) * 20000 + (if (gI z 2000 137).toNat = 0 then 0 else if topV z = -1 then 10000 - (gI z 2000 137).toNat else 10000 + (gI z 2000 137).toNat)
def muL (s : MkS) : List (Nat × Nat) → Nat
  | [] => 0
  | p :: L => if s.2 p.1 p.2 = -1 then 10000 - (L.length + 1) else 10000 + (L.length + 1)
section MLOOP
variable {S z z' : Sto} {G : Dsg} {B : Lib} {d n i k l m o tu x t b f p : Nat} {s s1 T : MkS} {L : List (Nat × Nat)}
theorem JIn.len (h : JIn S G B d l T L s z) : L.length ≤ 5000 := stkU_len (G := G) (B := B) 5000 L 0 h.2.2.2.2.1 (fun p hp => ⟨Nat.zero_le _, (h.2.2.2.1 p hp).2⟩) (Nat.zero_le _)
theorem mu_eq (w : WFG G) (h : JIn S G B d l T L s z) : muJ G z = missN G s * 20000 + muL s L := by
  have hl := h.len
  obtain ⟨h1, h2, h3, h4, h5, h6, h7, h8, h9, h10⟩ := h
  have e9 : 3 * gNo G - (gI z 2000 129).toNat = missN G s := by rw [h1.1, Int.toNat_natCast]; omega
  unfold muJ
  rw [e9, h2.1, Int.toNat_natCast]
  cases L with
  | nil => rfl
  | cons p L =>
    obtain ⟨n, k⟩ := p
    have ll : ((n, k) :: L).length = L.length + 1 := rfl
    have et : topV z = s.2 n k := by
      obtain ⟨g1, g2, g3⟩ := Gd_n w (h4 (n, k) (.head _)).1
      dsimp only at g1 g2 g3
      unfold topV
      have e1 : (gI z 2000 137).toNat - 1 = L.length := by rw [h2.1, Int.toNat_natCast]; rfl
      rw [e1, h2.2.2.1, h2.2.1]
      by_cases k2 : k = 2
      · subst k2
        have a : jbK (n, 2) = 1 := rfl
        have b : jbC (n, 2) = n := rfl
        rw [a, b, if_pos (show ((1 : Nat) : Int) = 1 from rfl), Int.toNat_natCast]
        exact h1.2.2.2 n g1
      · have a : jbK (n, k) = 0 := if_neg k2
        have b : jbC (n, k) = 2 * n + k := if_neg k2
        obtain ⟨u, v⟩ := h1.2.2.1 n (g2 (by omega)) g1
        rw [a, b, if_neg (by decide), Int.toNat_natCast]
        rcases (show k = 0 ∨ k = 1 by omega) with rfl | rfl
        · exact u
        · exact v
    rw [ll, if_neg (by omega), et]
    rfl
theorem m_work (w : WFG G) (wl : WFL B) (hr : rOK G B) (hd : d < 6) (hl3 : l < 3) (hM : MKg S G B d l) (h : JIn S G B d l T ((n, k) :: L) s z) : WP (mX23_work z) (WkO S G B d l T n k L s) := by
  obtain ⟨g1, g2, g3⟩ := Gd_n w (h.2.2.2.1 (n, k) (.head _)).1
  dsimp only at g3
  have hc : ∀ p ∈ L, s.2 p.1 p.2 = -1 := h.2.2.2.2.2.1
  by_cases k2 : k = 2
  · subst k2; exact m_wk2 w wl hr hd hl3 hM h hc
  · exact m_wk0 w wl hr hd hl3 hM (by omega) h hc
theorem WkO.dec (w : WFG G) (h : JIn S G B d l T ((n, k) :: L) s z) (g : WkO S G B d l T n k L s z') : (∃ L' s', JIn S G B d l T L' s' z') ∧ muJ G z' < muJ G z := by
  have hl := h.len
  have ll : ((n, k) :: L).length = L.length + 1 := rfl
  have m0 := mu_eq w h
  obtain ⟨g1, g2, g3⟩ := Gd_n w (h.2.2.2.1 (n, k) (.head _)).1
  dsimp only at g1 g3
  have hc : ∀ p ∈ L, s.2 p.1 p.2 = -1 := h.2.2.2.2.2.1
  have e0 : muL s ((n, k) :: L) = if s.2 n k = -1 then 10000 - (L.length + 1) else 10000 + (L.length + 1) := rfl
  rw [e0] at m0
  rcases g with ⟨j, q⟩ | ⟨q, n', k', j, q'⟩ | ⟨q, g, j⟩
  · refine ⟨⟨_, _, j⟩, ?_⟩
    rw [if_neg q] at m0
    rw [m0, mu_eq w j]
    cases L with
    | nil => show missN G s * 20000 + 0 < _; omega
    | cons p L =>
      have e1 : muL s (p :: L) = 10000 - (L.length + 1) := if_pos (hc p (.head _))
      rw [e1]; omega
  · refine ⟨⟨_, _, j⟩, ?_⟩
    have jl := j.len
    have jl' : L.length + 1 + 1 ≤ 5000 := jl
    rw [if_pos q] at m0
    have e1 : muL s ((n', k') :: (n, k) :: L) = 10000 - (L.length + 1 + 1) := if_pos q'
    rw [m0, mu_eq w j, e1]; omega
  · refine ⟨⟨_, _, j⟩, ?_⟩
    have e13 : gFi G = 1 + gIn G + gSt G := rfl
    have mm : missN G s = missN G (mkA G s n k g) + 1 := missN_A (by omega) g1 g3 q
    have nn : (mkA G s n k g).2 n k ≠ -1 := by rw [mkA_net]; omega
    have e1 : muL (mkA G s n k g) ((n, k) :: L) = 10000 + (L.length + 1) := if_neg nn
    rw [if_pos q] at m0
    rw [m0, mu_eq w j, e1, mm]; omega
theorem m_loop (w : WFG G) (wl : WFL B) (hr : rOK G B) (hd : d < 6) (hl3 : l < 3) (hM : MKg S G B d l) (h : JIn S G B d l T L s z) : WP (lpF mX23_netOfRoot_L44 z) (JIn S G B d l T [] T) := by
  have hno := no_le w
  have hl := h.len
  have m0 := mu_eq w h
  have mb : muL s L ≤ 20000 := by
    cases L with
    | nil => exact Nat.zero_le _
    | cons p L =>
      have ll : (p :: L).length = L.length + 1 := rfl
      show (if s.2 p.1 p.2 = -1 then 10000 - (L.length + 1) else 10000 + (L.length + 1)) ≤ 20000
      split <;> omega
  have ms : missN G s ≤ 3 * gNo G := by have := h.2.2.2.2.2.2.2.1; omega
  refine WP_lpF (fun z => ∃ L s, JIn S G B d l T L s z) (muJ G) ⟨L, s, h⟩ (by rw [m0]; unfold cFU; omega) (fun z hz => ?_)
  obtain ⟨L, s, hj⟩ := hz
  have hl := hj.len
  unfold mX23_netOfRoot_L44
  rw [hj.2.1.1, w32_id (by omega)]
  cases L with
  | nil =>
    rw [if_neg (by show ¬ (0 : Int) < ((0 : Nat) : Int); decide)]
    have e : s = T := hj.2.2.2.2.2.2.1
    rw [e] at hj
    exact WP_some.2 hj
  | cons p L =>
    obtain ⟨n, k⟩ := p
    rw [if_pos (by show (0 : Int) < ((L.length + 1 : Nat) : Int); omega)]
    refine WP_call (m_work w wl hr hd hl3 hM hj) (fun z' hz' => WP_some.2 ?_)
    exact hz'.dec w hj
end MLOOP
