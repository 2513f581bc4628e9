/-! the reference's jobs: a piece of work -/
def WkO (S : Sto) (G : Dsg) (B : Lib) (d l : Nat) (T : MkS) (n k : Nat) (L : List (Nat × Nat)) (s : MkS) (z : Sto) : Prop := (JIn S G B d l T L s z ∧ s.2 n k ≠ -1) ∨ (s.2 n k = -1 ∧ ∃ n' k', JIn S G B d l T ((n', k') :: (n, k) :: L) s z ∧ s.2 n' k' = -1) ∨ (s.2 n k = -1 ∧ ∃ g, JIn S G B d l T ((n, k) :: L) (mkA G s n k g) z)
section MWORK2
variable {S z z' : Sto} {G : Dsg} {B : Lib} {d n i k l m o tu x t b f p : Nat} {s s1 T : MkS} {L : List (Nat × Nat)}
theorem JIn.made (w : WFG G) (h : JIn S G B d l T ((n, k) :: L) s z) (q : s.2 n k = -1) {g : Int × Int × Int × Int} (e : RR G B n k s = mkA G s n k g) (ms : MSg z' G B (mkA G s n k g)) (c : ChW (fun a i => PT3 a i ∨ a = 2101 ∨ a = 2102) z z') (fl : FLg z' B (mkA G s n k g)) : JIn S G B d l T ((n, k) :: L) (mkA G s n k g) z' := by
  obtain ⟨h1, h2, h3, h4, h5, h6, h7, h8, h9, h10⟩ := h
  have o : ∀ a i, ¬ (PT3 a i ∨ a = 2101 ∨ a = 2102) → gI z' a i = gI z a i := c.1
  obtain ⟨g1, g2, g3⟩ := Gd_n w (h4 (n, k) (.head _)).1
  have e13 : gFi G = 1 + gIn G + gSt G := rfl
  have nn : (mkA G s n k g).2 n k ≠ -1 := by rw [mkA_net]; omega
  refine ⟨ms, ⟨(o _ _ (by unfold PT3; omega)).trans h2.1, h2.2.mv (fun i hi => ⟨o _ _ (by unfold PT3; omega), o _ _ (by unfold PT3; omega)⟩)⟩, h3.add, h4, h5, fun p hp => ?_, ?_, ?_, fl, h10.tr c (fun a i g => by unfold PT3 at g; unfold PJb; omega)⟩
  · have := h5.1 p hp
    dsimp only at this
    rw [mkA_oth (fun e => by rw [e.1, e.2] at this; omega)]
    exact h6 p hp
  · rw [← h7]
    show mkD G B L (RR G B n k (mkA G s n k g)) = mkD G B L (RR G B n k s)
    rw [RR_stay nn, e]
  · have mm : missN G s = missN G (mkA G s n k g) + 1 := missN_A (by omega) g1 g3 q
    rw [mkA_len]; omega
theorem xor1 (hk : k < 2) : (2 * n + k) ^^^ 1 = 2 * n + (1 - k) := by
  refine Nat.eq_of_testBit_eq (fun i => ?_)
  rw [Nat.testBit_xor]
  cases i with
  | zero =>
    rw [Nat.testBit_zero, Nat.testBit_zero, Nat.testBit_zero]
    rcases (show k = 0 ∨ k = 1 by omega) with rfl | rfl
    · have a : (2 * n + 0) % 2 = 0 := by omega
      have b : (2 * n + (1 - 0)) % 2 = 1 := by omega
      rw [a, b]; rfl
    · have a : (2 * n + 1) % 2 = 1 := by omega
      have b : (2 * n + (1 - 1)) % 2 = 0 := by omega
      rw [a, b]; rfl
  | succ i =>
    rw [Nat.testBit_succ, Nat.testBit_succ, Nat.testBit_succ]
    have a : (2 * n + k) / 2 = n := by omega
    have b : (2 * n + (1 - k)) / 2 = n := by omega
    rw [a, b, Nat.zero_testBit, Bool.xor_false]
theorem miss_len (w : WFG G) (h : JIn S G B d l T L s z) : s.1.length < 5000 := by
  have hno := no_le w
  have := h.2.2.2.2.2.2.2.1
  omega
theorem FLg.turn (h : FLg z B s) : gI z 2000 134 = 0 ∨ gI z 2000 134 = 1 := by
  unfold FLg at h
  rw [h]
  have := bo_le (p := lInv B = -1 ∧ ∃ n, s.2 n 2 ≠ -1)
  omega
/-- a turned leaf's work -/
theorem m_wk2 (w : WFG G) (wl : WFL B) (hr : rOK G B) (hd : d < 6) (hl3 : l < 3) (hM : MKg S G B d l) (h : JIn S G B d l T ((n, 2) :: L) s z) (hc : ∀ p ∈ L, s.2 p.1 p.2 = -1) : WP (mX23_work z) (WkO S G B d l T n 2 L s) := by
  have hj := h
  obtain ⟨h1, h2, h3, h4, h5, h6, h7, h8, h9, h10⟩ := h
  have hno := no_le w
  have ng := w.nums
  have e13 : gFi G = 1 + gIn G + gSt G := rfl
  have sl := miss_len w hj
  obtain ⟨gd, rk⟩ := h4 (n, 2) (.head _)
  dsimp only at gd rk
  obtain ⟨g1, g2, g3⟩ := Gd_n w gd
  obtain ⟨_, w1, w2⟩ := gd.resolve_left (fun g => by omega)
  have Mz := hM.cw w wl hl3 h10
  have hl := stkU_len (G := G) (B := B) 5000 _ 0 h5 (fun p hp => ⟨Nat.zero_le _, (h4 p hp).2⟩) (Nat.zero_le _)
  have hl' : L.length + 1 ≤ 5000 := hl
  have e137 : gI z 2000 137 - 1 = (L.length : Int) := by rw [h2.1]; show ((L.length + 1 : Nat) : Int) - 1 = _; omega
  have c3 : gI z 2103 L.length = (n : Int) := h2.2.1
  have c4 : gI z 2104 L.length = 1 := h2.2.2.1
  have rg : ∀ a b, -1 ≤ s.2 a b ∧ s.2 a b < 6000 := fun a b => by have := h3 a b; omega
  have r2 := rg n 2
  have r0 := rg n 0
  unfold mX23_work
  rw [e137, rdI_e (by omega), Int.toNat_natCast, c3, rdI_e (by omega), Int.toNat_natCast, c4, if_pos (by decide), rdI_e (by omega), Int.toNat_natCast, h1.2.2.2 n g1]
  refine WP_call (R := WkO S G B d l T n 2 L s) ?_ (fun y hy => WP_some.2 hy)
  rw [w32_id (x := s.2 n 2) (by omega)]
  by_cases q : s.2 n 2 = -1
  case neg =>
    rw [if_pos q]
    rw [e137.symm]
    exact (hj.pop q hc).mono (fun z hz => .inl ⟨hz, q⟩)
  case pos =>
    rw [if_neg (fun g => g q), m_leafNet w Mz hd h1 w1, bX_some]
    obtain ⟨lv, hlv⟩ : ∃ lv, lv = (if gFi G ≤ n then s.2 n 0 else (n : Int) - 1) := ⟨_, rfl⟩
    have w0 := w1.2
    have lr : -1 ≤ lv ∧ lv < 6000 := by rw [hlv]; split <;> omega
    rw [← hlv, w32_id (x := lv) (by omega)]
    by_cases m : lv = -1
    · have gn : gFi G ≤ n := Classical.byContradiction (fun g => by rw [if_neg g] at hlv; omega)
      have m0 : s.2 n 0 = -1 := by rw [if_pos gn] at hlv; omega
      have xa : AndG G n := ⟨gn, g1, w1.1⟩
      have xr : Rt G n := Classical.byContradiction (fun r => w2 ⟨gn, g1, w1.1, r⟩)
      have gd0 : GdK G B n 0 := .inl ⟨by omega, xa, .inr (.inl rfl), hr n xa xr⟩
      have e2 : rkK G B n 2 = 4 * n + 2 := rfl
      have e1 := rk0_le (G := G) (B := B) (n := n)
      rw [if_pos m]
      refine WP_call (hj.push w wl q gd0 (by omega) (den_lf w wl hr gd rk h3 q gn gd0) hc rfl (by show 2 * (n : Int) = ((2 * n + 0 : Nat) : Int); omega)) (fun y hy => WP_some.2 (.inr (.inl ⟨q, n, 0, hy, m0⟩)))
    · rw [if_neg m, bX_some]
      refine WP_call (m_turned w wl hl3 Mz hd h1 sl h9.turn (by omega)) (fun x8 hx => ?_)
      obtain ⟨y1, y2, y3, y4⟩ := hx
      rw [wrI_e (by omega), Int.toNat_natCast]
      have nd : gFi G ≤ n → s.2 n 0 ≠ -1 := fun g e => m (by rw [hlv, if_pos g]; exact e)
      have em := mk_lf w wl hr gd rk h3 q nd
      rw [← hlv] at em
      refine WP_some.2 (.inr (.inr ⟨q, _, hj.made w q em (MSg_put2 y2 y1 sl (by omega)) ((ChW.refl.tr y4 (fun _ _ g => .inl g)).sI (.inr (.inr rfl))) ?_⟩))
      unfold FLg at *
      rw [hI_sI_a (by omega), y3]
      by_cases iv : lInv B = -1
      · rw [if_pos (.inr iv), bo_t ⟨iv, n, by rw [mkA_net]; omega⟩]; rfl
      · rw [h9, bo_f (fun g => iv g.1), bo_f (fun g => iv g.1), if_neg (fun g => by rcases g with g | g; omega; exact iv g)]; rfl
end MWORK2
