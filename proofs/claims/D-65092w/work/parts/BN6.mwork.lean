/-! the reference's jobs: one piece of work -/
def FLg (z : Sto) (B : Lib) (s : MkS) : Prop := gI z 2000 134 = (bo (lInv B = -1 ∧ ∃ n, s.2 n 2 ≠ -1) : Int)
def PT3 (a i : Nat) : Prop := (a = 2000 ∧ (i = 129 ∨ i = 134)) ∨ 2099 ≤ a ∧ a ≤ 2100
section MWORK
variable {S z : Sto} {G : Dsg} {B : Lib} {d n i k l m o tu x t b f p : Nat} {s s1 T : MkS} {L : List (Nat × Nat)}
theorem m_turned (w : WFG G) (wl : WFL B) (hl3 : l < 3) (hM : MKg S G B d l) (hd : d < 6) (hs : MSg S G B s) (hl : s.1.length < 5000) (h134 : gI S 2000 134 = 0 ∨ gI S 2000 134 = 1) {p1 : Int} (r1 : -2147483648 ≤ p1 ∧ p1 < 2147483648) :
    WP (mX23_turned S p1) (fun y => y.1 = (gFi G : Int) - 1 + (s.1.length : Int) ∧ MSg y.2 G B (s.1 ++ [(lInv B, p1, -1, -1)], s.2) ∧ gI y.2 2000 134 = (if gI S 2000 134 = 1 ∨ lInv B = -1 then 1 else 0) ∧ ChW PT3 S y.2) := by
  have r' : -1 ≤ lInv B ∧ lInv B < (liN B : Int) := lInvN_rng (B := B) (n := liN B)
  have ln := wl.nums
  have e7 : gI S 2000 107 = lInv B := hM.2.1.2.2.1
  obtain ⟨X, hX⟩ : ∃ X : Int, X = (if gI S 2000 134 = 1 ∨ lInv B = -1 then 1 else 0) := ⟨_, rfl⟩
  rw [← hX]
  have fin : ∀ v : Int, v = X → WP (wf S 2000 134 v fun S2 => bX (mX23_make S2 (gI S2 2000 107) p1 (-1) (-1)) fun x3 => some (x3.1, x3.2)) (fun y => y.1 = (gFi G : Int) - 1 + (s.1.length : Int) ∧ MSg y.2 G B (s.1 ++ [(lInv B, p1, -1, -1)], s.2) ∧ gI y.2 2000 134 = X ∧ ChW PT3 S y.2) := fun v hv => by
    rw [wf_eq]
    have vr : v = 0 ∨ v = 1 := by rw [hv, hX]; split <;> omega
    have c1 : ChW PJb S (sI S 2000 134 v) := ChW.refl.sI (.inl ⟨rfl, by omega⟩)
    have s2 : MSg (sI S 2000 134 v) G B s := ⟨(hI_sI_i (by omega)).trans hs.1, fun i hi => by rw [hI_sI_a (by omega), hI_sI_a (by omega), hI_sI_a (by omega), hI_sI_a (by omega)]; exact hs.2.1 i hi, fun n q1 q2 => by rw [hI_sI_a (by omega), hI_sI_a (by omega)]; exact hs.2.2.1 n q1 q2, fun n q1 => by rw [hI_sI_a (by omega)]; exact hs.2.2.2 n q1⟩
    rw [hI_sI_i (by omega), e7]
    refine WP_call (m_make w (hM.cw w wl hl3 c1) hd s2 hl (by omega) r1 (by decide) (by decide)) (fun y hy => WP_some.2 ?_)
    obtain ⟨y1, y2, y3⟩ := hy
    refine ⟨y1, y2, ?_, ?_⟩
    · dsimp only
      rw [y3.1 _ _ (by omega), gI_set, ← hv]
      rcases vr with g | g <;> rw [g] <;> rfl
    · have c0 : ChW PT3 S (sI S 2000 134 v) := ChW.refl.sI (.inl ⟨rfl, .inr rfl⟩)
      exact c0.tr y3 (fun a i g => by unfold PT3; omega)
  unfold mX23_turned
  rw [e7, w32_id (x := lInv B) (by omega)]
  rcases h134 with g | g
  · rw [g, show w32 (bz 0) = 0 from rfl, if_pos rfl]
    by_cases q : lInv B = -1
    · rw [if_pos q, bX_some, if_pos rfl, bX_some, gz_1]
      exact fin 1 (by rw [hX, if_pos (.inr q)])
    · rw [if_neg q, bX_some, if_neg (by decide), bX_some, gz_0]
      exact fin 0 (by rw [hX, if_neg (by omega)])
  · rw [g, show w32 (bz 1) = 1 from rfl, if_neg (by decide), bX_some, if_pos rfl, bX_some, gz_1]
    exact fin 1 (by rw [hX, if_pos (.inl g)])
/-- the state of the jobs -/
def JIn (S : Sto) (G : Dsg) (B : Lib) (d l : Nat) (T : MkS) (L : List (Nat × Nat)) (s : MkS) (z : Sto) : Prop := MSg z G B s ∧ MSk z L ∧ MkV G s ∧ (∀ p ∈ L, GdK G B p.1 p.2 ∧ rkK G B p.1 p.2 < 5000) ∧ stkU G B L ∧ (∀ p ∈ L.tail, s.2 p.1 p.2 = -1) ∧ mkD G B L s = T ∧ s.1.length + missN G s = 3 * gNo G ∧ FLg z B s ∧ ChW PJb S z
theorem Gd_n (w : WFG G) (h : GdK G B n k) : n < gNo G ∧ (k < 2 → gFi G ≤ n) ∧ k < 3 := by
  rcases h with ⟨a, b, _⟩ | ⟨a, b, _⟩
  · exact ⟨b.2.1, fun _ => b.1, by omega⟩
  · exact ⟨Wt_lt w b.1, fun g => by omega, by omega⟩
theorem JIn.pop (h : JIn S G B d l T ((n, k) :: L) s z) (q : s.2 n k ≠ -1) (hc : ∀ p ∈ L, s.2 p.1 p.2 = -1) : WP (wf z 2000 137 ((gI z 2000 137) - 1) fun S4 => some S4) (JIn S G B d l T L s) := by
  obtain ⟨h1, h2, h3, h4, h5, h6, h7, h8, h9, h10⟩ := h
  rw [wf_eq, h2.1]
  have hl := stkU_len (G := G) (B := B) 5000 ((n, k) :: L) 0 h5 (fun p hp => ⟨Nat.zero_le _, (h4 p hp).2⟩) (Nat.zero_le _)
  have hl' : L.length + 1 ≤ 5000 := hl
  have e137 : (((n, k) :: L).length : Int) - 1 = (L.length : Int) := by show ((L.length + 1 : Nat) : Int) - 1 = _; omega
  rw [e137]
  refine WP_some.2 ⟨?_, ⟨?_, ?_⟩, h3, fun p hp => h4 p (.tail _ hp), h5.2, fun p hp => hc p (List.mem_of_mem_tail hp), ?_, h8, ?_, h10.sI (.inl ⟨rfl, by omega⟩)⟩
  · exact ⟨(hI_sI_i (by omega)).trans h1.1, fun i hi => by rw [hI_sI_a (by omega), hI_sI_a (by omega), hI_sI_a (by omega), hI_sI_a (by omega)]; exact h1.2.1 i hi, fun n q1 q2 => by rw [hI_sI_a (by omega), hI_sI_a (by omega)]; exact h1.2.2.1 n q1 q2, fun n q1 => by rw [hI_sI_a (by omega)]; exact h1.2.2.2 n q1⟩
  · rw [gI_set, w32_id (by omega)]
  · exact h2.2.2.2.mv (fun i hi => ⟨hI_sI_a (by omega), hI_sI_a (by omega)⟩)
  · rw [← h7]
    show _ = mkD G B L (RR G B n k s)
    rw [RR_stay q]
  · unfold FLg at *
    rw [hI_sI_i (by omega)]; exact h9
theorem JIn.push (w : WFG G) (wl : WFL B) {n' k' : Nat} (h : JIn S G B d l T ((n, k) :: L) s z) (q : s.2 n k = -1) (hg : GdK G B n' k') (hrk : rkK G B n' k' < rkK G B n k) (hd : RR G B n k (RR G B n' k' s) = RR G B n k s) (hc : ∀ p ∈ L, s.2 p.1 p.2 = -1) {ki co : Int} (e1 : ki = (jbK (n', k') : Int)) (e2 : co = (jbC (n', k') : Int)) : WP (mX23_job z ki co) (JIn S G B d l T ((n', k') :: (n, k) :: L) s) := by
  obtain ⟨h1, h2, h3, h4, h5, h6, h7, h8, h9, h10⟩ := h
  have hno := no_le w
  obtain ⟨g1, g2, g3⟩ := Gd_n w hg
  have rk := (h4 (n, k) (.head _)).2
  dsimp only at rk
  have nu : stkU G B ((n', k') :: (n, k) :: L) := ⟨fun p hp => by
    rcases List.mem_cons.1 hp with e | e
    · rw [e]; exact hrk
    · have := h5.1 p e
      dsimp only at this ⊢
      omega, h5⟩
  have ng : ∀ p ∈ (n', k') :: (n, k) :: L, GdK G B p.1 p.2 ∧ rkK G B p.1 p.2 < 5000 := fun p hp => by
    rcases List.mem_cons.1 hp with e | e
    · rw [e]; exact ⟨hg, by dsimp only; omega⟩
    · exact h4 p e
  have hl := stkU_len (G := G) (B := B) 5000 _ 0 nu (fun p hp => ⟨Nat.zero_le _, (ng p hp).2⟩) (Nat.zero_le _)
  have hl' : ((n, k) :: L).length + 1 ≤ 5000 := hl
  have jc : jbC (n', k') < 5000 := by
    unfold jbC
    dsimp only
    split <;> omega
  refine (m_job (n := n') (k := k') h2 (by omega) jc e1 e2).mono (fun z' hz => ?_)
  obtain ⟨y1, y2⟩ := hz
  have o : ∀ a i, ¬ ((a = 2000 ∧ i = 137) ∨ 2103 ≤ a ∧ a ≤ 2104) → gI z' a i = gI z a i := y2.1
  refine ⟨⟨(o _ _ (by omega)).trans h1.1, fun i hi => by rw [o _ _ (by omega), o _ _ (by omega), o _ _ (by omega), o _ _ (by omega)]; exact h1.2.1 i hi, fun n q1 q2 => by rw [o _ _ (by omega), o _ _ (by omega)]; exact h1.2.2.1 n q1 q2, fun n q1 => by rw [o _ _ (by omega)]; exact h1.2.2.2 n q1⟩, y1, h3, ng, nu, fun p hp => ?_, ?_, h8, ?_, h10.tr y2 (fun a i g => by unfold PJb; omega)⟩
  · rcases List.mem_cons.1 hp with e | e
    · rw [e]; exact q
    · exact hc p e
  · rw [← h7]
    show mkD G B L (RR G B n k (RR G B n' k' s)) = mkD G B L (RR G B n k s)
    rw [hd]
  · unfold FLg at *
    rw [o _ _ (by omega)]; exact h9
end MWORK
