/-! the class makes a chip: the whole -/
def PGn (k a i : Nat) : Prop := (a = 198 ∧ (i = 24 ∨ i = 25)) ∨ a = 215 ∨ a = 216 ∨ (344 + 22 * k ≤ a ∧ a ≤ 344 + 22 * k + 21 ∧ ¬ (344 + 22 * k + 1 ≤ a ∧ a ≤ 344 + 22 * k + 5))
/-- a chip that is made -/
def KCh (z : Sto) (G : Dsg) (B : Lib) (k : Nat) : Prop :=
  (gI z (344 + 22 * k) 1 = (gIn G : Int) ∧ gI z (344 + 22 * k) 2 = (gSt G : Int) ∧ gI z (344 + 22 * k) 3 = (gOu G : Int) ∧ gI z (344 + 22 * k) 4 = G 11 0 ∧ gI z (344 + 22 * k) 5 = G 11 0) ∧
  KSg z G k (rtS G B (nRt G)) ∧ (∀ i, i < gOu G → gI z (344 + 22 * k + 8) i = rtN G (rtS G B (i + 1)) (rtL G i)) ∧ (∀ i, i < gSt G → gI z (344 + 22 * k + 9) i = rtN G (rtS G B (gOu G + i + 1)) (rtL G (gOu G + i))) ∧
  (gI z (344 + 22 * k) 11 = 0 ∧ gI z (344 + 22 * k) 12 = 0 ∧ gI z (344 + 22 * k) 13 = 0 ∧ gI z (344 + 22 * k) 22 = 0 ∧ gI z (344 + 22 * k) 16 = 0 ∧ gI z (344 + 22 * k) 20 = -1 ∧ gI z (344 + 22 * k) 25 = -1 ∧ gI z (344 + 22 * k) 30 = 0)
section KMAKE3
variable {S z : Sto} {G : Dsg} {B : Lib} {d n i k l : Nat} {s : MkS}
theorem PGm_n {a i : Nat} (q : PGm k a i) : PGn k a i := by unfold PGm PGk at q; unfold PGn; omega
theorem KMx.mk (hd : d < 6) (h : KMx S G B d k (gNo G)) (h2 : gR S 198 2 = 344 + 22 * k) (g : ChW (PGn k) S z) (e1 : gI z (344 + 22 * k) 1 = (gIn G : Int)) (e2 : gI z (344 + 22 * k) 2 = (gSt G : Int)) : KMg z G B d k := by
  obtain ⟨h1, h3, h4, h5, h6, h7⟩ := h
  have o : ∀ a i, ¬ PGn k a i → gI z a i = gI S a i := g.1
  refine ⟨h1.mv (fun a i l1 l2 => o _ _ (fun q => by unfold PGn at q; omega)) (g.2.2.1 _ _), h3.mv (fun a i l1 l2 => o _ _ (fun q => by unfold PGn at q; omega)) (g.2.2.1 _ _) (o _ _ (fun q => by unfold PGn at q; omega)), fun n q1 q2 => (o _ _ (fun q => by unfold PGn at q; omega)).trans (h4 n q1 q2), fun x hx l => (h7 x hx l).mv (fun a i l1 l2 => o _ _ (fun q => by unfold PGn at q; omega)), (g.2.2.1 _ _).trans h2, e1, e2⟩
theorem KSg.mv3 (h : KSg S G k s) (e : ∀ a i, ¬ (a = 344 + 22 * k ∧ i ≠ 6) → gI z a i = gI S a i) : KSg z G k s := by
  obtain ⟨g1, g2, g3⟩ := h
  refine ⟨(e _ _ (by omega)).trans g1, fun i hi => ?_, fun n hn => ?_⟩
  · rw [e _ _ (by omega), e _ _ (by omega), e _ _ (by omega), e _ _ (by omega)]; exact g2 i hi
  · by_cases q : k < 4
    · rw [e _ _ (by omega), e _ _ (by omega), e _ _ (by omega)]; exact g3 n hn
    · rw [e _ _ (by omega), e _ _ (by omega), e _ _ (by omega)]; exact g3 n hn
theorem k_make (w : WFG G) (wl : WFL B) (hr : rOK G B) (hd : d < 6) (hk : k < 4) (hX : KMx S G B d k (gNo G)) (h2 : gR S 198 2 = 344 + 22 * k) :
    WP (mX12_make S) (fun y => ChW (PGn k) S y.2 ∧ ((rtS G B (nRt G)).1.length ≤ 150 → y.1 = 0 ∧ KCh y.2 G B k) ∧ (150 < (rtS G B (nRt G)).1.length → y.1 = -2)) := by
  have hno := no_le w
  have ng := w.nums
  have wi := w.i
  have wr := w.s
  have w64 := w.st64.1; have w65 := w.st64.2.1
  have wo := w.o
  have fR : ∀ {T : Sto} {a i v}, gR (sI T a i v) 198 2 = gR T 198 2 := fun {T a i v} => rfl
  have fR0 : ∀ {T : Sto} {a i v}, gR (sI T a i v) 198 0 = gR T 198 0 := fun {T a i v} => rfl
  have nR : nRt G = gOu G + gSt G := rfl
  unfold mX12_make
  refine WP_call (k_mk2 w hd hX.1) (fun y6 hy => ?_)
  obtain ⟨y1, y2⟩ := hy
  have c6 : ChW (PGn k) S y6 := ChW.refl.tr y1 (fun a i g => by unfold PGn; omega)
  have h26 : gR y6 198 2 = 344 + 22 * k := (c6.2.2.1 _ _).trans h2
  have G6 : KGx y6 d G := hX.1.mv (fun a i l1 l2 => c6.1 _ _ (fun q => by unfold PGn at q; omega)) (c6.2.2.1 _ _)
  have h06 : gR y6 198 0 = 273 + 9 * d := G6.1
  have f4 := G6.2.1.1
  have f5 := G6.2.1.2.1
  have f6 := G6.2.1.2.2.1
  have f7 := G6.2.1.2.2.2.2.1
  rw [wi] at f4
  rw [wr] at f5
  rw [wo] at f6
  have fd : ∀ {T : Sto} {a i v} {j : Nat}, a = 198 ∨ a = 344 + 22 * k → gI (sI T a i v) (273 + 9 * d) j = gI T (273 + 9 * d) j := fun {T a i v j} q => hI_sI_a (by omega)
  rw [wf_eq, wf_eq, fR, fR, h26, gk_chip hk, fR0, fR0, h06, gk_dsg hd, fd (.inl rfl), fd (.inl rfl), f4]
  rw [wf_eq, fR, fR, fR, h26, gk_chip hk, fR0, fR0, fR0, h06, gk_dsg hd, fd (.inr rfl), fd (.inl rfl), fd (.inl rfl), f5]
  rw [wf_eq, fR, fR, fR, fR, h26, gk_chip hk, fR0, fR0, fR0, fR0, h06, gk_dsg hd, fd (.inr rfl), fd (.inr rfl), fd (.inl rfl), fd (.inl rfl), f6]
  rw [wf_eq, fR, fR, fR, fR, fR, h26, gk_chip hk, fR0, fR0, fR0, fR0, fR0, h06, gk_dsg hd, fd (.inr rfl), fd (.inr rfl), fd (.inr rfl), fd (.inl rfl), fd (.inl rfl), f7]
  rw [wf_eq, fR, fR, fR, fR, fR, fR, h26, gk_chip hk, fR0, fR0, fR0, fR0, fR0, fR0, h06, gk_dsg hd, fd (.inr rfl), fd (.inr rfl), fd (.inr rfl), fd (.inr rfl), fd (.inl rfl), fd (.inl rfl), f7]
  rw [wf_eq, fR, fR, fR, fR, fR, fR, fR, h26, gk_chip hk, wf_eq]
  obtain ⟨Y, hY⟩ : ∃ Y, Y = sI (sI (sI (sI (sI (sI (sI (sI y6 198 25 0) 198 24 0) (344 + 22 * k) 1 (gIn G : Int)) (344 + 22 * k) 2 (gSt G : Int)) (344 + 22 * k) 3 (gOu G : Int)) (344 + 22 * k) 4 (G 11 0)) (344 + 22 * k) 5 (G 11 0)) (344 + 22 * k) 6 0 := ⟨_, rfl⟩
  rw [← hY]
  have pL : ∀ i, PGn k (344 + 22 * k) i := fun i => by unfold PGn; omega
  have cY : ChW (PGn k) S Y := by
    rw [hY]
    exact (((((((c6.sI (.inl ⟨rfl, .inr rfl⟩)).sI (.inl ⟨rfl, .inl rfl⟩)).sI (pL _)).sI (pL _)).sI (pL _)).sI (pL _)).sI (pL _)).sI (pL _)
  have gst := w.2.2.2.2.2.2
  have p6 : 2 ^ gSt G ≤ 64 := Nat.le_trans (Nat.pow_le_pow_right (by omega) (show gSt G ≤ 6 by omega)) (by decide)
  have Y6 : gI Y (344 + 22 * k) 6 = 0 := by rw [hY, gI_set]; rfl
  have Y5 : gI Y (344 + 22 * k) 5 = G 11 0 := by rw [hY, hI_sI_i (by omega), gI_set, w32_id (by omega)]
  have Y4 : gI Y (344 + 22 * k) 4 = G 11 0 := by rw [hY, hI_sI_i (by omega), hI_sI_i (by omega), gI_set, w32_id (by omega)]
  have Y3 : gI Y (344 + 22 * k) 3 = (gOu G : Int) := by rw [hY, hI_sI_i (by omega), hI_sI_i (by omega), hI_sI_i (by omega), gI_set, w32_id (by omega)]
  have Y2 : gI Y (344 + 22 * k) 2 = (gSt G : Int) := by rw [hY, hI_sI_i (by omega), hI_sI_i (by omega), hI_sI_i (by omega), hI_sI_i (by omega), gI_set, w32_id (by omega)]
  have Y1 : gI Y (344 + 22 * k) 1 = (gIn G : Int) := by rw [hY, hI_sI_i (by omega), hI_sI_i (by omega), hI_sI_i (by omega), hI_sI_i (by omega), hI_sI_i (by omega), gI_set, w32_id (by omega)]
  have Yb : gI Y 198 24 = 0 := by rw [hY, hI_sI_a (by omega), hI_sI_a (by omega), hI_sI_a (by omega), hI_sI_a (by omega), hI_sI_a (by omega), hI_sI_a (by omega), gI_set]; rfl
  have Yf : gI Y 198 25 = 0 := by rw [hY, hI_sI_a (by omega), hI_sI_a (by omega), hI_sI_a (by omega), hI_sI_a (by omega), hI_sI_a (by omega), hI_sI_a (by omega), hI_sI_i (by omega), gI_set]; rfl
  have Yo : ∀ a j, a = 215 ∨ a = 216 → gI Y a j = gI y6 a j := fun a j q => by
    rw [hY, hI_sI_a (by omega), hI_sI_a (by omega), hI_sI_a (by omega), hI_sI_a (by omega), hI_sI_a (by omega), hI_sI_a (by omega), hI_sI_a (by omega), hI_sI_a (by omega)]
  have M : KMg Y G B d k := hX.mk hd h2 cY Y1 Y2
  have K0 : KRs Y G B k 0 0 Y := ⟨ChW.refl, fun _ => ⟨⟨Y6, fun i hi => absurd hi (Nat.not_lt_zero _), fun n hn => by
    obtain ⟨u1, u2, u3⟩ := y2 n hn
    rw [Yo _ _ (.inl rfl), Yo _ _ (.inl rfl), Yo _ _ (.inr rfl)]
    exact ⟨u1, u2, u3⟩⟩, Yb, Yf, fun i hi => absurd hi (Nat.not_lt_zero _), fun i hi => absurd hi (Nat.not_lt_zero _)⟩, fun q => absurd q (by show ¬ 150 < 0; omega)⟩
  refine WP_call (k_mk136 w wl hr hd hk M K0) (fun y35 h35 => ?_)
  refine WP_call (k_mk191 w wl hr hd hk M h35) (fun y45 h45 => ?_)
  obtain ⟨b1, b2, b3⟩ := h45
  have h245 : gR y45 198 2 = 344 + 22 * k := (b1.2.2.1 _ _).trans M.2.2.2.2.1
  have c45 : ChW (PGn k) S y45 := cY.tr b1 (fun a i => PGm_n)
  unfold mX22_forgetWires mX22_forgetTests mX22_forgetLayout
  simp only [h245, gk_chip hk, wf_eq, fR, bX_some]
  obtain ⟨Z, hZ⟩ : ∃ Z, Z = sI (sI (sI (sI (sI (sI (sI (sI y45 (344 + 22 * k) 11 0) (344 + 22 * k) 12 0) (344 + 22 * k) 13 0) (344 + 22 * k) 22 0) (344 + 22 * k) 16 0) (344 + 22 * k) 20 (-1)) (344 + 22 * k) 25 (-1)) (344 + 22 * k) 30 0 := ⟨_, rfl⟩
  rw [← hZ]
  have cZ : ChW (PGn k) S Z := by
    rw [hZ]
    exact (((((((c45.sI (pL _)).sI (pL _)).sI (pL _)).sI (pL _)).sI (pL _)).sI (pL _)).sI (pL _)).sI (pL _)
  have oZ : ∀ a i, ¬ (a = 344 + 22 * k ∧ 7 ≤ i) → gI Z a i = gI y45 a i := fun a i q => by
    have e : ∀ {T : Sto} {j v}, 7 ≤ j → gI (sI T (344 + 22 * k) j v) a i = gI T a i := fun {T j v} hj => by
      by_cases g : a = 344 + 22 * k
      · subst g; exact hI_sI_i (by omega)
      · exact hI_sI_a g
    rw [hZ, e (by omega), e (by omega), e (by omega), e (by omega), e (by omega), e (by omega), e (by omega), e (by omega)]
  have z25 : gI Z 198 25 = gI y45 198 25 := oZ _ _ (by omega)
  rw [z25]
  refine WP_some.2 ⟨cZ, fun q => ?_, fun q => ?_⟩
  · obtain ⟨a1, a2, a3, a4, a5⟩ := b2 q
    rw [a3]
    have m : ∀ i, i ≠ 6 → gI y45 (344 + 22 * k) i = gI Y (344 + 22 * k) i := fun i hi => b1.1 _ _ (fun g => by unfold PGm PGk at g; omega)
    refine ⟨rfl, ⟨?_, ?_, ?_, ?_, ?_⟩, a1.mv3 (fun a i g => oZ a i (by omega)), fun i hi => ?_, fun i hi => ?_, ?_, ?_, ?_, ?_, ?_, ?_, ?_, ?_⟩
    · rw [oZ _ _ (by omega), m _ (by omega)]; exact Y1
    · rw [oZ _ _ (by omega), m _ (by omega)]; exact Y2
    · rw [oZ _ _ (by omega), m _ (by omega)]; exact Y3
    · rw [oZ _ _ (by omega), m _ (by omega)]; exact Y4
    · rw [oZ _ _ (by omega), m _ (by omega)]; exact Y5
    · rw [oZ _ _ (by omega)]; exact a4 i hi
    · rw [oZ _ _ (by omega)]; exact a5 i hi
    · rw [hZ, hI_sI_i (by omega), hI_sI_i (by omega), hI_sI_i (by omega), hI_sI_i (by omega), hI_sI_i (by omega), hI_sI_i (by omega), hI_sI_i (by omega), gI_set]; rfl
    · rw [hZ, hI_sI_i (by omega), hI_sI_i (by omega), hI_sI_i (by omega), hI_sI_i (by omega), hI_sI_i (by omega), hI_sI_i (by omega), gI_set]; rfl
    · rw [hZ, hI_sI_i (by omega), hI_sI_i (by omega), hI_sI_i (by omega), hI_sI_i (by omega), hI_sI_i (by omega), gI_set]; rfl
    · rw [hZ, hI_sI_i (by omega), hI_sI_i (by omega), hI_sI_i (by omega), hI_sI_i (by omega), gI_set]; rfl
    · rw [hZ, hI_sI_i (by omega), hI_sI_i (by omega), hI_sI_i (by omega), gI_set]; rfl
    · rw [hZ, hI_sI_i (by omega), hI_sI_i (by omega), gI_set]; rfl
    · rw [hZ, hI_sI_i (by omega), gI_set]; rfl
    · rw [hZ, gI_set]; rfl
  · rw [b3 q]; rfl
end KMAKE3
