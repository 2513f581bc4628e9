/-! the class maps: the whole -/
def PKm (k a : Nat) : Prop := (198 ≤ a ∧ a ≤ 218) ∨ (344 + 22 * k ≤ a ∧ a ≤ 344 + 22 * k + 21)
/-- what may change, the references apart -/
def ChM (P : Nat → Prop) (S z : Sto) : Prop := (∀ a i, ¬ P a → gI z a i = gI S a i) ∧ (∀ a i, ¬ (198 ≤ a ∧ a ≤ 218) → gL z a i = gL S a i) ∧ nC z = nC S ∧ nS z = nS S
section KMAP2
variable {S z y : Sto} {G : Dsg} {B : Lib} {d n i k l p : Nat}
theorem ChM.refl {P : Nat → Prop} : ChM P S S := ⟨fun _ _ _ => rfl, fun _ _ _ => rfl, rfl, rfl⟩
theorem ChM.trW {P : Nat → Prop} {Q : Nat → Nat → Prop} (h : ChM P S z) (g : ChW Q z y) (e : ∀ a i, Q a i → P a) : ChM P S y := ⟨fun a i q => (g.1 a i (fun k => q (e a i k))).trans (h.1 a i q), fun a i q => (g.2.1 a i).trans (h.2.1 a i q), g.2.2.2.1.trans h.2.2.1, g.2.2.2.2.trans h.2.2.2⟩
theorem ChM.trC {P : Nat → Prop} {lo hi : Nat} (h : ChM P S z) (g : Ch lo hi z y) (e : ∀ a, lo ≤ a → a ≤ hi → P a ∧ 198 ≤ a ∧ a ≤ 218) : ChM P S y := ⟨fun a i q => (g.1 a i (by
  by_cases u : lo ≤ a ∧ a ≤ hi
  · exact (q (e a u.1 u.2).1).elim
  · omega)).trans (h.1 a i q), fun a i q => (g.2.1 a i (by
  by_cases u : lo ≤ a ∧ a ≤ hi
  · exact (q (e a u.1 u.2).2).elim
  · omega)).trans (h.2.1 a i q), g.2.2.2.1.trans h.2.2.1, g.2.2.2.2.trans h.2.2.2⟩
/-- nothing can be made -/
def NoM (G : Dsg) (B : Lib) : Prop := ¬ rOK G B ∨ (lInv B = -1 ∧ trlN G (nRt G))
theorem KSt.mv {m : Int} (h : KSt S m) (e : ∀ a i, a = 213 ∨ (a = 198 ∧ i = 20) → gI z a i = gI S a i) : KSt z m := by
  obtain ⟨h1, h2, h3⟩ := h
  unfold KSt
  rw [e 198 20 (.inr ⟨rfl, rfl⟩)]
  exact ⟨h1, h2, fun x hx => by rw [e 213 x (.inl rfl)]; exact h3 x hx⟩
theorem k_map (w : WFG G) (wl : WFL B) (hd : d < 6) (hl : l < 3) (hk : k < 4) (rG : RepG S (273 + 9 * d) G) (rL : RepL S (328 + 5 * l) B) {m0 : Int} (hm0 : m0 ≤ 800000000) (hst : KSt S m0) :
    WP (mX12_map S (273 + 9 * d) (328 + 5 * l) (344 + 22 * k)) (fun y => ChM (PKm k) S y.2 ∧ KSt y.2 (m0 + 63 * (1000 : Int)) ∧ (NoM G B → y.1 = -1) ∧ (¬ NoM G B → 150 < (rtS G B (nRt G)).1.length → y.1 = -2) ∧ (¬ NoM G B → (rtS G B (nRt G)).1.length ≤ 150 → y.1 = 0 ∧ KCh y.2 G B k ∧ RepL y.2 (344 + 22 * k + 1) B)) := by
  have hno := no_le w
  have ng := w.nums
  unfold mX12_map
  rw [wfR_eq, wfR_eq]
  obtain ⟨S2, hS2⟩ : ∃ S2, S2 = sR (sR S 198 0 (273 + 9 * d)) 198 2 (344 + 22 * k) := ⟨_, rfl⟩
  rw [← hS2]
  have c2 : ChM (PKm k) S S2 := by rw [hS2]; exact ChM.refl
  have i2 : ∀ a i, gI S2 a i = gI S a i := fun a i => by rw [hS2]; rfl
  have r0 : gR S2 198 0 = 273 + 9 * d := by rw [hS2]; rfl
  have r2 : gR S2 198 2 = 344 + 22 * k := by rw [hS2]; rfl
  have rL2 : RepL S2 (328 + 5 * l) B := rL.cg (fun a i _ _ => i2 a i)
  rw [r2, gk_chip hk]
  refine WP_call (k_copy wl hk hl rL2) (fun x4 h4 => ?_)
  obtain ⟨q1, q2⟩ := h4
  have c4 : ChM (PKm k) S x4 := c2.trW q2 (fun a i g => by unfold PKm; omega)
  have r24 : gR x4 198 2 = 344 + 22 * k := (q2.2.2.1 _ _).trans r2
  have r04 : gR x4 198 0 = 273 + 9 * d := (q2.2.2.1 _ _).trans r0
  rw [r24, gk_chip hk, wfR_eq]
  obtain ⟨S6, hS6⟩ : ∃ S6, S6 = sR x4 198 1 (344 + 22 * k + 1) := ⟨_, rfl⟩
  rw [← hS6]
  have c6 : ChM (PKm k) S S6 := by rw [hS6]; exact c4
  have r16 : gR S6 198 1 = 344 + 22 * k + 1 := by rw [hS6]; rfl
  have r26 : gR S6 198 2 = 344 + 22 * k := by rw [hS6]; exact r24
  have r06 : gR S6 198 0 = 273 + 9 * d := by rw [hS6]; exact r04
  have q6 : RepL S6 (344 + 22 * k + 1) B := by rw [hS6]; exact q1
  rw [r16, gk_own hk, k_inverter q6 wl, bX_some, wf_eq]
  obtain ⟨S9, hS9⟩ : ∃ S9, S9 = sI S6 198 3 (lInv B) := ⟨_, rfl⟩
  rw [← hS9]
  have r' : -1 ≤ lInv B ∧ lInv B < (liN B : Int) := lInvN_rng (B := B) (n := liN B)
  have hn := wl.nums
  have w9 : ChW (fun a i => a = 198 ∧ i = 3) S6 S9 := by rw [hS9]; exact ChW.refl.sI ⟨rfl, rfl⟩
  have c9 : ChM (PKm k) S S9 := c6.trW w9 (fun a i g => by unfold PKm; omega)
  have L9 : KLx S9 k B := ⟨(w9.2.2.1 _ _).trans r16, q6.cg (fun a i l1 l2 => w9.1 _ _ (by omega)), by rw [hS9, gI_set, w32_id (by omega)]⟩
  refine WP_call (k_arrM L9 wl hk) (fun x10 h10 => ?_)
  obtain ⟨p10, w10⟩ := h10
  have c10 : ChM (PKm k) S x10 := c9.trW w10 (fun a i g => by unfold PKm; omega)
  have G10 : KGx x10 d G := ⟨(w10.2.2.1 _ _).trans ((w9.2.2.1 _ _).trans r06), rG.cg (fun a i l1 l2 => c10.1 _ _ (by unfold PKm; omega))⟩
  refine WP_call (k_survey G10 w hd) (fun x11 h11 => ?_)
  obtain ⟨w11, e11⟩ := h11
  have c11 : ChM (PKm k) S x11 := c10.trC w11 (fun a l1 l2 => by unfold PKm; omega)
  have G11 : KGx x11 d G := ⟨(w11.2.2.1 _ _).trans G10.1, rG.cg (fun a i l1 l2 => c11.1 _ _ (by unfold PKm; omega))⟩
  have L11 : KLx x11 k B := by
    have L10 := L9.cw w10 (fun a i g => by omega)
    exact L10.mv (fun a i l1 l2 => w11.1 _ _ (by omega)) (w11.2.2.1 _ _) (w11.1 _ _ (by omega))
  have P11 : PlD x11 B (liN B) := fun c o tu h1 h2 h3 => (w11.1 _ _ (by omega)).trans (p10 c o tu h1 h2 h3)
  have X11 : KMx x11 G B d k (gFi G) := ⟨G11, L11, e11.2.1, e11.2.2, P11, fun x hx l => absurd hx.1 (by omega)⟩
  have T11 : KSt x11 m0 := hst.mv (fun a i g => by
    rw [w11.1 _ _ (by omega), w10.1 _ _ (by omega), w9.1 _ _ (by omega), hS6]
    show gI x4 a i = _
    rw [q2.1 _ _ (by omega), i2])
  have r211 : gR x11 198 2 = 344 + 22 * k := (w11.2.2.1 _ _).trans ((w10.2.2.1 _ _).trans ((w9.2.2.1 _ _).trans r26))
  rw [G11.1, gk_dsg hd, k_first G11.2 w, bX_some]
  have lift : ∀ {u v : Sto}, ChW PWb u v → ∀ a, ¬ PKm k a → ∀ i, gI v a i = gI u a i := fun h a q i => h.1 _ _ (fun ⟨m, g⟩ => q (by unfold PWa PWn PCu PFn at g; unfold PKm; omega))
  have pw : ∀ a i, PWb a i → PKm k a := fun a i ⟨m, g⟩ => by unfold PWa PWn PCu PFn at g; unfold PKm; omega
  refine WP_bE.2 ((k_mp60 w wl hd hk X11 (fun n hn => (e11.1 n hn).1) hm0 T11).mono (fun x hx => ?_))
  rcases x with x | x
  case inr =>
    obtain ⟨x1, x2, x3, x4⟩ := hx
    exact ⟨c11.trW x4 pw, x3, fun _ => x2, fun g => (g (.inl x1)).elim, fun g => (g (.inl x1)).elim⟩
  case inl =>
    obtain ⟨hr, X21, T21, w21⟩ := hx
    have c21 : ChM (PKm k) S x := c11.trW w21 pw
    have e3 := X21.2.1.2.2
    show WP (bX (lpF (mX12_map_L126 x) (0, 0)) _) _
    refine WP_call (k_mp126 w hd X21.1) (fun y29 h29 => ?_)
    subst h29
    refine WP_call (k_mp173 w hd X21.1) (fun y37 h37 => ?_)
    subst h37
    rw [e3, w32_id (x := lInv B) (by omega)]
    by_cases b : lInv B = -1 ∧ trlN G (nRt G)
    · rw [bo_t b.2, if_pos (by decide), if_pos b.1, bX_some, if_pos rfl]
      exact WP_some.2 ⟨c21, T21, fun _ => rfl, fun g => (g (.inr b)).elim, fun g => (g (.inr b)).elim⟩
    · have nm : ¬ NoM G B := fun g => g.elim (fun h => h hr) b
      have hc : (bX (if ¬ w32 (bo (trlN G (nRt G)) : Int) = 0 then if lInv B = -1 then some true else some false else some false) fun b => if b = true then some ((-1 : Int), x) else bX (mX12_make x) fun x38 => some (x38.1, x38.2)) = bX (mX12_make x) fun x38 => some (x38.1, x38.2) := by
        by_cases t : trlN G (nRt G)
        · rw [bo_t t, if_pos (by decide), if_neg (fun q => b ⟨q, t⟩), bX_some, if_neg (by decide)]
        · rw [bo_f t, if_neg (by decide), bX_some, if_neg (by decide)]
      rw [hc]
      have r221 : gR x 198 2 = 344 + 22 * k := (w21.2.2.1 _ _).trans r211
      refine WP_call (k_make w wl hr hd hk X21 r221) (fun y hy => ?_)
      obtain ⟨y1, y2, y3⟩ := hy
      refine WP_some.2 ⟨c21.trW y1 (fun a i g => by unfold PGn at g; unfold PKm; omega), T21.mv (fun a i g => y1.1 _ _ (fun q => by unfold PGn at q; omega)), fun g => (nm g).elim, fun _ g => y3 g, fun _ g => ?_⟩
      obtain ⟨u1, u2⟩ := y2 g
      exact ⟨u1, u2, X21.2.1.2.1.cg (fun a i l1 l2 => y1.1 _ _ (fun q => by unfold PGn at q; omega))⟩
end KMAP2
