/-! a library is read: the class -/
def PCl (L : Nat) (a i : Nat) : Prop := (a = 185 ∧ 2 ≤ i ∧ i ≤ 10) ∨ (186 ≤ a ∧ a ≤ 191) ∨ (L ≤ a ∧ a ≤ L + 4)
def RwL (S : Sto) (L : Nat) (rs : List Row4) : Prop := gI S L 0 = (rs.length : Int) ∧ ∀ i, i < rs.length → gI S (L + 1) i = (rs.getD i (0, 0, 0, 0)).1 ∧ gI S (L + 2) i = (rs.getD i (0, 0, 0, 0)).2.1 ∧ gI S (L + 3) i = (rs.getD i (0, 0, 0, 0)).2.2.1 ∧ gI S (L + 4) i = (rs.getD i (0, 0, 0, 0)).2.2.2
theorem getD_appR {rs : List Row4} {r d : Row4} {i : Nat} (h : i < rs.length) : (rs ++ [r]).getD i d = rs.getD i d := by
  rw [List.getD_eq_getElem?_getD, List.getD_eq_getElem?_getD, List.getElem?_append_left h]
theorem getD_lastR {rs : List Row4} {r d : Row4} : (rs ++ [r]).getD rs.length d = r := by
  rw [List.getD_eq_getElem?_getD, List.getElem?_append_right (Nat.le_refl _), Nat.sub_self]; rfl
theorem mask_k {v : Int} {m : Nat} (h : 1 ≤ m ∧ m ≤ 3) : aAnd v (aShl 1 (aShl 1 (m : Int)) - 1) = v % ((2 ^ (2 ^ m) : Nat) : Int) := by
  have e : m = 1 ∨ m = 2 ∨ m = 3 := by omega
  rcases e with e | e | e <;> subst e
  · have z : aShl 1 (aShl 1 ((1 : Nat) : Int)) - 1 = ((2 ^ 2 : Nat) - 1 : Int) := by decide
    rw [z]; exact aAnd_mask v (by omega)
  · have z : aShl 1 (aShl 1 ((2 : Nat) : Int)) - 1 = ((2 ^ 4 : Nat) - 1 : Int) := by decide
    rw [z]; exact aAnd_mask v (by omega)
  · have z : aShl 1 (aShl 1 ((3 : Nat) : Int)) - 1 = ((2 ^ 8 : Nat) - 1 : Int) := by decide
    rw [z]; exact aAnd_mask v (by omega)
def kT3 (y30 : Int × Sto) : Option Sto := bX (mX10_number y30.2 1000) fun x31 => bX (mX10_number x31.2 100) fun x32 => bX (mX3_take x32.2 185 59) fun x33 => bX (mX3_ok x33 185) fun x34 => if w32 x34 = 0 then some x33 else gk (gR x33 184 3) 21 fun g35 => wf x33 g35 0 ((gI x33 g35 0) + 1) fun S36 => gk (gR S36 184 3) 21 fun g37 => wrI 12 S36 (g37 + 1) (gI x33 g35 0) (gI S36 189 2) fun S38 => gk (gR S38 184 3) 21 fun g39 => wrI 12 S38 (g39 + 2) (gI x33 g35 0) (aAnd y30.1 ((aShl 1 (aShl 1 (gI S38 189 2))) - 1)) fun S40 => gk (gR S40 184 3) 21 fun g41 => wrI 12 S40 (g41 + 3) (gI x33 g35 0) x31.1 fun S42 => gk (gR S42 184 3) 21 fun g43 => wrI 12 S42 (g43 + 4) (gI x33 g35 0) x32.1 fun S44 => some S44
def kT1 (y25 : Sto) : Option Sto := bX (mX3_take y25 185 41) fun x26 => bX (mX3_take x26 185 61) fun x27 => bX (mX3_ok x27 185) fun x28 => bX (if ¬ w32 x28 = 0 then bX (mX10_or 64 x27) fun x29 => some (x29.1, x29.2) else some (0, x27)) fun y30 => kT3 y30
def kT0 (x18 : Sto) : Option Sto := wf x18 189 2 0 fun S19 => bX (mX10_pin S19) fun x20 => bX (lpF (mX10_cell_L179) x20) fun y25 => kT1 y25
section KRD
variable {S : Sto} {u : Nat → Int} {n N L : Nat} {ps cs : List Nat} {rs : List Row4} {q : Qq}
theorem PS_PCl : ∀ a i, PSc 185 a i → PCl L a i := fun a i q => by unfold PSc at q; unfold PCl; omega
theorem PCi_PCl : ∀ a i, PCi a i → PCl L a i := fun a i q => by unfold PCi at q; unfold PCl; omega
theorem PEx_PCi : ∀ a i, PEx a i → PCi a i := fun a i q => by unfold PEx at q; unfold PCi; omega
theorem TpK.cl (t : TpK S 185 u n) (hL : 300 ≤ L) {y : Sto} (g : ChW (PCl L) S y) : TpK y 185 u n := t.ch g (fun q => by unfold PCl at q; omega) (fun i q => by unfold PCl at q; omega)
theorem kT3_f {y : Int × Sto} {f : Int × Int} (t : TpK y.2 185 u n) (h : ScQ u n y.2 185 (.inr f)) : WP (kT3 y) (fun z => ScQ u n z 185 (.inr f) ∧ ChW PCi y.2 z) := by
  unfold kT3
  refine WP_call (k_number3 t h (by decide)) (fun a ha => ?_)
  refine WP_call (k_number3 (t.chS ha.2.1) ha.1 (by decide)) (fun b hb => ?_)
  have cb := ha.2.1.tr hb.2.1 (fun _ _ q => q)
  refine WP_call (k_take3 (t.chS cb) hb.1 (by decide)) (fun c hc => ?_)
  have sc : ScQ u n c 185 (.inr f) := hc.1
  rw [k_ok sc, bX_some, bIf2, if_neg (fun z => by cases z)]
  exact WP_some.2 ⟨sc, ChW.refl.tr (cb.tr hc.2 (fun _ _ q => q)) PS_PCi⟩
theorem kT1_f {y : Sto} {f : Int × Int} (t : TpK y 185 u n) (h : ScQ u n y 185 (.inr f)) : WP (kT1 y) (fun z => ScQ u n z 185 (.inr f) ∧ ChW PCi y z) := by
  unfold kT1
  refine WP_call (k_take3 t h (by decide)) (fun a ha => ?_)
  refine WP_call (k_take3 (t.chS ha.2) ha.1 (by decide)) (fun b hb => ?_)
  have cb := ha.2.tr hb.2 (fun _ _ q => q)
  have sb : ScQ u n b 185 (.inr f) := hb.1
  rw [k_ok sb, bX_some, bIf, if_neg (fun z => by cases z), bX_some]
  refine (kT3_f (y := (0, b)) (t.chS cb) sb).mono (fun z hz => ⟨hz.1, (ChW.refl.tr cb PS_PCi).tr hz.2 (fun _ _ q => q)⟩)
theorem kT0_f {y : Sto} {f : Int × Int} (t : TpK y 185 u n) (h : ScQ u n y 185 (.inr f)) : WP (kT0 y) (fun z => ScQ u n z 185 (.inr f) ∧ ChW PCi y z) := by
  unfold kT0
  rw [wf_eq]
  have c0 : ChW PCi y (sI y 189 2 0) := ChW.refl.sI (Or.inr ⟨by omega, by omega⟩)
  have s0 : ScQ u n (sI y 189 2 0) 185 (.inr f) := h.cg (fun i _ _ => hI_sI_a (by omega))
  have n0 : NmK u n (sI y 189 2 0) 189 [] := ⟨by rw [gI_sI_eq]; rfl, fun i hi => absurd hi (by simp), fun i hi => absurd hi (by simp)⟩
  refine WP_call (k_pin (t.ci c0) s0 n0 (by decide)) (fun a ha => ?_)
  have sa : ScQ u n a 185 (.inr f) := ha.1
  refine WP_call (k_pins_f t.u sa) (fun b hb => ?_)
  subst hb
  have cb := c0.tr ha.2.1 (fun _ _ q => q)
  exact (kT1_f (t.ci cb) sa).mono (fun z hz => ⟨hz.1, cb.tr hz.2 (fun _ _ q => q)⟩)
theorem RwL.ch (h : RwL S L rs) {P : Nat → Nat → Prop} {y : Sto} (g : ChW P S y) (e : ∀ a i, L ≤ a → a ≤ L + 4 → ¬ P a i) : RwL y L rs := by
  refine ⟨(g.1 _ _ (e _ _ (by omega) (by omega))).trans h.1, fun i hi => ?_⟩
  rw [g.1 _ _ (e _ _ (by omega) (by omega)), g.1 _ _ (e _ _ (by omega) (by omega)), g.1 _ _ (e _ _ (by omega) (by omega)), g.1 _ _ (e _ _ (by omega) (by omega))]
  exact h.2 i hi
theorem gk_L {τ : Type} (hL : ∃ k, k < 3 ∧ L = 328 + 5 * k) (h : gR S 184 3 = L) {f : Nat → Option τ} : gk (gR S 184 3) 21 f = f L := by
  obtain ⟨k, hk, e⟩ := hL
  rw [h, e, gk_lib hk]
/-- numbers and the row's end -/
theorem kT3_ok {y : Int × Sto} {v : Int} {j5 : Nat} (hL : ∃ k, k < 3 ∧ L = 328 + 5 * k) (t : TpK y.2 185 u n) (h : ScQ u n y.2 185 (.inl j5)) (e1 : y.1 = v) (er : gR y.2 184 3 = L) (nm : NmK u n y.2 189 ps) (hp : 1 ≤ ps.length ∧ ps.length ≤ 3) (rw0 : RwL y.2 L rs) (hr : rs.length < 12) :
    WP (kT3 y) (fun z => ChW (PCl L) y.2 z ∧ gI z 185 10 = gI y.2 185 10 ∧ ((∃ f, posT u n (.inl j5) = .inr f ∧ ScQ u n z 185 (.inr f)) ∨ ∃ j8, posT u n (.inl j5) = .inl j8 ∧ ScQ u n z 185 (.inl j8) ∧ RwL z L (rs ++ [rowC u n ps v j5]) ∧ ∀ i, gI z 186 i = gI y.2 186 i ∧ gI z 187 i = gI y.2 187 i ∧ gI z 188 i = gI y.2 188 i)) := by
  have hL0 := hL
  obtain ⟨k, hk, eL⟩ := hL
  unfold kT3
  refine WP_call (k_number3 t h (by decide)) (fun a ha => ?_)
  obtain ⟨a1, a2, a3⟩ := ha
  refine WP_call (k_number3 (t.chS a2) a1 (by decide)) (fun b hb => ?_)
  obtain ⟨b1, b2, b3⟩ := hb
  have cb := a2.tr b2 (fun _ _ q => q)
  refine WP_call (k_take3 (t.chS cb) b1 (by decide)) (fun c hc => ?_)
  obtain ⟨c1, c2⟩ := hc
  have cc : ChW (PSc 185) y.2 c := cb.tr c2 (fun _ _ q => q)
  have c1 : ScQ u n c 185 (posT u n (.inl j5)) := c1
  have c10 : gI c 185 10 = gI y.2 185 10 := cc.1 _ _ (fun q => by unfold PSc at q; omega)
  rw [k_ok c1, bX_some, bIf2]
  cases eP : posT u n (.inl j5) with
  | inr f =>
    rw [eP] at c1
    rw [if_neg (fun z => by cases z)]
    exact WP_some.2 ⟨ChW.refl.tr cc PS_PCl, c10, Or.inl ⟨f, rfl, c1⟩⟩
  | inl j8 =>
    rw [eP] at c1
    rw [show okQ (.inl j8) = true from rfl, if_pos rfl]
    obtain ⟨w, hw, e8, k1, k2, k3, k4, k5, v1, v2, v3, v4⟩ := posT_inl eP
    injection hw with hw; subst hw
    obtain ⟨z1, hz1, hz2, hz3⟩ := tkT_inq eP
    obtain ⟨z2, hz4, _, hz5, _⟩ := numT_inl hz1
    have ea : a.1 = tkV u n (j5 + 1) := a3 j5 z2 rfl hz4
    obtain ⟨z3, hz6, _, hz7, _⟩ := numT_inl hz4
    injection hz6 with hz6
    have eb : b.1 = tkV u n (j5 + 3) := by
      have := b3 z2 z1 hz4 hz1
      rw [this, hz7, ← hz6]
    have g0 : gR c 184 3 = L := by rw [cc.2.2.1]; exact er
    have gL0 : gI c L 0 = (rs.length : Int) := by rw [cc.1 _ _ (fun q => by unfold PSc at q; omega)]; exact rw0.1
    have gP : gI c 189 2 = (ps.length : Int) := by rw [cc.1 _ _ (fun q => by unfold PSc at q; omega)]; exact nm.c
    have rwc : RwL c L rs := rw0.ch cc (fun a i h1 h2 q => by unfold PSc at q; omega)
    have hm := mask_k (v := v) hp
    have hmr : 0 ≤ v % ((2 ^ (2 ^ ps.length) : Nat) : Int) ∧ v % ((2 ^ (2 ^ ps.length) : Nat) : Int) < 256 := by
      have e : ps.length = 1 ∨ ps.length = 2 ∨ ps.length = 3 := by omega
      have hpos : (0 : Int) < ((2 ^ (2 ^ ps.length) : Nat) : Int) := Int.natCast_pos.2 (Nat.two_pow_pos _)
      have h1 := Int.emod_nonneg v (show ((2 ^ (2 ^ ps.length) : Nat) : Int) ≠ 0 by omega)
      have h2 := Int.emod_lt_of_pos v hpos
      have h3 : ((2 ^ (2 ^ ps.length) : Nat) : Int) ≤ 256 := by rcases e with e | e | e <;> rw [e] <;> decide
      omega
    have gk1 : ∀ {τ : Type} {f : Nat → Option τ}, gk L 21 f = f L := fun {_ f} => by have := gk_L hL0 g0 (f := f); rw [g0] at this; exact this
    rw [g0, gk1, gL0, wf_eq]
    simp only [gR_sI]
    rw [g0, gk1, hI_sI_a (show (189 : Nat) ≠ L by omega), gP, wrI_e (by omega), Int.toNat_natCast]
    simp only [gR_sI]
    rw [g0, gk1, hI_sI_a (show (189 : Nat) ≠ L + 1 by omega), hI_sI_a (show (189 : Nat) ≠ L by omega), gP, e1, hm, wrI_e (by omega), Int.toNat_natCast]
    simp only [gR_sI]
    rw [g0, gk1, wrI_e (by omega), Int.toNat_natCast]
    simp only [gR_sI]
    rw [g0, gk1, wrI_e (by omega), Int.toNat_natCast, ea, eb]
    refine WP_some.2 ⟨?_, ?_, Or.inr ⟨j8, rfl, ?_, ⟨?_, fun i hi => ?_⟩, fun i => ⟨?_, ?_, ?_⟩⟩⟩
    · exact (((((ChW.refl.tr cc PS_PCl).sI (Or.inr (Or.inr (by omega)))).sI (Or.inr (Or.inr (by omega)))).sI (Or.inr (Or.inr (by omega)))).sI (Or.inr (Or.inr (by omega)))).sI (Or.inr (Or.inr (by omega)))
    · rw [hI_sI_a (by omega), hI_sI_a (by omega), hI_sI_a (by omega), hI_sI_a (by omega), hI_sI_a (by omega)]; exact c10
    · exact c1.cg (fun i _ _ => by rw [hI_sI_a (by omega), hI_sI_a (by omega), hI_sI_a (by omega), hI_sI_a (by omega), hI_sI_a (by omega)])
    · rw [hI_sI_a (by omega), hI_sI_a (by omega), hI_sI_a (by omega), hI_sI_a (by omega), gI_sI_eq, w32_id (by omega), List.length_append]; rfl
    · rw [List.length_append] at hi
      have hi : i < rs.length + 1 := hi
      by_cases g : i = rs.length
      · subst g
        rw [getD_lastR]
        refine ⟨?_, ?_, ?_, ?_⟩
        · rw [hI_sI_a (by omega), hI_sI_a (by omega), hI_sI_a (by omega), gI_sI_eq, w32_id (by omega)]; rfl
        · rw [hI_sI_a (by omega), hI_sI_a (by omega), gI_sI_eq, w32_id (by omega)]; rfl
        · rw [hI_sI_a (by omega), gI_sI_eq, w32_id (by omega)]; rfl
        · rw [gI_sI_eq, w32_id (by omega)]; rfl
      · rw [getD_appR (by omega)]
        obtain ⟨q1, q2, q3, q4⟩ := rwc.2 i (by omega)
        refine ⟨?_, ?_, ?_, ?_⟩
        · rw [hI_sI_a (by omega), hI_sI_a (by omega), hI_sI_a (by omega), hI_sI_i g, hI_sI_a (by omega)]; exact q1
        · rw [hI_sI_a (by omega), hI_sI_a (by omega), hI_sI_i g, hI_sI_a (by omega), hI_sI_a (by omega)]; exact q2
        · rw [hI_sI_a (by omega), hI_sI_i g, hI_sI_a (by omega), hI_sI_a (by omega), hI_sI_a (by omega)]; exact q3
        · rw [hI_sI_i g, hI_sI_a (by omega), hI_sI_a (by omega), hI_sI_a (by omega), hI_sI_a (by omega)]; exact q4
    · rw [hI_sI_a (by omega), hI_sI_a (by omega), hI_sI_a (by omega), hI_sI_a (by omega), hI_sI_a (by omega)]; exact cc.1 _ _ (fun q => by unfold PSc at q; omega)
    · rw [hI_sI_a (by omega), hI_sI_a (by omega), hI_sI_a (by omega), hI_sI_a (by omega), hI_sI_a (by omega)]; exact cc.1 _ _ (fun q => by unfold PSc at q; omega)
    · rw [hI_sI_a (by omega), hI_sI_a (by omega), hI_sI_a (by omega), hI_sI_a (by omega), hI_sI_a (by omega)]; exact cc.1 _ _ (fun q => by unfold PSc at q; omega)
def CtL (u : Nat → Int) (n : Nat) (L : Nat) (cs : List Nat) (rs : List Row4) (S : Sto) : Prop := TpK S 185 u n ∧ NmK u n S 186 cs ∧ gR S 184 3 = L ∧ RwL S L rs ∧ cs.length = rs.length ∧ rs.length ≤ 12 ∧ gI S 185 10 = 0
theorem CtL.t (h : CtL u n L cs rs S) : TpK S 185 u n := h.1
theorem CtL.m (h : CtL u n L cs rs S) : NmK u n S 186 cs := h.2.1
theorem CtL.r (h : CtL u n L cs rs S) : gR S 184 3 = L := h.2.2.1
theorem CtL.w (h : CtL u n L cs rs S) : RwL S L rs := h.2.2.2.1
theorem CtL.l (h : CtL u n L cs rs S) : cs.length = rs.length := h.2.2.2.2.1
theorem CtL.b (h : CtL u n L cs rs S) : rs.length ≤ 12 := h.2.2.2.2.2.1
theorem CtL.o (h : CtL u n L cs rs S) : gI S 185 10 = 0 := h.2.2.2.2.2.2
theorem PF_PCl : ∀ a i, PF89 185 a i → PCl L a i := fun a i q => by unfold PF89 at q; unfold PCl; omega
theorem chT_inr {lim : Nat} {q0 : Qq} {f : Int × Int} (h : chT u n lim ps q0 = .inr f) : newT u n lim ps q0 = .inr f := by unfold newT; rw [h]; rfl
/-- the head of a cell, whatever comes -/
theorem k_cell0 (hL : ∃ k, k < 3 ∧ L = 328 + 5 * k) (C : CtL u n L cs rs S) (h : ScQ u n S 185 q) {P : Sto → Prop}
    (hf : ∀ y f, chT u n 12 cs (wT u n 7 q) = .inr f → ScQ u n y 185 (.inr f) → ChW (PSc 185) S y → P y)
    (hk : ∀ x jn, chT u n 12 cs (wT u n 7 q) = .inl jn → ScQ u n x 185 (preT u n cs q) → ChW (PCl L) S x → TpK x 185 u n → NmK u n x 186 (cs ++ [jn]) → gR x 184 3 = L → RwL x L rs → gI x 185 10 = 0 → WP (kT0 x) P) : WP (mX10_cell S) P := by
  obtain ⟨kk, hkk, eL⟩ := hL
  have t := C.t
  have hn := t.b
  have pp : ∀ a i, PSc 185 a i → PSc 185 a i := fun _ _ q => q
  have pf : ∀ a i, PF89 185 a i → PSc 185 a i := fun a i q => by unfold PF89 at q; unfold PSc; omega
  unfold mX10_cell
  rw [k_isWord h (by decide), bX_some]
  refine WP_call (k_must h hn) (fun y hy => ?_)
  obtain ⟨y1, y2⟩ := hy
  have cy : ChW (PSc 185) S y := ChW.refl.tr y2 pf
  refine WP_call (k_next3 (t.chS cy) y1) (fun z hz => ?_)
  obtain ⟨z1, z2⟩ := hz
  have cz : ChW (PSc 185) S z := cy.tr z2 pp
  have z1 : ScQ u n z 185 (wT u n 7 q) := by
    have e : bq (muT u n (isWq u n 7 q) q) (nxT u n) = wT u n 7 q := by
      cases q with
      | inr e => rfl
      | inl j =>
        unfold muT bq isWq wT bq flT
        dsimp only
        by_cases g : tkK u n j = 6 ∧ tkV u n j = 7
        · rw [if_pos (decide_eq_true g), if_pos g]
        · rw [if_neg (fun q => g (of_decide_eq_true q)), if_neg g]
    rw [e] at z1; exact z1
  have nz : NmK u n z 186 cs := C.m.ch cz (fun q => by unfold PSc at q; omega) (fun i q => by unfold PSc at q; omega) (fun i q => by unfold PSc at q; omega)
  have hcl := C.l
  have hcb := C.b
  have gz : gR z 184 3 = L := by rw [cz.2.2.1]; exact C.r
  have wz : RwL z L rs := C.w.ch cz (fun a i h1 h2 q => by unfold PSc at q; omega)
  refine k_chkN (ps := cs) (lim := 12) (fnd := fun x5 => bX (mX4_find x5 186 185) fun x7 => if ¬ w32 x7 = (-1) then some true else some false) (cnt := fun y9 => gk (gR y9 184 3) 21 fun g11 => if w32 (gI y9 g11 0) = 12 then some true else some false) (k := fun y13 => bX (mX3_ok y13 185) fun x14 => if w32 x14 = 0 then some y13 else bX (mX4_hold y13 186 185) fun x15 => wf x15 186 2 ((gI x15 186 2) + 1) fun S16 => bX (mX3_next S16 185) fun x17 => bX (mX3_take x17 185 40) fun x18 => kT0 x18) hn z1 (fun y j e1 e2 e3 e4 => ?_) (fun y e4 => ?_) (fun y e3 e4 => ?_)
  · have cy' : ChW (PSc 185) z y := ChW.refl.tr e4 pf
    exact find_b ((t.chS cz).chS cy') e3 e2 (nz.ch e4 (fun q => by unfold PF89 at q; omega) (fun i q => by unfold PF89 at q; omega) (fun i q => by unfold PF89 at q; omega)) (M := 13) (by omega) (by omega) (by decide) (by decide)
  · rw [gk_L ⟨kk, hkk, eL⟩ (by rw [e4.2.2.1]; exact gz), e4.1 L 0 (fun q => by unfold PF89 at q; omega), wz.1, w32_id (by omega)]
    by_cases e : cs.length = 12
    · rw [if_pos (by omega), decide_eq_true e]
    · rw [if_neg (by omega), decide_eq_false e]
  · have cy' : ChW (PSc 185) S y := cz.tr e4 pf
    have ty := t.chS cy'
    have nmy : NmK u n y 186 cs := nz.ch e4 (fun q => by unfold PF89 at q; omega) (fun i q => by unfold PF89 at q; omega) (fun i q => by unfold PF89 at q; omega)
    rw [k_ok e3, bX_some, bIf2]
    cases hq : chT u n 12 cs (wT u n 7 q) with
    | inr f =>
      rw [hq] at e3
      rw [if_neg (fun z => by cases z)]
      exact WP_some.2 (hf y f hq e3 cy')
    | inl jn =>
      rw [hq] at e3
      obtain ⟨c1, c2, c3, c4⟩ := chT_inl hq
      have en : newT u n 12 cs (wT u n 7 q) = nxT u n jn := by unfold newT; rw [hq]; rfl
      rw [show okQ (.inl jn) = true from rfl, if_pos rfl]
      refine WP_call (k_holdN ty e3 c2 nmy (N := 13) (by omega) (by omega) (by decide) (by decide) (by omega)) (fun v hv => ?_)
      obtain ⟨v1, v2, v3⟩ := hv
      have vc : gI v 186 2 = (cs.length : Int) := by rw [v3.1 _ _ (fun q => by unfold PNm at q; omega)]; exact nmy.c
      rw [wf_eq, vc]
      generalize hw : sI v 186 2 ((cs.length : Int) + 1) = w
      have cw : ChW (PCl L) S w := by rw [← hw]; exact ((ChW.refl.tr cy' PS_PCl).tr v3 (fun a i q => by unfold PNm at q; unfold PCl; omega)).sI (Or.inr (Or.inl ⟨by omega, by omega⟩))
      have sw : ScQ u n w 185 (.inl jn) := by rw [← hw]; exact (e3.ch v3 (fun i _ _ q => by unfold PNm at q; omega)).cg (fun i _ _ => hI_sI_a (by omega))
      have tw : TpK w 185 u n := t.cl (by omega) cw
      have nw : NmK u n w 186 (cs ++ [jn]) := by
        refine nmy.put c2 (fun i hi => (v1 i hi).cg ?_ (fun t => ?_)) (v2.cg ?_ (fun t => ?_)) ?_
        · rw [← hw, hI_sI_a (by omega)]
        · rw [← hw, hI_sI_a (by omega)]
        · rw [← hw, hI_sI_a (by omega)]
        · rw [← hw, hI_sI_a (by omega)]
        · rw [← hw, gI_sI_eq, w32_id (by omega)]; omega
      refine WP_call (k_next3 tw sw) (fun a ha => ?_)
      refine WP_call (k_take3 (tw.chS ha.2) ha.1 (by decide)) (fun b hb => ?_)
      have cab : ChW (PSc 185) w b := ha.2.tr hb.2 pp
      have cb : ChW (PCl L) S b := cw.tr cab PS_PCl
      have ww : RwL w L rs := by
        rw [← hw]
        have h1 : RwL v L rs := (C.w.ch cy' (fun a i h1 h2 q => by unfold PSc at q; omega)).ch v3 (fun a i h1 h2 q => by unfold PNm at q; omega)
        exact h1.ch (ChW.refl.sI (P := fun a i => a = 186) rfl) (fun a i h1 h2 q => by omega)
      have w10 : gI w 185 10 = 0 := by rw [← hw, hI_sI_a (by omega), v3.1 _ _ (fun q => by unfold PNm at q; omega), cy'.1 _ _ (fun q => by unfold PSc at q; omega)]; exact C.o
      refine hk b jn hq ?_ cb (tw.chS cab) (nw.ch cab (fun q => by unfold PSc at q; omega) (fun i q => by unfold PSc at q; omega) (fun i q => by unfold PSc at q; omega)) (by rw [cb.2.2.1]; exact C.r) (ww.ch cab (fun a i h1 h2 q => by unfold PSc at q; omega)) (by rw [cab.1 _ _ (fun q => by unfold PSc at q; omega)]; exact w10)
      have hb1 := hb.1
      unfold preT
      rw [en]
      exact hb1
theorem k_cell_f {f : Int × Int} (hL : ∃ k, k < 3 ∧ L = 328 + 5 * k) (C : CtL u n L cs rs S) (h : ScQ u n S 185 (.inr f)) : WP (mX10_cell S) (fun y => ScQ u n y 185 (.inr f) ∧ ChW (PSc 185) S y) := by
  refine k_cell0 hL C h (fun y g e1 e2 e3 => ?_) (fun x jn e => ?_)
  · have e1 : (Sum.inr f : Qq) = .inr g := e1
    injection e1 with e1
    subst e1
    exact ⟨e2, e3⟩
  · exact absurd e (fun z => by cases z)
theorem k_cell {j : Nat} (hL : ∃ k, k < 3 ∧ L = 328 + 5 * k) (hN : LstT u n N) (C : CtL u n L cs rs S) (h : ScQ u n S 185 (.inl j)) (hj : j ≤ N) :
    WP (mX10_cell S) (fun y => ChW (PCl L) S y ∧ ((∃ f, CellR u n cs j (.inr f) ∧ ScQ u n y 185 (.inr f)) ∨ ∃ j' r, CellR u n cs j (.inl (j', r)) ∧ ScQ u n y 185 (.inl j') ∧ CtL u n L (cs ++ [j + 1]) (rs ++ [r]) y)) := by
  have hL0 := hL
  obtain ⟨kk, hkk, eL⟩ := hL
  have hcl := C.l
  refine k_cell0 hL0 C h (fun y f e1 e2 e3 => ?_) (fun x jn e1 e2 e3 e4 e5 e6 e7 e8 => ?_)
  · refine ⟨ChW.refl.tr e3 PS_PCl, Or.inl ⟨f, .f0 ?_, e2⟩⟩
    unfold preT; rw [chT_inr e1]; rfl
  have hu := e4.u
  obtain ⟨c1, c2, c3, c4⟩ := chT_inl e1
  obtain ⟨w, w1, w2, w3, _⟩ := wT_inl c1
  injection w1 with w1; subst w1
  subst w2
  have hcb : rs.length < 12 := by have := C.b; omega
  cases eP : preT u n cs (.inl j) with
  | inr f =>
    rw [eP] at e2
    refine (kT0_f e4 e2).mono (fun y hy => ⟨e3.tr hy.2 PCi_PCl, Or.inl ⟨f, .f0 eP, hy.1⟩⟩)
  | inl j1 =>
    rw [eP] at e2
    obtain ⟨p0, p1, p2, p3, p4, p5, p6, p7⟩ := preT_inl eP
    injection p1 with p1; subst p1
    have l1 := lt_of hN (j := j) (by omega) hj
    have l2 := lt_of hN (j := j + 1) (by omega) (by omega)
    have l3 := lt_of hN (j := j + 2) (by omega) (by omega)
    unfold kT0
    rw [wf_eq]
    have cx0 : ChW PCi x (sI x 189 2 0) := ChW.refl.sI (Or.inr ⟨by omega, by omega⟩)
    have sx0 : ScQ u n (sI x 189 2 0) 185 (.inl j1) := e2.cg (fun i _ _ => hI_sI_a (by omega))
    have n0 : NmK u n (sI x 189 2 0) 189 [] := ⟨by rw [gI_sI_eq]; rfl, fun i hi => absurd hi (by simp), fun i hi => absurd hi (by simp)⟩
    refine WP_call (k_pin (e4.ci cx0) sx0 n0 (by decide)) (fun a ha => ?_)
    obtain ⟨a1, a2, a10, a3⟩ := ha
    have ca : ChW PCi x a := cx0.tr a2 (fun _ _ q => q)
    have a10 : gI a 185 10 = 0 := by rw [a10, hI_sI_a (by omega)]; exact e8
    cases eN : newT u n 3 [] (.inl j1) with
    | inr f =>
      rw [eN] at a1
      refine WP_call (k_pins_f hu a1) (fun b hb => ?_)
      subst hb
      exact (kT1_f (e4.ci ca) a1).mono (fun y hy => ⟨e3.tr (ca.tr hy.2 (fun _ _ q => q)) PCi_PCl, Or.inl ⟨f, .f1 eP eN, hy.1⟩⟩)
    | inl j2 =>
      rw [eN] at a1
      have nma : NmK u n a 189 [j1] := a3 j1 j2 rfl eN
      obtain ⟨m0, m1, m2, m3, m4, m5⟩ := newT_inl eN
      injection m1 with m1; subst m1
      have l4 := lt_of hN (j := j1) (by omega) (by omega)
      refine WP_call (k_pins hN (e4.ci ca) a1 (by omega) nma (show 1 ≤ 3 by decide)) (fun b hb => ?_)
      obtain ⟨b1, b10, b2⟩ := hb
      have cb : ChW PCi x b := ca.tr b1 (fun _ _ q => q)
      rcases b2 with ⟨j3, ps, b2, b3, b4, b5⟩ | ⟨f, b2, b3⟩
      · have hps := b2.le hN (by omega) (show 1 ≤ 3 by decide) _ _ rfl
        have hpl : 1 ≤ ps.length ∧ ps.length ≤ 3 := ⟨hps.2.2.2, b5⟩
        unfold kT1
        refine WP_call (k_take3 (e4.ci cb) b3 (by decide)) (fun c hc => ?_)
        have cc : ChW PCi x c := cb.tr hc.2 PS_PCi
        refine WP_call (k_take3 (e4.ci cc) hc.1 (by decide)) (fun d hd => ?_)
        have cbd : ChW (PSc 185) b d := hc.2.tr hd.2 (fun _ _ q => q)
        have cd : ChW PCi x d := cb.tr cbd PS_PCi
        have sd : ScQ u n d 185 (midT u n (.inl j3)) := hd.1
        have nmd : NmK u n d 189 ps := b4.ch cbd (fun q => by unfold PSc at q; omega) (fun i q => by unfold PSc at q; omega) (fun i q => by unfold PSc at q; omega)
        have d10 : gI d 185 10 = 0 := by rw [cbd.1 _ _ (fun q => by unfold PSc at q; omega), b10]; exact a10
        rw [k_ok sd, bX_some, bIf]
        cases eM : midT u n (.inl j3) with
        | inr f =>
          rw [eM] at sd
          rw [if_neg (fun z => by cases z), bX_some]
          exact (kT3_f (y := (0, d)) (e4.ci cd) sd).mono (fun y hy => ⟨e3.tr (cd.tr hy.2 (fun _ _ q => q)) PCi_PCl, Or.inl ⟨f, .f3 eP eN b2 eM, hy.1⟩⟩)
        | inl j4 =>
          rw [eM] at sd
          rw [show okQ (.inl j4) = true from rfl, if_pos rfl]
          obtain ⟨n0', n1, n2, n3, n4⟩ := midT_inl eM
          injection n1 with n1; subst n1
          have l5 := lt_of hN (j := j3) (by omega) (by omega)
          have l6 := lt_of hN (j := j3 + 1) (by omega) (by omega)
          refine WP_bX.2 (WP_call (k_or 64 0 (by omega) (by omega) d j4 ⟨e4.ci cd, nmd, b5, hN⟩ sd (by omega) d10) (fun e he => WP_some.2 ?_))
          obtain ⟨res, f1, f2, f3⟩ := he
          have ce : ChW PCi x e.2 := cd.tr f3 PEx_PCi
          cases res with
          | inr f =>
            have f2 : ScQ u n e.2 185 (.inr f) := f2
            exact (kT3_f (y := (e.1, e.2)) (e4.ci ce) f2).mono (fun y hy => ⟨e3.tr (ce.tr hy.2 (fun _ _ q => q)) PCi_PCl, Or.inl ⟨f, .f4 eP eN b2 eM f1, hy.1⟩⟩)
          | inl jv =>
            obtain ⟨j5, v⟩ := jv
            obtain ⟨f4, f5, f6⟩ := f2
            have nme : NmK u n e.2 189 ps := nmd.ch f3 (fun q => by unfold PEx at q; omega) (fun i q => by unfold PEx at q; omega) (fun i q => by unfold PEx at q; omega)
            have we : RwL e.2 L rs := e7.ch ce (fun a i h1 h2 q => by unfold PCi at q; omega)
            have re : gR e.2 184 3 = L := by rw [ce.2.2.1]; exact e6
            refine (kT3_ok (y := (e.1, e.2)) hL0 (e4.ci ce) f4 f5 re nme hpl we hcb).mono (fun y hy => ?_)
            obtain ⟨y1, y10, y2⟩ := hy
            have cy : ChW (PCl L) x y := (ChW.refl.tr ce PCi_PCl).tr y1 (fun _ _ q => q)
            refine ⟨e3.tr cy (fun _ _ q => q), ?_⟩
            rcases y2 with ⟨f, g1, g2⟩ | ⟨j8, g1, g2, g3, g4⟩
            · exact Or.inl ⟨f, .f5 eP eN b2 eM f1 g1, g2⟩
            · refine Or.inr ⟨j8, _, .ok eP eN b2 eM f1 g1, g2, ⟨e4.cl (by omega) cy, ?_, by rw [cy.2.2.1]; exact e6, g3, by rw [List.length_append, List.length_append, hcl]; rfl, by rw [List.length_append]; simp only [List.length]; omega, by rw [y10]; exact f6⟩⟩
              have ne : NmK u n e.2 186 (cs ++ [j + 1]) := e5.ch ce (fun q => by unfold PCi at q; omega) (fun i q => by unfold PCi at q; omega) (fun i q => by unfold PCi at q; omega)
              exact ⟨((g4 2).1).trans ne.c, fun i hi => (ne.e i hi).cg (g4 i).2.2 (fun t => (g4 t).2.1), ne.k⟩
      · refine (kT1_f (e4.ci cb) b3).mono (fun y hy => ⟨e3.tr (cb.tr hy.2 (fun _ _ q => q)) PCi_PCl, Or.inl ⟨f, .f2 eP eN b2, hy.1⟩⟩)
def q0T (u : Nat → Int) (n : Nat) : Qq := if tkK u n 0 = 4 then .inr (1, (tkB u n 0 : Int)) else .inl 0
def PBg (a0 : Nat) (a i : Nat) : Prop := a = a0 ∧ 1 ≤ i ∧ i ≤ 10
/-- a scanner begins -/
theorem k_begin3 {a0 : Nat} (hu : ∀ i, i < n → 0 ≤ u i ∧ u i < 256) (ht : ∀ i, i < n → gI S 2 i = rw8 (u i)) (hn : n ≤ 4000) (ha : a0 ≠ 2) : WP (mX3_begin S a0 2 (n : Int)) (fun y => TpK y a0 u n ∧ ScQ u n y a0 (q0T u n) ∧ gI y a0 10 = 0 ∧ ChW (PBg a0) (sR S a0 0 2) y) := by
  unfold mX3_begin
  rw [wfR_eq, wf_eq, wf_eq, wf_eq, wf_eq, wf_eq]
  generalize hx : sI (sI (sI (sI (sI (sR S a0 0 2) a0 1 (n : Int)) a0 2 0) a0 8 0) a0 9 (-1)) a0 10 0 = x
  have cx : ChW (PBg a0) (sR S a0 0 2) x := by
    rw [← hx]
    exact ((((ChW.refl.sI ⟨rfl, by omega⟩).sI ⟨rfl, by omega⟩).sI ⟨rfl, by omega⟩).sI ⟨rfl, by omega⟩).sI ⟨rfl, by omega⟩
  have tx : TpK x a0 u n := by
    refine ⟨?_, ?_, fun i hi => ?_, hu, hn, ha⟩
    · rw [cx.2.2.1, gR_sR, if_pos ⟨rfl, rfl⟩]
    · rw [← hx, hI_sI_i (by decide), hI_sI_i (by decide), hI_sI_i (by decide), hI_sI_i (by decide), gI_sI_eq, w32_id (by omega)]
    · rw [cx.1 _ _ (fun q => ha q.1.symm), gI_sR]; exact ht i hi
  have x2 : gI x a0 2 = ((0 : Nat) : Int) := by rw [← hx, hI_sI_i (by decide), hI_sI_i (by decide), hI_sI_i (by decide), gI_sI_eq]; rfl
  have x8 : gI x a0 8 = 0 := by rw [← hx, hI_sI_i (by decide), hI_sI_i (by decide), gI_sI_eq]; rfl
  have x10 : gI x a0 10 = 0 := by rw [← hx, gI_sI_eq]; rfl
  refine WP_call (k_next0 tx (p := 0) (by omega) x2 x8) (fun y hy => WP_some.2 ?_)
  obtain ⟨y1, y2, y3⟩ := hy
  refine ⟨tx.chS y3, ?_, ?_, cx.tr y3 (fun a i q => ⟨q.1, by have := q.2; omega⟩)⟩
  · unfold q0T
    by_cases e : tkK u n 0 = 4
    · rw [if_pos e]; exact ⟨(y1 e).1, (show (1 : Int) ≠ 0 by decide), (y1 e).2⟩
    · rw [if_neg e]; exact y2 e
  · rw [y3.1 _ _ (fun q => by unfold PSc at q; omega)]; exact x10
def LibAll (u : Nat → Int) (n : Nat) (res : List Row4 ⊕ (Int × Int)) : Prop := (tkK u n 0 = 4 ∧ res = .inr (1, (tkB u n 0 : Int))) ∨ (tkK u n 0 ≠ 4 ∧ LibR u n [] [] 0 res)
theorem kind0 {a0 j : Nat} (h : ScQ u n S a0 (.inl j)) : gI S a0 3 = 0 ↔ tkK u n j = 5 := by
  obtain ⟨h1, h2, h3, h4, h5, h6⟩ := h
  obtain ⟨f5, f1, f6, f2, f3⟩ := h6
  unfold tkK
  rcases tK_rng (u := u) (n := n) (p := tkB u n j) with k | k | k | k | k | k
  · rw [(f1 k).1, k]; omega
  · rw [(f2 k).1, k]; omega
  · obtain ⟨g1, g2, g3⟩ := f3 k
    rw [k]
    by_cases e : tV u n (tkB u n j) < 256
    · rw [(g1 e).1]; omega
    · rcases tV_le k e with e | e
      · rw [g2 e]; omega
      · rw [g3 e]; omega
  · exact absurd k h5
  · rw [f5 k, k]; omega
  · rw [(f6 k).1, k]; omega
def PRd (L : Nat) (a i : Nat) : Prop := (a = 185 ∧ 1 ≤ i ∧ i ≤ 10) ∨ (186 ≤ a ∧ a ≤ 191) ∨ (L ≤ a ∧ a ≤ L + 4)
theorem k_read3 (hL : ∃ k, k < 3 ∧ L = 328 + 5 * k) (hu : ∀ i, i < n → 0 ≤ u i ∧ u i < 256) (ht : ∀ i, i < n → gI S 2 i = rw8 (u i)) (hn : n ≤ 4000) :
    WP (mX10_read S L 2 (n : Int)) (fun y => ChW (PRd L) (sR (sR S 184 3 L) 185 0 2) y.2 ∧ ((∃ rs, LibAll u n (.inl rs) ∧ y.1 = 1 ∧ RwL y.2 L rs ∧ gI y.2 185 8 = 0) ∨ ∃ f, LibAll u n (.inr f) ∧ y.1 = 0 ∧ gI y.2 185 8 = f.1 ∧ gI y.2 185 9 = f.2)) := by
  have hL0 := hL
  obtain ⟨kk, hkk, eL⟩ := hL
  obtain ⟨N, hNn, hN⟩ := LstT.ex (u := u) (n := n)
  unfold mX10_read
  rw [wfR_eq, gk_L hL0 (by rw [gR_sR, if_pos ⟨rfl, rfl⟩]), wf_eq, wf_eq]
  generalize hx : sI (sI (sR S 184 3 L) L 0 0) 186 2 0 = x
  have cx : ChW (PRd L) (sR S 184 3 L) x := by rw [← hx]; exact (ChW.refl.sI (Or.inr (Or.inr (by omega)))).sI (Or.inr (Or.inl (by omega)))
  refine WP_call (k_begin3 (a0 := 185) hu (fun i hi => by rw [cx.1 _ _ (fun q => by unfold PRd at q; omega), gI_sR]; exact ht i hi) hn (by decide)) (fun y hy => ?_)
  obtain ⟨y1, y2, y3, y4⟩ := hy
  have cy : ChW (PRd L) (sR (sR S 184 3 L) 185 0 2) y := by
    refine ⟨fun a i q => ?_, fun a i => ?_, fun a i => ?_, ?_, ?_⟩
    · rw [y4.1 _ _ (fun z => q (Or.inl z)), gI_sR, cx.1 _ _ q, gI_sR, gI_sR, gI_sR]
    · rw [y4.2.1, gL_sR, cx.2.1, gL_sR, gL_sR, gL_sR]
    · rw [y4.2.2.1, gR_sR, gR_sR, cx.2.2.1]
    · rw [y4.2.2.2.1]; exact cx.2.2.2.1
    · rw [y4.2.2.2.2]; exact cx.2.2.2.2
  have Cy : CtL u n L [] [] y := by
    refine ⟨y1, ⟨?_, fun i hi => absurd hi (by simp), fun i hi => absurd hi (by simp)⟩, ?_, ⟨?_, fun i hi => absurd hi (by simp)⟩, rfl, by decide, y3⟩
    · rw [y4.1 _ _ (fun q => by unfold PBg at q; omega), gI_sR, ← hx, gI_sI_eq]; rfl
    · rw [cy.2.2.1, gR_sR, if_neg (by omega), gR_sR, if_pos ⟨rfl, rfl⟩]
    · rw [y4.1 _ _ (fun q => by unfold PBg at q; omega), gI_sR, ← hx, hI_sI_a (by omega), gI_sI_eq]; rfl
  have pcl : ∀ a i, PCl L a i → PRd L a i := fun a i q => by unfold PCl at q; unfold PRd; omega
  have psc : ∀ a i, PSc 185 a i → PRd L a i := fun a i q => by unfold PSc at q; unfold PRd; omega
  unfold q0T at y2
  by_cases e4 : tkK u n 0 = 4
  · rw [if_pos e4] at y2
    refine WP_call (k_cell_f hL0 Cy y2) (fun z hz => ?_)
    obtain ⟨z1, z2⟩ := hz
    refine WP_call (R := fun w => w = z) ?_ (fun w hw => ?_)
    · refine WP_lpF (fun s => s = z) (fun _ => 0) rfl (by decide) (fun s hs => ?_)
      subst hs
      unfold mX10_read_L34
      rw [k_ok z1, bX_some, bIf, if_neg (fun z => by cases z), bX_some, if_neg (by decide)]
      exact WP_some.2 rfl
    · subst hw
      rw [k_ok z1, bX_some, gz_b2i]
      exact WP_some.2 ⟨cy.tr z2 psc, Or.inr ⟨_, Or.inl ⟨e4, rfl⟩, rfl, z1.1, z1.2.2⟩⟩
  · rw [if_neg e4] at y2
    refine WP_call (k_cell hL0 hN Cy y2 (by omega)) (fun z hz => ?_)
    obtain ⟨z1, z2⟩ := hz
    refine WP_call (R := fun w => ChW (PCl L) y w ∧ ((∃ rs, LibR u n [] [] 0 (.inl rs) ∧ RwL w L rs ∧ ∃ j, ScQ u n w 185 (.inl j)) ∨ ∃ f, LibR u n [] [] 0 (.inr f) ∧ ScQ u n w 185 (.inr f))) ?_ (fun w hw => ?_)
    · refine WP_lpF (fun s => ChW (PCl L) y s ∧ ((∃ j cs rs, ScQ u n s 185 (.inl j) ∧ j ≤ N ∧ CtL u n L cs rs s ∧ (tkK u n j = 5 → LibR u n [] [] 0 (.inl rs)) ∧ (tkK u n j ≠ 5 → ∀ res, LibR u n cs rs j res → LibR u n [] [] 0 res)) ∨ ∃ f, ScQ u n s 185 (.inr f) ∧ LibR u n [] [] 0 (.inr f))) (fun s => if gI s 185 8 = 0 then 1 + (n - (gI s 185 4).toNat) else 0) ⟨z1, ?_⟩ ?_ (fun s hs => ?_)
      · rcases z2 with ⟨f, z2, z3⟩ | ⟨j', r, z2, z3, z4⟩
        · exact Or.inr ⟨f, z3, .f z2⟩
        · exact Or.inl ⟨j', _, _, z3, (z2.le hN (by omega)).2.1, z4, fun e => .e z2 e, fun e res q => .c z2 e q⟩
      · exact ite_lt (show 1 + (n - _) < 1000000000000 by omega) (show 0 < 1000000000000 by omega)
      obtain ⟨s1, s2⟩ := hs
      unfold mX10_read_L34
      rcases s2 with ⟨j, cs, rs, a1, a2, a3, a4, a5⟩ | ⟨f, a1, a2⟩
      · rw [k_ok a1, bX_some, bIf, show okQ (.inl j) = true from rfl, if_pos rfl, w32_gI]
        by_cases e5 : tkK u n j = 5
        · rw [if_neg (fun z => z ((kind0 a1).2 e5)), bX_some, if_neg (by decide)]
          exact WP_some.2 ⟨s1, Or.inl ⟨rs, a4 e5, a3.w, j, a1⟩⟩
        · rw [if_pos (fun z => e5 ((kind0 a1).1 z)), bX_some, if_pos rfl]
          have hlt : j < N := hN.le ⟨a1.2.2.2.2.1, e5⟩ a2
          have hBl := hN.lt hlt
          have m8 : gI s 185 8 = 0 := a1.1
          have m4 : gI s 185 4 = (tkB u n j : Nat) := a1.2.2.1
          refine WP_call (k_cell hL0 hN a3 a1 a2) (fun v hv => WP_some.2 ?_)
          obtain ⟨v1, v2⟩ := hv
          rcases v2 with ⟨f, v2, v3⟩ | ⟨j', r, v2, v3, v4⟩
          · refine ⟨⟨s1.tr v1 (fun _ _ q => q), Or.inr ⟨f, v3, a5 e5 _ (.f v2)⟩⟩, ?_⟩
            rw [m8, m4, if_pos rfl, if_neg (by rw [v3.1]; exact v3.2.1)]; omega
          · have hl := v2.le hN a2
            refine ⟨⟨s1.tr v1 (fun _ _ q => q), Or.inl ⟨j', _, _, v3, hl.2.1, v4, fun e => a5 e5 _ (.e v2 e), fun e res q => a5 e5 _ (.c v2 e q)⟩⟩, ?_⟩
            have z4' : gI v 185 4 = (tkB u n j' : Nat) := v3.2.2.1
            have z48 : gI v 185 8 = 0 := v3.1
            have := tkB_slt (j := j') hBl (by omega)
            have := tkB_le (u := u) (n := n) j'
            rw [m8, m4, z48, z4', if_pos rfl, if_pos rfl, Int.toNat_natCast, Int.toNat_natCast]; omega
      · rw [k_ok a1, bX_some, bIf, if_neg (fun z => by cases z), bX_some, if_neg (by decide)]
        exact WP_some.2 ⟨s1, Or.inr ⟨f, a2, a1⟩⟩
    · obtain ⟨w1, w2⟩ := hw
      have cw : ChW (PRd L) (sR (sR S 184 3 L) 185 0 2) w := cy.tr w1 pcl
      rcases w2 with ⟨rs, w2, w3, j, w4⟩ | ⟨f, w2, w3⟩
      · rw [k_ok w4, bX_some, gz_b2i]
        exact WP_some.2 ⟨cw, Or.inl ⟨rs, Or.inr ⟨e4, w2⟩, rfl, w3, w4.1⟩⟩
      · rw [k_ok w3, bX_some, gz_b2i]
        exact WP_some.2 ⟨cw, Or.inr ⟨f, Or.inr ⟨e4, w2⟩, rfl, w3.1, w3.2.2⟩⟩
end KRD
