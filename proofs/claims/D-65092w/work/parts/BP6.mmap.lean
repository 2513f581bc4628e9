/-! the reference maps: the whole -/
def PMm (j a i : Nat) : Prop := (a = 2000 ∧ (i = 0 ∨ (105 ≤ i ∧ i ≤ 137))) ∨ (2082 ≤ a ∧ a ≤ 2104) ∨ (a = 2105 ∧ i = j) ∨ ownC j a i
def ChN (P : Nat → Nat → Prop) (S z : Sto) : Prop := (∀ a i, ¬ P a i → gI z a i = gI S a i) ∧ (∀ a i, ¬ (2082 ≤ a ∧ a ≤ 2086) → gL z a i = gL S a i) ∧ nC z = nC S ∧ nS z = nS S
section MMAP
variable {S z y : Sto} {G : Dsg} {B : Lib} {d n i k l p j : Nat}
theorem ChN.refl {P : Nat → Nat → Prop} : ChN P S S := ⟨fun _ _ _ => rfl, fun _ _ _ => rfl, rfl, rfl⟩
theorem ChN.trW {P Q : Nat → Nat → Prop} (h : ChN P S z) (g : ChW Q z y) (e : ∀ a i, Q a i → P a i) : ChN P S y := ⟨fun a i q => (g.1 a i (fun k => q (e a i k))).trans (h.1 a i q), fun a i q => (g.2.1 a i).trans (h.2.1 a i q), g.2.2.2.1.trans h.2.2.1, g.2.2.2.2.trans h.2.2.2⟩
theorem ChN.trC {P : Nat → Nat → Prop} (h : ChN P S z) (g : Ch 2082 2086 z y) (e : ∀ a i, 2082 ≤ a → a ≤ 2086 → P a i) : ChN P S y := ⟨fun a i q => (g.1 a i (by
  by_cases u : 2082 ≤ a ∧ a ≤ 2086
  · exact (q (e a i u.1 u.2)).elim
  · omega)).trans (h.1 a i q), fun a i q => (g.2.1 a i (by omega)).trans (h.2.1 a i q), g.2.2.2.1.trans h.2.2.1, g.2.2.2.2.trans h.2.2.2⟩
theorem MSt.mv {m : Int} (h : MSt S m) (e : ∀ a i, a = 2096 ∨ (a = 2000 ∧ i = 127) → gI z a i = gI S a i) : MSt z m := by
  obtain ⟨h1, h2, h3⟩ := h
  unfold MSt
  rw [e 2000 127 (.inr ⟨rfl, rfl⟩)]
  exact ⟨h1, h2, fun x hx => by rw [e 2096 x (.inl rfl)]; exact h3 x hx⟩
theorem m_no251 (w : WFG G) (hd : d < 6) (hG : MGx S d G) {y25 : Int × Sto} {x1 : Int} (h : y25.1 = 0) : WP (lpF (mX23_map_L251 (d : Int) y25 x1) (0, S)) (fun z => z = S) := by
  have e9 := hG.2.1.2.2.1
  have wo := w.o
  rw [wo] at e9
  have ng := w.nums
  refine WP_cnt 0 (fun q st => st = (0, S)) (by decide) rfl (fun q st hq _ => absurd hq (Nat.not_lt_zero _)) (fun st hI => ?_)
  subst hI
  unfold mX23_map_L251
  dsimp only
  rw [rdI_e (by omega), Int.toNat_natCast, e9, w32_id (x := (gOu G : Int)) (by omega), h]
  rw [if_pos (by rw [show w32 (0 : Int) = 0 from rfl]; omega), if_neg (by decide), bX_some, if_neg (by decide)]
  exact WP_some.2 rfl
theorem m_no304 (w : WFG G) (hd : d < 6) (hG : MGx S d G) {y25 : Int × Sto} {x1 : Int} (h : y25.1 = 0) : WP (lpF (mX23_map_L304 (d : Int) y25 x1) (0, S)) (fun z => z = S) := by
  have e9 := hG.2.1.2.1
  have wr := w.s
  have w64 := w.st64.1; have w65 := w.st64.2.1
  rw [wr] at e9
  have ng := w.nums
  refine WP_cnt 0 (fun q st => st = (0, S)) (by decide) rfl (fun q st hq _ => absurd hq (Nat.not_lt_zero _)) (fun st hI => ?_)
  subst hI
  unfold mX23_map_L304
  dsimp only
  rw [rdI_e (by omega), Int.toNat_natCast, e9, w32_id (x := (gSt G : Int)) (by omega), h]
  by_cases g : 0 < gSt G
  · rw [if_pos (by rw [show w32 (0 : Int) = 0 from rfl]; omega), if_neg (by decide), bX_some, if_neg (by decide)]
    exact WP_some.2 rfl
  · rw [if_neg (by rw [show w32 (0 : Int) = 0 from rfl]; omega), bX_some, if_neg (by decide)]
    exact WP_some.2 rfl
theorem m_map (w : WFG G) (wl : WFL B) (hd : d < 6) (hl : l < 3) (hj : j < 4) (rG : RefG S d G) (rL : RefL S l B) (hf : mX23_free S 2105 4 = some (j : Int)) (h1 : mX23_isDesign S (d : Int) = some 1) (h2 : mX23_isLibrary S (l : Int) = some 1) {m0 : Int} (hm0 : m0 ≤ 800000000) (hst : MSt S m0) :
    WP (mX23_map S (d : Int) (l : Int)) (fun y => ChN (PMm j) S y.2 ∧ gI y.2 2000 0 = 0 ∧ MSt y.2 (m0 + 63 * (1000 : Int)) ∧ (NoM G B → y.1 = -1 ∧ gI y.2 2105 j = gI S 2105 j) ∧ (¬ NoM G B → 150 < (rtS G B (nRt G)).1.length → y.1 = -2 ∧ gI y.2 2105 j = gI S 2105 j) ∧
      (¬ NoM G B → (rtS G B (nRt G)).1.length ≤ 150 → y.1 = (j : Int) ∧ MCh y.2 G B j (rtS G B (nRt G)).1 ∧ (∀ i, i < gOu G → gI y.2 2114 (16 * j + i) = rtN G (rtS G B (i + 1)) (rtL G i)) ∧ ∀ i, i < gSt G → gI y.2 2115 (6 * j + i) = rtN G (rtS G B (gOu G + i + 1)) (rtL G (gOu G + i)))) := by
  have hno := no_le w
  have ng := w.nums
  have hn := wl.nums
  have r' : -1 ≤ lInv B ∧ lInv B < (liN B : Int) := lInvN_rng (B := B) (n := liN B)
  unfold mX23_map
  rw [hf, bX_some, h1, bX_some, if_pos (by decide), h2, bX_some, if_neg (by decide), bX_some, if_neg (by decide), w32_id (x := (j : Int)) (by omega), if_neg (by omega), bX_some, wf_eq, gI_set, if_neg (by decide), wf_eq, wf_eq]
  obtain ⟨S7, hS7⟩ : ∃ S7, S7 = sI (sI (sI S 2000 0 0) 2000 105 (d : Int)) 2000 106 (l : Int) := ⟨_, rfl⟩
  rw [← hS7]
  have c7 : ChW (fun a i => a = 2000 ∧ (i = 0 ∨ (105 ≤ i ∧ i ≤ 108))) S S7 := by
    rw [hS7]; exact ((ChW.refl.sI ⟨rfl, .inl rfl⟩).sI ⟨rfl, .inr ⟨by omega, by omega⟩⟩).sI ⟨rfl, .inr ⟨by omega, by omega⟩⟩
  have L7 : RefL S7 l B := rL.cg0 wl (fun a i q => c7.1 _ _ (fun g => q g.1))
  rw [m_inverterOf L7 wl hl, bX_some, wf_eq, gI_set, w32_w32, w32_id (x := lInv B) (by omega)]
  obtain ⟨S9, hS9⟩ : ∃ S9, S9 = sI S7 2000 107 (lInv B) := ⟨_, rfl⟩
  rw [← hS9]
  have c9 : ChW (fun a i => a = 2000 ∧ (i = 0 ∨ (105 ≤ i ∧ i ≤ 108))) S S9 := by rw [hS9]; exact c7.sI ⟨rfl, .inr ⟨by omega, by omega⟩⟩
  have L9 : RefL S9 l B := rL.cg0 wl (fun a i q => c9.1 _ _ (fun g => q g.1))
  have e11 : (if lInv B = -1 then some (1000000000 : Int) else rdI 36 S9 2070 ((12 * (l : Int)) + lInv B) fun v10 => some v10) = some (ecN 1000000000 (invO B)) := by
    by_cases q : lInv B = -1
    · have ei : invO B = none := if_pos q
      rw [if_pos q, ei]; rfl
    · have ei : invO B = some (bA B (lInv B).toNat) := if_neg q
      have z : (12 * (l : Int) + lInv B).toNat = 12 * l + (lInv B).toNat := by omega
      have r := bI_rng wl (c := (lInv B).toNat) (by omega)
      rw [if_neg q, rdI_e (by omega), z, (L9.2 (lInv B).toNat (by omega)).2.2.1, ei, r.2.2.2.2.2.1]; rfl
  rw [e11, bX_some, wf_eq]
  have er : -2147483648 ≤ ecN 1000000000 (invO B) ∧ ecN 1000000000 (invO B) < 2147483648 := by
    cases ei : invO B with
    | none => exact ⟨by decide, by decide⟩
    | some v => have := invO_le wl ei; exact ⟨by show _ ≤ (v : Int); omega, by show (v : Int) < _; omega⟩
  obtain ⟨S12, hS12⟩ : ∃ S12, S12 = sI S9 2000 108 (ecN 1000000000 (invO B)) := ⟨_, rfl⟩
  rw [← hS12]
  have c12 : ChW (fun a i => a = 2000 ∧ (i = 0 ∨ (105 ≤ i ∧ i ≤ 108))) S S12 := by rw [hS12]; exact c9.sI ⟨rfl, .inr ⟨by omega, by omega⟩⟩
  have k12 : ChN (PMm j) S S12 := ChN.refl.trW c12 (fun a i g => by unfold PMm; omega)
  have f0 : gI S12 2000 0 = 0 := by rw [hS12, hI_sI_i (by omega), hS9, hI_sI_i (by omega), hS7, hI_sI_i (by omega), hI_sI_i (by omega), gI_set]; rfl
  have f105 : gI S12 2000 105 = (d : Int) := by rw [hS12, hI_sI_i (by omega), hS9, hI_sI_i (by omega), hS7, hI_sI_i (by omega), gI_set, w32_id (by omega)]
  have f106 : gI S12 2000 106 = (l : Int) := by rw [hS12, hI_sI_i (by omega), hS9, hI_sI_i (by omega), hS7, gI_set, w32_id (by omega)]
  have f107 : gI S12 2000 107 = lInv B := by rw [hS12, hI_sI_i (by omega), hS9, gI_set, w32_id (by omega)]
  have f108 : gI S12 2000 108 = ecN 1000000000 (invO B) := by rw [hS12, gI_set, w32_id er]
  have G12 : MGx S12 d G := ⟨f105, RefG.cg w rG (fun a i l1 l2 _ _ => c12.1 _ _ (by omega))⟩
  have L12 : MLx S12 l B := ⟨f106, rL.cg0 wl (fun a i q => c12.1 _ _ (fun g => q g.1)), f107, f108⟩
  refine WP_call (m_layGraph G12 w hd) (fun x13 hx => ?_)
  obtain ⟨c13, e13⟩ := hx
  have k13 : ChN (PMm j) S x13 := k12.trC c13 (fun a i l1 l2 => by unfold PMm; omega)
  have G13 : MGx x13 d G := G12.ch w c13 (by omega)
  have L13 : MLx x13 l B := L12.mv wl hl (fun a i l1 l2 => c13.1 _ _ (by omega)) (fun i l1 l2 => c13.1 _ _ (by omega))
  have X13 : MMx x13 G B d l (gFi G) := ⟨G13, L13, e13.2.1, e13.2.2, fun x hx l => absurd hx.1 (by omega)⟩
  have T13 : MSt x13 m0 := hst.mv (fun a i g => by rw [c13.1 _ _ (by omega), c12.1 _ _ (by omega)])
  rw [rdI_e (by omega), Int.toNat_natCast, G13.first w]
  refine WP_call (m_mp118 w wl hd hl X13 (fun n hn => (e13.1 n hn).1) hm0 T13) (fun y25 h25 => ?_)
  obtain ⟨v1, v2, v3, v4, v5⟩ := h25
  have k25 : ChN (PMm j) S y25.2 := k13.trW v4 (fun a i g => by have := PMb_r g; unfold PMm; omega)
  refine WP_call (m_mp213 w hd v2.1) (fun y29 h29 => ?_)
  obtain ⟨c29, e29⟩ := h29
  have k29 : ChN (PMm j) S y29 := k25.trW c29 (fun a i g => by unfold PMm; omega)
  rw [wf_eq, wf_eq]
  obtain ⟨S31, hS31⟩ : ∃ S31, S31 = sI (sI y29 2000 129 0) 2000 134 0 := ⟨_, rfl⟩
  rw [← hS31]
  have c31 : ChW (fun a i => a = 2000 ∧ (i = 129 ∨ i = 134)) y29 S31 := by rw [hS31]; exact (ChW.refl.sI ⟨rfl, .inl rfl⟩).sI ⟨rfl, .inr rfl⟩
  have k31 : ChN (PMm j) S S31 := k29.trW c31 (fun a i g => by unfold PMm; omega)
  have z129 : gI S31 2000 129 = 0 := by rw [hS31, hI_sI_i (by omega), gI_set]; rfl
  have z134 : gI S31 2000 134 = 0 := by rw [hS31, gI_set]; rfl
  have o31 : ∀ a i, ¬ (a = 2102 ∨ (a = 2000 ∧ (i = 129 ∨ i = 134))) → gI S31 a i = gI y25.2 a i := fun a i q => by rw [c31.1 _ _ (by omega), c29.1 _ _ (by omega)]
  have G31 : MGx S31 d G := v2.1.mv w (fun a i l1 l2 => o31 _ _ (by omega)) (o31 _ _ (by omega))
  have T31 : MSt S31 (m0 + 63 * (1000 : Int)) := v3.mv (fun a i g => o31 _ _ (by omega))
  have fr0 : ∀ {y : Sto} {P : Nat → Nat → Prop}, ChN (PMm j) S y → ChW P S31 y → (¬ P 2000 0) → gI y 2000 0 = 0 := fun {y P} _ g q => by
    rw [g.1 _ _ q, o31 _ _ (by omega), v4.1 _ _ (fun g => by have := PMb_r g; omega), c13.1 _ _ (by omega)]; exact f0
  have fr5 : gI S31 2105 j = gI S 2105 j := by
    rw [o31 _ _ (by omega), v4.1 _ _ (fun g => by have := PMb_r g; omega), c13.1 _ _ (by omega), c12.1 _ _ (by omega)]
  by_cases hr : rOK G B
  case neg =>
    have v1' : y25.1 = 0 := by rw [v1, bo_f hr]; rfl
    refine WP_call (m_no251 w hd G31 v1') (fun y37 h37 => ?_)
    subst h37
    refine WP_call (m_no304 w hd G31 v1') (fun y43 h43 => ?_)
    subst h43
    rw [v1', if_neg (by decide), bX_some, if_pos rfl]
    exact WP_some.2 ⟨k31, fr0 (P := fun _ _ => False) k31 ChW.refl (fun g => g), T31, fun _ => ⟨rfl, fr5⟩, fun g => (g (.inl hr)).elim, fun g => (g (.inl hr)).elim⟩
  case pos =>
    have v1' : y25.1 = 1 := by rw [v1, bo_t hr]; rfl
    have M31 : MKg S31 G B d l := by
      obtain ⟨a1, a2, a3, a4, a5⟩ := v2
      have k : ChW (fun a i => a = 2102 ∨ (a = 2000 ∧ (i = 129 ∨ i = 134))) y25.2 S31 := (ChW.refl.tr c29 (fun a i g => .inl g)).tr c31 (fun a i g => .inr g)
      exact ⟨G31, a2.cw wl hl k (fun a i g => by omega), fun n q1 q2 => (o31 _ _ (by omega)).trans (a3 n q1 q2), a5.cw w wl k (fun a i g => .inr (by omega))⟩
    have R0 : MRs S31 G B j 0 0 S31 := by
      refine ⟨ChW.refl, ⟨z129, fun i hi => absurd hi (Nat.not_lt_zero _), fun n q1 q2 => ?_, fun n q1 => ?_⟩, ?_, ?_, fun i hi => absurd hi (Nat.not_lt_zero _), fun i hi => absurd hi (Nat.not_lt_zero _)⟩
      · rw [o31 _ _ (by omega), o31 _ _ (by omega)]; exact v5 n q1 q2
      · rw [c31.1 _ _ (by omega)]; exact e29 n q1
      · show 0 + missN G ([], fun _ _ => -1) = _
        rw [missN_0]; omega
      · show gI S31 2000 134 = _
        rw [z134, bo_f (fun g => by obtain ⟨_, n, g⟩ := g; exact g rfl)]; rfl
    refine WP_call (m_mp251 w wl hr hd hl hj M31 v1' R0) (fun y37 h37 => ?_)
    refine WP_call (m_mp304 w wl hr hd hl hj M31 v1' h37) (fun y43 h43 => ?_)
    obtain ⟨b1, b2, b3, b4, b5, b6⟩ := h43
    have pj : ∀ a i, PJm j a i → PMm j a i := fun a i g => by
      rcases g with g | ⟨rfl, g1, g2⟩ | ⟨rfl, g1, g2⟩
      · unfold PJb at g; unfold PMm; omega
      · exact .inr (.inr (.inr ⟨by omega, show 16 * j ≤ _ by omega, show _ < 16 * j + 16 by omega⟩))
      · exact .inr (.inr (.inr ⟨by omega, show 6 * j ≤ _ by omega, show _ < 6 * j + 6 by omega⟩))
    have k43 : ChN (PMm j) S y43 := k31.trW b1 pj
    have T43 : MSt y43 (m0 + 63 * (1000 : Int)) := T31.mv (fun a i g => b1.1 _ _ (fun q => by unfold PJm PJb at q; omega))
    have f43 : gI y43 2000 0 = 0 := fr0 k43 b1 (fun q => by unfold PJm PJb at q; omega)
    have g43 : gI y43 2105 j = gI S 2105 j := by rw [b1.1 _ _ (fun q => by unfold PJm PJb at q; omega)]; exact fr5
    have nR : gOu G + gSt G = nRt G := rfl
    rw [nR] at b2 b3 b4
    have fl : gI y43 2000 134 = (bo (lInv B = -1 ∧ trlN G (nRt G)) : Int) := by
      have e : (lInv B = -1 ∧ ∃ n, (rtS G B (nRt G)).2 n 2 ≠ -1) ↔ (lInv B = -1 ∧ trlN G (nRt G)) := ⟨fun ⟨g1, g2⟩ => ⟨g1, (tl_iff w wl hr g1 _ (Nat.le_refl _)).1 g2⟩, fun ⟨g1, g2⟩ => ⟨g1, (tl_iff w wl hr g1 _ (Nat.le_refl _)).2 g2⟩⟩
      rw [← bo_cg e]; exact b4
    have f129 := b2.1
    have lb : (rtS G B (nRt G)).1.length ≤ 3 * gNo G := by omega
    rw [v1', if_pos (by decide), fl]
    by_cases b : lInv B = -1 ∧ trlN G (nRt G)
    · rw [bo_t b, if_pos (by decide), bX_some, if_pos rfl]
      exact WP_some.2 ⟨k43, f43, T43, fun _ => ⟨rfl, g43⟩, fun g => (g (.inr b)).elim, fun g => (g (.inr b)).elim⟩
    · have nm : ¬ NoM G B := fun g => g.elim (fun h => h hr) b
      rw [bo_f b, if_neg (by decide), bX_some, if_neg (by decide), f129, w32_id (by omega)]
      by_cases q : 150 < (rtS G B (nRt G)).1.length
      · rw [if_pos (by omega)]
        exact WP_some.2 ⟨k43, f43, T43, fun g => (nm g).elim, fun _ _ => ⟨rfl, g43⟩, fun _ g => absurd q (by omega)⟩
      · rw [if_neg (by omega)]
        have M43 := M31.cwm w wl hl b1
        refine WP_call (m_keepChip w wl hd hl hj M43.1 M43.2.1 b2 (by omega) (gtS w wl hr b _ (Nat.le_refl _))) (fun x44 hx => ?_)
        obtain ⟨x1, x2⟩ := hx
        have nk : ∀ {a i}, (a < 2105 ∨ a = 2114 ∨ a = 2115) → ¬ PKc j a i := fun {a i} q g => by
          rcases g with g | ⟨g, _⟩
          · omega
          · have := g.1; omega
        refine WP_some.2 ⟨k43.trW x1 (fun a i g => ?_), (x1.1 _ _ (nk (by omega))).trans f43, T43.mv (fun a i g => x1.1 _ _ (nk (by omega))), fun g => (nm g).elim, fun _ g => absurd g q, fun _ _ => ⟨rfl, x2, fun i hi => ?_, fun i hi => ?_⟩⟩
        · rcases g with g | ⟨g, _⟩
          · exact .inr (.inr (.inl g))
          · exact .inr (.inr (.inr g))
        · rw [x1.1 _ _ (nk (by omega))]; exact b5 i hi
        · rw [x1.1 _ _ (nk (by omega))]; exact b6 i hi
end MMAP
