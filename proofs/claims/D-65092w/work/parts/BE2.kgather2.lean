/-! what hangs together: the class gathers it -/
def EB (C : Chp) (x y : Nat) : Prop := x < y ∧ y < kBx C ∧ bJn C x y
section KGATHER2
variable {S : Sto} {k : Nat} {C : Chp} {N : Nat}
theorem k_gather10 (h : KGa k C S) (hk : k < 4) (wB : WFB C) (hB : C 23 0 ≠ -1) (hN : N = kBx C + kPn C) (hP : kPn C ≤ 640) {S0 : Sto} (h0 : gI S0 (344 + 22 * k) 20 = (kBx C : Int)) :
    WP (lpF (mX16_gather_L10 S0 (344 + 22 * k)) (0, S)) (fun z => Ch 241 241 S z ∧ ∃ f, UFs z 241 N (fun _ _ => False) f) := by
  obtain ⟨nb, nb2⟩ := kBx_e wB hB
  refine WP_cnt N (fun i z => z.1 = (i : Int) ∧ Ch 241 241 S z.2 ∧ ∀ x, x < i → gI z.2 241 x = (x : Int)) (by unfold cFU; omega) ⟨rfl, Ch.refl, fun x hx => absurd hx (by omega)⟩ (fun i z hi hI => ?_) (fun z hI => ?_)
  · obtain ⟨z1, z2⟩ := z
    obtain ⟨b1, b2, b3⟩ := hI
    dsimp only at b1 b2 b3
    subst b1
    have hc : gI z2 219 1 = (kPn C : Int) := (h.ch b2 (by omega)).2.1.1
    unfold mX16_gather_L10
    dsimp only
    rw [h0, hc, w32_id (by omega), w32_id (by omega), if_pos (by omega), wrI_e (by omega), Int.toNat_natCast]
    refine WP_some.2 ⟨by show (i : Int) + 1 = _; omega, b2.sI (by omega), fun x hx => ?_⟩
    by_cases q : x = i
    · subst q
      show gI (sI z2 241 x (x : Int)) 241 x = _
      rw [gI_set, w32_id (by omega)]
    · show gI (sI z2 241 i (i : Int)) 241 x = _
      rw [hI_sI_i q]; exact b3 x (by omega)
  · obtain ⟨z1, z2⟩ := z
    obtain ⟨b1, b2, b3⟩ := hI
    dsimp only at b1 b2 b3
    subst b1
    have hc : gI z2 219 1 = (kPn C : Int) := (h.ch b2 (by omega)).2.1.1
    unfold mX16_gather_L10
    dsimp only
    rw [h0, hc, w32_id (by omega), w32_id (by omega), if_neg (by omega)]
    exact WP_some.2 ⟨b2, fun x => x, fun x hx => ⟨x, b3 x hx, Nat.le_refl _, rfl, ⟨fun _ => rfl, fun _ => rfl⟩, Nat.le_refl _⟩, fun a b e => e.elim, fun g _ x _ => rfl⟩
theorem k_gather38 (h : KGa k C S) (hk : k < 4) (wB : WFB C) (hB : C 23 0 ≠ -1) (hN : kBx C ≤ N ∧ N ≤ 2640) {f : Nat → Nat} (hf : UFs S 241 N (fun _ _ => False) f) {S0 : Sto} (h0 : gI S0 (344 + 22 * k) 20 = (kBx C : Int)) :
    WP (lpF (mX16_gather_L38 S0 (344 + 22 * k)) (0, S)) (fun z => Ch 241 241 S z ∧ ∃ f', UFs z 241 N (EB C) f') := by
  obtain ⟨nb, nb2⟩ := kBx_e wB hB
  refine WP_cnt (kBx C) (fun a z => z.1 = (a : Int) ∧ Ch 241 241 S z.2 ∧ ∃ f', UFs z.2 241 N (E1 C a (a + 1)) f') (by unfold cFU; omega) ⟨rfl, Ch.refl, f, hf.cg (fun _ => rfl) (fun x y => ⟨fun g => g.elim, fun g => by obtain ⟨⟨g1, _⟩, g2⟩ := g; omega⟩)⟩ (fun a z ha hI => ?_) (fun z hI => ?_)
  · obtain ⟨z1, z2⟩ := z
    obtain ⟨b1, b2, f', b3⟩ := hI
    dsimp only at b1 b2 b3
    subst b1
    unfold mX16_gather_L38
    dsimp only
    rw [h0, w32_id (by omega), w32_id (by omega), if_pos (by omega)]
    refine WP_call (k_gather47 (h.ch b2 (by omega)) hk wB hB hN ha b3 h0) (fun x hx => WP_some.2 ?_)
    exact ⟨by show (a : Int) + 1 = _; omega, b2.tr hx.1 (by omega) (by omega), hx.2⟩
  · obtain ⟨z1, z2⟩ := z
    obtain ⟨b1, b2, f', b3⟩ := hI
    dsimp only at b1 b2 b3
    subst b1
    unfold mX16_gather_L38
    dsimp only
    rw [h0, w32_id (by omega), if_neg (by omega)]
    refine WP_some.2 ⟨b2, f', b3.cg (fun _ => rfl) (fun x y => ?_)⟩
    constructor
    · rintro ⟨g, _⟩; exact g
    · intro g; exact ⟨g, .inl (by have := g.1; have := g.2.1; omega)⟩
theorem k_gather171 (h : KGa k C S) (hk : k < 4) (w : WFC C) (wp : WFP C) (wB : WFB C) (hB : C 23 0 ≠ -1) (hP0 : C 16 0 ≠ 0) (hN : kBx C + kPn C ≤ N ∧ N ≤ 2640) {f : Nat → Nat} (hf : UFs S 241 N (EB C) f) {S0 : Sto} (h0 : gI S0 (344 + 22 * k) 20 = (kBx C : Int)) :
    WP (lpF (mX16_gather_L171 S0 (344 + 22 * k)) (0, S)) (fun z => Ch 241 241 S z ∧ ∃ f', UFs z 241 N (EAll C) f') := by
  obtain ⟨nb, nb2⟩ := kBx_e wB hB
  refine WP_cnt (kPn C) (fun p z => z.1 = (p : Int) ∧ Ch 241 241 S z.2 ∧ ∃ f', UFs z.2 241 N (fun x y => EB C x y ∨ E2 C p 0 x y) f') (by unfold cFU; omega) ⟨rfl, Ch.refl, f, hf.cg (fun _ => rfl) (fun x y => ⟨fun g => .inl g, fun g => g.elim id (fun ⟨q, _, _, _, _, g⟩ => by omega)⟩)⟩ (fun p z hp hI => ?_) (fun z hI => ?_)
  · obtain ⟨z1, z2⟩ := z
    obtain ⟨b1, b2, f', b3⟩ := hI
    dsimp only at b1 b2 b3
    subst b1
    have hz := h.ch b2 (by omega)
    have hc : gI z2 219 1 = (kPn C : Int) := hz.2.1.1
    have rg := pXY_rng w wp hP0 hp
    have r1 := kS_le wp
    have r2 := kH_le w wp
    unfold mX16_gather_L171
    dsimp only
    rw [hc, w32_id (by omega), w32_id (by omega), if_pos (by omega), k_x hz.2.1 hk rfl hz.2.2.1 w wp hz.2.2.2 hP0 hp, bX_some, k_y hz.2.1 hk rfl hz.2.2.1 w hz.2.2.2 hP0 hp, bX_some]
    refine WP_call (k_gather208 hz hk wB hB hN hp (by omega) (by omega) b3 h0) (fun x hx => WP_some.2 ?_)
    exact ⟨by show (p : Int) + 1 = _; omega, b2.tr hx.1 (by omega) (by omega), hx.2⟩
  · obtain ⟨z1, z2⟩ := z
    obtain ⟨b1, b2, f', b3⟩ := hI
    dsimp only at b1 b2 b3
    subst b1
    have hc : gI z2 219 1 = (kPn C : Int) := (h.ch b2 (by omega)).2.1.1
    unfold mX16_gather_L171
    dsimp only
    rw [hc, w32_id (by omega), if_neg (by omega)]
    refine WP_some.2 ⟨b2, f', b3.cg (fun _ => rfl) (fun x y => ?_)⟩
    constructor
    · rintro (g | ⟨q, g1, g2, g3, g4, _⟩)
      · exact .inl g
      · exact .inr ⟨q, g1, g2, g3, g4⟩
    · rintro (g | ⟨q, g1, g2, g3, g4⟩)
      · exact .inl g
      · exact .inr ⟨q, g1, g2, g3, g4, .inl g3⟩
theorem k_gather249 (h : KGa k C S) (hk : k < 4) (wB : WFB C) (hB : C 23 0 ≠ -1) (hN : kBx C + kPn C ≤ N ∧ N ≤ 2640) (hP : kPn C ≤ 640) {E : Nat → Nat → Prop} {f : Nat → Nat} (hf : UFs S 241 N E f) {S0 : Sto} (h0 : gI S0 (344 + 22 * k) 20 = (kBx C : Int)) :
    WP (lpF (mX16_gather_L249 S0 (344 + 22 * k)) (0, S)) (fun z => Ch 241 243 S z ∧ UFs z 241 N E f ∧ ∀ p, p < kPn C → gI z 243 p = (f (kBx C + p) : Int)) := by
  obtain ⟨nb, nb2⟩ := kBx_e wB hB
  refine WP_cnt (kPn C) (fun p z => z.1 = (p : Int) ∧ Ch 241 243 S z.2 ∧ UFs z.2 241 N E f ∧ ∀ q, q < p → gI z.2 243 q = (f (kBx C + q) : Int)) (by unfold cFU; omega) ⟨rfl, Ch.refl, hf, fun q hq => absurd hq (by omega)⟩ (fun p z hp hI => ?_) (fun z hI => ?_)
  · obtain ⟨z1, z2⟩ := z
    obtain ⟨b1, b2, b3, b4⟩ := hI
    dsimp only at b1 b2 b3 b4
    subst b1
    have hz := h.ch b2 (by omega)
    have hc : gI z2 219 1 = (kPn C : Int) := hz.2.1.1
    have ep : (kBx C : Int) + (p : Int) = ((kBx C + p : Nat) : Int) := by omega
    unfold mX16_gather_L249
    dsimp only
    rw [hc, w32_id (by omega), w32_id (by omega), if_pos (by omega), h0, ep]
    refine WP_call (k_find b3.1 hN.2 (show kBx C + p < N by omega)) (fun x hx => ?_)
    obtain ⟨x1, x2⟩ := x
    obtain ⟨a1, a2, a3⟩ := hx
    dsimp only at a1 a2 a3
    subst a1
    have le := b3.1.le (x := kBx C + p) (by omega)
    dsimp only
    rw [wrI_e (by omega), Int.toNat_natCast]
    refine WP_some.2 ⟨by show (p : Int) + 1 = _; omega, (b2.tr a3 (by omega) (by omega)).sI (by omega), b3.keep (a2.cg (fun i => hI_sI_a (by omega))), fun q hq => ?_⟩
    by_cases l : q = p
    · subst l
      show gI (sI x2 243 q (f (kBx C + q) : Int)) 243 q = _
      rw [gI_set, w32_id (by omega)]
    · show gI (sI x2 243 p (f (kBx C + p) : Int)) 243 q = _
      rw [hI_sI_i l, a3.1 _ _ (by omega)]; exact b4 q (by omega)
  · obtain ⟨z1, z2⟩ := z
    obtain ⟨b1, b2, b3, b4⟩ := hI
    dsimp only at b1 b2 b3 b4
    subst b1
    have hc : gI z2 219 1 = (kPn C : Int) := (h.ch b2 (by omega)).2.1.1
    unfold mX16_gather_L249
    dsimp only
    rw [hc, w32_id (by omega), if_neg (by omega)]
    exact WP_some.2 ⟨b2, b3, b4⟩
theorem k_gather16 (h : KGa k C S) (hk : k < 4) (w : WFC C) (wp : WFP C) (wB : WFB C) (hB : C 23 0 ≠ -1) (hP0 : C 16 0 ≠ 0) (hP : kPn C ≤ 640) :
    WP (mX16_gather S) (fun z => Ch 241 243 S z ∧ ∃ f, UFs z 241 (kBx C + kPn C) (EAll C) f ∧ ∀ p, p < kPn C → gI z 243 p = (f (kBx C + p) : Int)) := by
  obtain ⟨nb, nb2⟩ := kBx_e wB hB
  have h0 : gI S (344 + 22 * k) 20 = (kBx C : Int) := by rw [h.1.2.1]; exact nb
  unfold mX16_gather
  rw [h.1.1, gk_chip hk]
  refine WP_call (k_gather10 h hk wB hB rfl hP h0) (fun x1 hx1 => ?_)
  obtain ⟨c1, f1, u1⟩ := hx1
  refine WP_call (k_gather38 (h.ch c1 (by omega)) hk wB hB (by omega) u1 h0) (fun x2 hx2 => ?_)
  obtain ⟨c2, f2, u2⟩ := hx2
  have c2' := c1.tr c2 (by omega) (by omega)
  refine WP_call (k_gather171 (h.ch c2' (by omega)) hk w wp wB hB hP0 (by omega) u2 h0) (fun x3 hx3 => ?_)
  obtain ⟨c3, f3, u3⟩ := hx3
  have c3' := c2'.tr c3 (by omega) (by omega)
  refine WP_call (k_gather249 (h.ch c3' (by omega)) hk wB hB (by omega) hP u3 h0) (fun x4 hx4 => WP_some.2 ?_)
  obtain ⟨c4, u4, v4⟩ := hx4
  exact ⟨((Ch.refl (lo := 241) (hi := 243)).tr c3' (by omega) (by omega)).tr c4 (by omega) (by omega), f3, u4, v4⟩
end KGATHER2
