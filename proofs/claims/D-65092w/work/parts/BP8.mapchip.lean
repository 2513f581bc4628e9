/-! the chip that map makes -/
noncomputable def mpC (G : Dsg) (B : Lib) : Chp := fun f i => match f with
  | 0 => (gIn G : Int)
  | 1 => (gSt G : Int)
  | 2 => (gOu G : Int)
  | 3 => ((rtS G B (nRt G)).1.length : Int)
  | 4 => ((rtS G B (nRt G)).1.getD i (0, 0, 0, 0)).1
  | 5 => if i % 3 = 0 then ((rtS G B (nRt G)).1.getD (i / 3) (0, 0, 0, 0)).2.1 else if i % 3 = 1 then ((rtS G B (nRt G)).1.getD (i / 3) (0, 0, 0, 0)).2.2.1 else ((rtS G B (nRt G)).1.getD (i / 3) (0, 0, 0, 0)).2.2.2
  | 6 => rtN G (rtS G B (i + 1)) (rtL G i)
  | 7 => rtN G (rtS G B (gOu G + i + 1)) (rtL G (gOu G + i))
  | 8 => (liN B : Int)
  | 9 => B 1 i
  | 10 => B 2 i
  | 11 => B 3 i
  | 12 => B 4 i
  | 13 => G 11 0
  | 14 => G 11 0
  | 23 => -1
  | 28 => -1
  | _ => 0
section MAPCHIP
variable {S z : Sto} {G : Dsg} {B : Lib} {d n i k l p j g : Nat}
theorem mpC_5 : mpC G B 5 (3 * g) = ((rtS G B (nRt G)).1.getD g (0, 0, 0, 0)).2.1 ∧ mpC G B 5 (3 * g + 1) = ((rtS G B (nRt G)).1.getD g (0, 0, 0, 0)).2.2.1 ∧ mpC G B 5 (3 * g + 2) = ((rtS G B (nRt G)).1.getD g (0, 0, 0, 0)).2.2.2 := by
  have e : ∀ i, mpC G B 5 i = if i % 3 = 0 then ((rtS G B (nRt G)).1.getD (i / 3) (0, 0, 0, 0)).2.1 else if i % 3 = 1 then ((rtS G B (nRt G)).1.getD (i / 3) (0, 0, 0, 0)).2.2.1 else ((rtS G B (nRt G)).1.getD (i / 3) (0, 0, 0, 0)).2.2.2 := fun i => rfl
  refine ⟨?_, ?_, ?_⟩
  · rw [e, if_pos (by omega), show 3 * g / 3 = g by omega]
  · rw [e, if_neg (by omega), if_pos (by omega), show (3 * g + 1) / 3 = g by omega]
  · rw [e, if_neg (by omega), if_neg (by omega), show (3 * g + 2) / 3 = g by omega]
theorem mpC_i : kI (mpC G B) = gIn G := Int.toNat_natCast _
theorem mpC_r : kR (mpC G B) = gSt G := Int.toNat_natCast _
theorem mpC_o : kO (mpC G B) = gOu G := Int.toNat_natCast _
theorem mpC_g : kG (mpC G B) = (rtS G B (nRt G)).1.length := Int.toNat_natCast _
theorem mpC_l : kL (mpC G B) = liN B := Int.toNat_natCast _
theorem mpC_w (w : WFG G) (wl : WFL B) (hn : ¬ NoM G B) (hl : (rtS G B (nRt G)).1.length ≤ 150) : WFC (mpC G B) := by
  have hr : rOK G B := Classical.byContradiction (fun q => hn (.inl q))
  have nb : ¬ (lInv B = -1 ∧ trlN G (nRt G)) := fun q => hn (.inr q)
  have ng := w.nums
  have nl := wl.nums
  have w1 := w.1
  have wi := w.i
  have wr := w.s
  have w64 := w.st64.1; have w65 := w.st64.2.1
  have wo := w.o
  have e1 : gFi G = 1 + gIn G + gSt G := rfl
  have eR : nRt G = gOu G + gSt G := rfl
  have gt := gtS w wl hr nb _ (Nat.le_refl _)
  have gst := w.2.2.2.2.2.2
  refine ⟨⟨?_, ?_, ?_, ?_, ?_, ?_, ?_, ?_, ?_, ?_⟩, fun c hc => ?_, fun g hg => ?_, fun k hk => ?_, fun k hk => ?_, ?_⟩
  · show (0 : Int) ≤ (gIn G : Int); omega
  · show (0 : Int) ≤ (gSt G : Int); omega
  · show (gSt G : Int) ≤ 6; omega
  · show (gIn G : Int) + (gSt G : Int) ≤ 12; omega
  · show (1 : Int) ≤ (gOu G : Int); omega
  · show (gOu G : Int) ≤ 16; omega
  · show (0 : Int) ≤ ((rtS G B (nRt G)).1.length : Int); omega
  · show ((rtS G B (nRt G)).1.length : Int) ≤ 150; omega
  · show (1 : Int) ≤ (liN B : Int); omega
  · show (liN B : Int) ≤ 12; omega
  · rw [mpC_l] at hc
    obtain ⟨b1, b2, _, _, b5, b6, b7, b8⟩ := wl.2 c hc
    obtain ⟨b3, b4⟩ := wl.f2 hc
    exact ⟨b1, b2, b3, b4, b5, b6, b7, b8⟩
  · rw [mpC_g] at hg
    obtain ⟨⟨q1, q2⟩, q3, q4, q5, q6, q7, q8⟩ := gt g hg
    obtain ⟨e0, e2, e3⟩ := mpC_5 (G := G) (B := B) (g := g)
    have ea : kAr (mpC G B) g = bI B ((rtS G B (nRt G)).1.getD g (0, 0, 0, 0)).1.toNat := rfl
    have eb : mpC G B 0 0 + mpC G B 1 0 + (g : Int) = (gFi G : Int) - 1 + (g : Int) := by show (gIn G : Int) + (gSt G : Int) + (g : Int) = _; omega
    refine ⟨q1, q2, fun k hk => ?_⟩
    rw [ea] at hk
    rw [eb]
    have b3 : bI B ((rtS G B (nRt G)).1.getD g (0, 0, 0, 0)).1.toNat ≤ 3 := by
      have := (wl.2 ((rtS G B (nRt G)).1.getD g (0, 0, 0, 0)).1.toNat (by omega)).2.1
      unfold bI; omega
    have h3 : k = 0 ∨ k = 1 ∨ k = 2 := by omega
    rcases h3 with rfl | rfl | rfl
    · rw [show 3 * g + 0 = 3 * g from rfl, e0]; exact q3.resolve_left (q6 hk)
    · rw [e2]; exact q4.resolve_left (q7 hk)
    · rw [e3]; exact q5.resolve_left (q8 hk)
  · rw [mpC_o] at hk
    have := rtN_w w wl hr (i := k) (by omega)
    show -2 ≤ rtN G (rtS G B (k + 1)) (rtL G k) ∧ rtN G (rtS G B (k + 1)) (rtL G k) < (gIn G : Int) + (gSt G : Int) + ((rtS G B (nRt G)).1.length : Int)
    omega
  · rw [mpC_r] at hk
    have := rtN_w w wl hr (i := gOu G + k) (by omega)
    show -2 ≤ rtN G (rtS G B (gOu G + k + 1)) (rtL G (gOu G + k)) ∧ rtN G (rtS G B (gOu G + k + 1)) (rtL G (gOu G + k)) < (gIn G : Int) + (gSt G : Int) + ((rtS G B (nRt G)).1.length : Int)
    omega
  · rw [mpC_r]
    exact ⟨gst.1, gst.2.1, gst.1, gst.2.1⟩
theorem mpC_wx : WFX (mpC G B) := by
  have z16 : mpC G B 16 0 = 0 := rfl
  have z28 : kSn (mpC G B) = 0 := rfl
  have z25 : kFs (mpC G B) = 0 := rfl
  have z23 : kBx (mpC G B) = 0 := rfl
  refine ⟨⟨⟨?_, ?_, ?_, ?_, fun _ => rfl, fun q => absurd z16 q⟩, fun q => absurd z16 q, fun q => absurd z16 q⟩, ⟨.inl rfl, fun q => ?_⟩, ⟨⟨?_, ?_, fun q => absurd rfl q⟩, fun b hb => ?_⟩, ⟨⟨?_, ?_⟩, fun i hi => ?_⟩, ⟨?_, ?_⟩, fun i hi => ?_⟩
  · show (0 : Int) ≤ 0; omega
  · show (0 : Int) ≤ 60; omega
  · show (0 : Int) ≤ 0; omega
  · show (0 : Int) ≤ 12; omega
  · have q' : (0 : Int) = 1 := q
    omega
  · show (-1 : Int) ≤ -1; omega
  · show (-1 : Int) ≤ 2000; omega
  · rw [z23] at hb; omega
  · show (0 : Int) ≤ 0; omega
  · show (0 : Int) ≤ 40; omega
  · rw [z25] at hi; omega
  · show (-1 : Int) ≤ -1; omega
  · show (-1 : Int) ≤ 1224; omega
  · rw [z28] at hi; omega
theorem mpC_rep (h : KCh z G B k) (r : RepL z (344 + 22 * k + 1) B) (wl : WFL B) : RepK z (344 + 22 * k) (mpC G B) := by
  obtain ⟨⟨a1, a2, a3, a4, a5⟩, ⟨b1, b2, _⟩, c1, c2, _⟩ := h
  refine ⟨⟨a1, a2, a3, b1, r.1.trans wl.n, a4, a5⟩, fun g hg => ?_, fun i hi => ?_, fun i hi => ?_, fun i hi => ?_, fun c hc => ?_⟩
  · rw [mpC_g] at hg; exact (b2 g hg).1
  · rw [mpC_g] at hi
    obtain ⟨e0, e2, e3⟩ := mpC_5 (G := G) (B := B) (g := i / 3)
    obtain ⟨_, v1, v2, v3⟩ := b2 (i / 3) (by omega)
    have q : i = 3 * (i / 3) ∨ i = 3 * (i / 3) + 1 ∨ i = 3 * (i / 3) + 2 := by omega
    generalize i / 3 = g at *
    rcases q with rfl | rfl | rfl
    · rw [e0]; exact v1
    · rw [e2]; exact v2
    · rw [e3]; exact v3
  · rw [mpC_o] at hi; exact c1 i hi
  · rw [mpC_r] at hi; exact c2 i hi
  · rw [mpC_l] at hc; exact r.2 c hc
theorem mpC_repX (h : KCh z G B k) : RepX z (344 + 22 * k) (mpC G B) := by
  obtain ⟨_, _, _, _, d1, d2, d3, d4, d5, d6, d7, d8⟩ := h
  have z16 : mpC G B 16 0 = 0 := rfl
  have z28 : kSn (mpC G B) = 0 := rfl
  have z25 : kFs (mpC G B) = 0 := rfl
  have z23 : kBx (mpC G B) = 0 := rfl
  have kh : kH (mpC G B) = 0 := by unfold kH; rw [z16]; rfl
  refine ⟨⟨⟨d1, d2, d3.trans kh.symm⟩, fun q => absurd z16 q⟩, ⟨d5, fun q => ?_⟩, ⟨d6, fun i hi => ?_⟩, ⟨d4, fun i hi => ?_⟩, d7, fun i hi => ?_, .inl d8, fun q => ?_⟩
  · have q' : (0 : Int) = 1 := q
    omega
  · rw [z23] at hi; omega
  · rw [z25] at hi; omega
  · rw [z28] at hi; omega
  · rw [d8] at q; exact absurd q (by decide)
theorem mpC_ref (h : MCh z G B j (rtS G B (nRt G)).1) (h1 : ∀ i, i < gOu G → gI z 2114 (16 * j + i) = rtN G (rtS G B (i + 1)) (rtL G i)) (h2 : ∀ i, i < gSt G → gI z 2115 (6 * j + i) = rtN G (rtS G B (gOu G + i + 1)) (rtL G (gOu G + i))) : RefK z j (mpC G B) := by
  obtain ⟨⟨_, a1, a2, a3, a4, a5, a6, a7⟩, b, c, _⟩ := h
  refine ⟨⟨a1, a2, a3, a6, a7, a4, a5⟩, fun g hg => ?_, fun i hi => ?_, fun i hi => ?_, fun i hi => ?_, fun c' hc => ?_⟩
  · rw [mpC_g] at hg; exact (b g hg).1
  · rw [mpC_g] at hi
    obtain ⟨e0, e2, e3⟩ := mpC_5 (G := G) (B := B) (g := i / 3)
    obtain ⟨_, v1, v2, v3⟩ := b (i / 3) (by omega)
    have q : i = 3 * (i / 3) ∨ i = 3 * (i / 3) + 1 ∨ i = 3 * (i / 3) + 2 := by omega
    generalize i / 3 = g at *
    rcases q with rfl | rfl | rfl
    · rw [e0]; exact v1
    · rw [e2]; exact v2
    · rw [e3]; exact v3
  · rw [mpC_o] at hi; exact h1 i hi
  · rw [mpC_r] at hi; exact h2 i hi
  · rw [mpC_l] at hc; exact c c' hc
theorem mpC_refX (w : WFC (mpC G B)) (h : MCh z G B j (rtS G B (nRt G)).1) : RefX z j (mpC G B) := by
  obtain ⟨_, _, _, ⟨d1, d2, d3, d4, d5⟩, e⟩ := h
  have z16 : mpC G B 16 0 = 0 := rfl
  have z28 : kSn (mpC G B) = 0 := rfl
  have z25 : kFs (mpC G B) = 0 := rfl
  have z23 : kBx (mpC G B) = 0 := rfl
  have fa := kFa_le w
  refine ⟨⟨⟨d1, fun q => absurd z16 q⟩, fun q => absurd z16 q⟩, ⟨d2, fun q => ?_⟩, ⟨d3, fun q => absurd rfl q, fun i hi => ?_⟩, ⟨d4, fun i hi => ?_⟩, d5, fun i hi => ?_, fun i f hi => ?_, fun f hf => .inl (e f (by omega))⟩
  · have q' : (0 : Int) = 1 := q
    omega
  · rw [z23] at hi; omega
  · rw [z25] at hi; omega
  · rw [z28] at hi; omega
  · rw [z28] at hi; omega
end MAPCHIP
