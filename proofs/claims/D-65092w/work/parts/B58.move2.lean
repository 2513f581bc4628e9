/-! move: the call -/
theorem gI_set {S : Sto} {a i : Nat} {v : Int} : gI (sI S a i v) a i = w32 v := by rw [hI_sI, if_pos ⟨rfl, rfl⟩]
theorem kept_ne {a i b : Nat} (h : kept a i = true) (hb : keptL b = false) : a ≠ b := by
  intro e
  subst e
  have := kept_lab h
  rw [hb] at this
  exact (nomatch this)
theorem L_boolF {c : Nat} {S : Sto} {m : Option ((Int × Sto) ⊕ (Nat × Sto))} {m1 : Sto → Option (Int × Sto)} {cs : List (Nat × Int)} (code : Int) (kd : Nat) (h : Inv c S) (hc : c < 64)
    (hx : m = some (.inr (kd, thrS S))) (hcs : cs.lookup kd = some code) (hcode : 0 < code ∧ code < 10)
    (hm : ∀ S1, (∀ a i, gI S1 a i = gI S a i) → m1 S1 = some (0, sI S1 2000 0 code)) :
    WP (bX (bC m (fun x1 => bX (if ¬ w32 x1.1 = 0 then some 1 else some 0) fun y2 => wrL 1 x1.2 2178 0 y2 fun S3 => some (0, S3)) cs) fun x1 => bX (m1 x1.2) fun x2 => bX (mX23_thrown x2.2) fun x3 => if ¬ w32 x3 = w32 x1.1 then none else bX (if w32 x1.1 = 0 then rdL 1 x2.2 2178 0 fun v4 => bX (if ¬ w32 x2.1 = 0 then some 1 else some 0) fun y5 => if ¬ w32 (lCmp v4 y5) = 0 then none else some () else some ()) fun y6 => some x2.2) (Inv (c + 1)) := by
  refine L_bool (bC_WP ?_)
  rw [hx, WP_some, WE_inr]
  refine ⟨code, hcs, ?_⟩
  show WP (m1 (thrS S)) _
  rw [hm (thrS S) (fun _ _ => rfl)]
  refine WP_some.2 ⟨?_, fun g => absurd g (by omega), .inr (by rw [w32_id (by omega)]; omega), h.q2 hc⟩
  rw [hI_sI, if_pos ⟨rfl, rfl⟩, w32_w32]
theorem L_boolS {c : Nat} {m : Option ((Int × Sto) ⊕ (Nat × Sto))} {m1 : Sto → Option (Int × Sto)} {cs : List (Nat × Int)}
    (hm : WP m (WE (fun x => WP (m1 (sL x.2 2178 0 (if ¬ w32 x.1 = 0 then 1 else 0))) (fun y => y.1 = x.1 ∧ gI y.2 2000 0 = 0 ∧ gL y.2 2178 0 = (if ¬ w32 x.1 = 0 then 1 else 0) ∧ Inv (c + 1) y.2)) (fun _ => False))) :
    WP (bX (bC m (fun x1 => bX (if ¬ w32 x1.1 = 0 then some 1 else some 0) fun y2 => wrL 1 x1.2 2178 0 y2 fun S3 => some (0, S3)) cs) fun x1 => bX (m1 x1.2) fun x2 => bX (mX23_thrown x2.2) fun x3 => if ¬ w32 x3 = w32 x1.1 then none else bX (if w32 x1.1 = 0 then rdL 1 x2.2 2178 0 fun v4 => bX (if ¬ w32 x2.1 = 0 then some 1 else some 0) fun y5 => if ¬ w32 (lCmp v4 y5) = 0 then none else some () else some ()) fun y6 => some x2.2) (Inv (c + 1)) := by
  refine L_bool (bC_WP (hm.mono fun z hz => ?_))
  cases z with
  | inr t => exact False.elim hz
  | inl x =>
    show WP (bX (if ¬ w32 x.1 = 0 then some 1 else some 0) fun y2 => wrL 1 x.2 2178 0 y2 fun S3 => some (0, S3)) _
    rw [ite_someL, bX_some, wrL_e (by omega)]
    refine WP_some.2 ?_
    refine WP.mono (m := m1 (sL x.2 2178 0 (if ¬ w32 x.1 = 0 then 1 else 0))) hz (fun y hy => ?_)
    obtain ⟨q1, q2, q3, q4⟩ := hy
    exact ⟨by rw [q2], fun _ => by rw [q3, q1], .inl rfl, q4⟩
section KMV2
variable {S : Sto} {L k : Nat} {C : Chp} {e : Nat} {x y : Int}
theorem k_move_out (r : RepK S L C) (rP : RepP S L C) (wf : WFC C) (wp : WFP C) (he : e < kE C) (hx : -2147483648 ≤ x ∧ x < 2147483648) (hy : -2147483648 ≤ y ∧ y < 2147483648) (g : ¬ (0 ≤ y ∧ y < C 16 0 ∧ 0 ≤ x ∧ x + kSz C e ≤ C 15 0)) : mX14_move S L (e : Int) x y = some (0, S) := by
  have p1 := wp.1
  have sz := kSz_rng wf he
  have se := kSz_eq he
  have he' : e < kR C + kG C := he
  have ks := k_size r wf (p := (e : Int)) (by omega)
  rw [se] at ks
  unfold mX14_move
  rw [w32_id hy, rP.1.2.1, w32_id (by omega), w32_id hx]
  by_cases c1 : 0 ≤ y
  · rw [if_pos c1]
    by_cases c2 : y < C 16 0
    · rw [if_pos c2]
      by_cases c3 : 0 ≤ x
      · rw [if_pos c3, ks, bX_some, rP.1.1, w32_id (by omega), if_pos (by omega)]; rfl
      · rw [if_neg c3]; rfl
    · rw [if_neg c2]; rfl
  · rw [if_neg c1]; rfl
theorem k_move {xn : Nat} (r : RepK S L C) (rP : RepP S L C) (wf : WFC C) (wp : WFP C) (h0 : C 16 0 ≠ 0) (hL : 344 ≤ L) (he : e < kE C) (g : 0 ≤ y ∧ y < C 16 0 ∧ (xn : Int) + kSz C e ≤ C 15 0) :
    WP (mX14_move S L (e : Int) (xn : Int) y) (fun z => (z.1 = 0 ∧ ¬ mvFree C e xn y ∧ ∀ a i, a ≠ 227 → gI z.2 a i = gI S a i) ∨ (z.1 = 1 ∧ mvFree C e xn y ∧ gI z.2 (L + 10) e = xn ∧ gI z.2 (L + 11) e = y ∧ gI z.2 L 16 = 0 ∧ gI z.2 L 20 = -1 ∧ ∀ a i, a ≠ 227 → ¬ (a = L + 10 ∧ i = e) → ¬ (a = L + 11 ∧ i = e) → ¬ (a = L ∧ (i = 16 ∨ i = 20)) → gI z.2 a i = gI S a i)) := by
  have p1 := wp.1
  have hn := wf.nums
  have hE : kE C ≤ 156 := by unfold kE; omega
  have sz := kSz_rng wf he
  have se := kSz_eq he
  have he' : e < kR C + kG C := he
  have ks := k_size r wf (p := (e : Int)) (by omega)
  rw [se] at ks
  have mi := mv_iff (C := C) (e := e) (xn := xn) (y := y) (fun f hf => (kSz_rng wf hf).1) he
  unfold mX14_move
  rw [w32_id (show -2147483648 ≤ y ∧ y < 2147483648 by omega), rP.1.2.1, w32_id (by omega), w32_id (by omega), if_pos g.1, if_pos g.2.1, if_pos (by omega), ks, bX_some, rP.1.1, w32_id (by omega), if_neg (by omega), bX_some, if_neg (by decide)]
  refine WP_call (k_mv37 wp rP hL) (fun S4 h4 => ?_)
  have r4 : RepK S4 L C := r.cg (fun a j l1 l2 => h4.2 a j (by omega))
  have rP4 : RepP S4 L C := by
    obtain ⟨⟨z1, z2, z3⟩, z4⟩ := rP
    refine ⟨⟨(h4.2 _ _ (by omega)).trans z1, (h4.2 _ _ (by omega)).trans z2, (h4.2 _ _ (by omega)).trans z3⟩, fun q f hf => ?_⟩
    exact ⟨(h4.2 _ _ (by omega)).trans (z4 q f hf).1, (h4.2 _ _ (by omega)).trans (z4 q f hf).2⟩
  refine WP_call (k_mv63 (e := e) (y := y) r4 rP4 wf wp h0 hL (by omega) (by omega) h4.1) (fun S13 h13 => ?_)
  have g13 : ∀ a i, a ≠ 227 → gI S13 a i = gI S a i := fun a i q => (h13.2 a i q).trans (h4.2 a i q)
  have r13 : RepK S13 L C := r.cg (fun a j l1 l2 => g13 a j (by omega))
  refine WP_bE.2 ((k_mv135 (xn := xn) (t := tkn C e y (kE C)) r13 wf he (by omega) (fun s hs => h13.1 s (by omega))).mono (fun t ht => ?_))
  cases t with
  | inl u =>
    have hf := mi.2 ht
    show WP (wrI 156 S13 (L + 10) (e : Int) (xn : Int) fun S18 => wrI 156 S18 (L + 11) (e : Int) y fun S19 => bX (mX22_forgetWires S19 L) fun x20 => some (1, x20)) _
    rw [wrI_e (by omega), wrI_e (by omega), Int.toNat_natCast]
    unfold mX22_forgetWires mX22_forgetLayout
    rw [wf_eq, wf_eq, bX_some, bX_some]
    refine WP_some.2 (.inr ⟨rfl, hf, ?_, ?_, ?_, ?_, fun a i q1 q2 q3 q4 => ?_⟩)
    · rw [hI_sI_a (by omega), hI_sI_a (by omega), hI_sI_a (by omega), gI_set, w32_id (by omega)]
    · rw [hI_sI_a (by omega), hI_sI_a (by omega), gI_set, w32_id (by omega)]
    · rw [hI_sI_i (by omega), gI_set]; rfl
    · rw [gI_set]; rfl
    · rw [hI_sI, if_neg (by omega), hI_sI, if_neg (by omega), hI_sI, if_neg (by omega), hI_sI, if_neg (by omega)]; exact g13 a i q1
  | inr z =>
    obtain ⟨rfl, hf⟩ := ht
    exact .inl ⟨rfl, fun g' => hf (mi.1 g'), g13⟩
theorem m_mv80 (r : RefK S k C) (rP : RefP S k C) (wf : WFC C) (wp : WFP C) (h0 : C 16 0 ≠ 0) (hk : k < 4) (he : e < kE C) (hx : 0 ≤ x ∧ x ≤ 60) (hy : 0 ≤ y ∧ y ≤ 12) :
    WP (lpF (mX23_move_L80 S (k : Int) (e : Int) y x) 0) (WE (fun _ => mvFree C e x y) (fun z => z = (0, S) ∧ ¬ mvFree C e x y)) := by
  have p1 := wp.1
  have hn := wf.nums
  have hE : kE C ≤ 156 := by unfold kE; omega
  have el := m_elements r wf hk
  have sz := kSz_rng wf he
  have ks := m_sizeOf r wf hk he
  refine WP_cnt (kE C) (fun i z => z = (i : Int) ∧ ∀ f, f < i → ¬ (f ≠ e ∧ C 18 f = y ∧ C 17 f < x + kSz C e ∧ x < C 17 f + kSz C f)) (by unfold cFU; omega) ⟨rfl, fun f h => absurd h (Nat.not_lt_zero _)⟩ (fun i z hi hI => ?_) (fun z hI => ?_)
  · obtain ⟨rfl, b2⟩ := hI
    have hi' : i < kR C + kG C := hi
    have p2 := wp.2.1 h0 i hi
    have p3 := rP.2 h0 i hi
    have si := kSz_rng wf hi
    have ki := m_sizeOf r wf hk hi
    have zt : (156 * (k : Int) + (i : Int)).toNat = 156 * k + i := by omega
    have go : ¬ (i ≠ e ∧ C 18 i = y ∧ C 17 i < x + kSz C e ∧ x < C 17 i + kSz C i) → WP (some (Sum.inl ((i : Int) + 1)) : Option (Int ⊕ (Unit ⊕ (Int × Sto)))) (WE (fun z => z = ((i + 1 : Nat) : Int) ∧ ∀ f : Nat, f < i + 1 → ¬ (f ≠ e ∧ C 18 f = y ∧ C 17 f < x + kSz C e ∧ x < C 17 f + kSz C f)) (WE (fun _ => mvFree C e x y) (fun z => z = (0, S) ∧ ¬ mvFree C e x y))) := by
      intro q
      refine WP_some.2 ⟨by omega, fun f hf => ?_⟩
      by_cases z : f = i
      · subst z; exact q
      · exact b2 f (by omega)
    unfold mX23_move_L80
    rw [el, bX_some, w32_id (by omega), w32_id (by omega), if_pos (by omega), rdI_e (by omega), zt, p3.1, w32_id (by omega)]
    by_cases q1 : i = e
    · rw [if_neg (by omega), bX_some, if_neg (by decide)]
      exact go (fun g => g.1 q1)
    rw [if_pos (by omega), rdI_e (by omega), zt, p3.2, w32_id (by omega), w32_id (by omega)]
    by_cases q2 : C 18 i = y
    · rw [if_pos q2, ks, bX_some, w32_id (by omega), w32_id (by omega)]
      by_cases q3 : C 17 i < x + kSz C e
      · rw [if_pos q3, ki, bX_some, w32_id (by omega), w32_id (by omega)]
        by_cases q4 : x < C 17 i + kSz C i
        · rw [if_pos q4, bX_some, if_pos rfl]
          exact WP_some.2 ⟨rfl, fun g => g i hi ⟨q1, q2, q3, q4⟩⟩
        · rw [if_neg q4, bX_some, if_neg (by decide)]
          exact go (fun g => q4 g.2.2.2)
      · rw [if_neg q3, bX_some, if_neg (by decide)]
        exact go (fun g => q3 g.2.2.1)
    · rw [if_neg q2, bX_some, if_neg (by decide)]
      exact go (fun g => q2 g.2.1)
  · obtain ⟨rfl, b2⟩ := hI
    have e0 : ((kE C : Nat) : Int) = ((kR C + kG C : Nat) : Int) := rfl
    unfold mX23_move_L80
    rw [el, bX_some, e0, if_neg (by omega)]
    exact WP_some.2 b2
end KMV2
