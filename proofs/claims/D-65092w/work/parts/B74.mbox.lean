/-! the reference gathers its pins, finds their boxes -/
theorem RefK.cg2 {S S' : Sto} {k : Nat} {C : Chp} (h : RefK S k C) (e : ∀ a i, 2105 ≤ a → a ≤ 2125 → gI S' a i = gI S a i) : RefK S' k C := h.cg (fun a i l1 l2 => e a i (by omega) (by omega))
/-- the reference's chips are as they were -/
def KeM (S S' : Sto) : Prop := ∀ a i, (2105 ≤ a ∧ a ≤ 2120) ∨ (2122 ≤ a ∧ a ≤ 2125) → gI S' a i = gI S a i
theorem KeM.refl {S : Sto} : KeM S S := fun _ _ _ => rfl
theorem KeM.tr {S S' S'' : Sto} (h : KeM S S') (g : KeM S' S'') : KeM S S'' := fun a i q => (g a i q).trans (h a i q)
theorem KeM.sI {S S' : Sto} (h : KeM S S') {a i : Nat} {v : Int} (q : ¬ ((2105 ≤ a ∧ a ≤ 2120) ∨ (2122 ≤ a ∧ a ≤ 2125))) : KeM S (sI S' a i v) := fun b j l => (hI_sI_a (by omega)).trans (h b j l)
theorem KeM.sL {S S' : Sto} (h : KeM S S') {a i : Nat} {v : Int64} : KeM S (sL S' a i v) := fun b j l => h b j l
theorem KeM.fr {S S' : Sto} {W V : List (Nat × Option Nat)} {G : Bool} (hf : Fr W V G S S') (ho : W.all (fun z => (Nat.blt z.1 2105 || Nat.blt 2125 z.1) || Nat.beq z.1 2121) = true) : KeM S S' := fun a i q => hf.gi (okP_lab (fun z hz e => by
  have := List.all_eq_true.1 ho z hz
  rw [Bool.or_eq_true, Bool.or_eq_true, Nat.blt_eq, Nat.blt_eq, Nat.beq_eq] at this
  omega))
theorem KeM.K {S S' : Sto} (h : KeM S S') {k : Nat} {C : Chp} (r : RefK S k C) : RefK S' k C := r.cg (fun a i l1 l2 => h a i (by omega))
theorem KeM.P {S S' : Sto} (h : KeM S S') {k : Nat} {C : Chp} (r : RefP S k C) : RefP S' k C := r.cg (fun a i l1 l2 => h a i (by omega))
section MGATHER
variable {S : Sto} {C : Chp} {k : Nat}
theorem m_ga7 (r : RefK S k C) (w : WFC C) (hk : k < 4) (h : MPins S C (0, fun _ => (0, 0, 0))) : WP (lpF (mX23_gatherPins_L7 (k : Int)) (0, S)) (fun z => MPins z C (pOuts C 0)) := by
  have hn := w.nums
  refine WP_cntF (F := fun z => KeM S z.2) (Q := fun _ => True) KeM.refl (fun z hz => ((frL_mX23_gatherPins_L7 (p1 := (k : Int)) (s2 := z) (Fr.refl _ _ _ _)).mono (fun x hx => by cases x with | inl s => exact hz.tr (KeM.fr hx rfl) | inr s => trivial))) (kI C) (fun i z => z.1 = (i : Int) ∧ MPins z.2 C (pIns i)) (by unfold cFU; omega) ⟨rfl, h⟩ (fun i z hi hF hI => ?_) (fun z hF hI => ?_)
  · obtain ⟨b1, b3⟩ := hI
    have e1 := (hF.K r).1.1
    rw [w.i] at e1
    unfold mX23_gatherPins_L7
    rw [rdI_e (by omega), Int.toNat_natCast, e1, b1, w32_id (by omega), w32_id (by omega), if_pos (by omega)]
    have c := (pIns_ok w i (by omega)).2
    refine WP_call (m_addPin b3 (o := -1) (j := i) (by omega) (by omega) (fun _ _ => ⟨rfl, rfl, by omega⟩)) (fun x hx => ?_)
    exact WP_some.2 ⟨by show (i : Int) + 1 = _; omega, hx.1⟩
  · obtain ⟨b1, b3⟩ := hI
    have e1 := (hF.K r).1.1
    rw [w.i] at e1
    unfold mX23_gatherPins_L7
    rw [rdI_e (by omega), Int.toNat_natCast, e1, b1, if_neg (by omega)]
    exact WP_some.2 (fun _ => b3)
theorem m_ga32 (r : RefK S k C) (rP : RefP S k C) (w : WFC C) (wp : WFP C) (hk : k < 4) (h : MPins S C (pOuts C 0)) : WP (lpF (mX23_gatherPins_L32 (k : Int)) (0, S)) (fun z => MPins z C (pEls C 0)) := by
  have hn := w.nums
  have p1 := wp.1
  refine WP_cntF (F := fun z => KeM S z.2) (Q := fun _ => True) KeM.refl (fun z hz => ((frL_mX23_gatherPins_L32 (p1 := (k : Int)) (s6 := z) (Fr.refl _ _ _ _)).mono (fun x hx => by cases x with | inl s => exact hz.tr (KeM.fr hx rfl) | inr s => trivial))) (kO C) (fun i z => z.1 = (i : Int) ∧ MPins z.2 C (pOuts C i)) (by unfold cFU; omega) ⟨rfl, h⟩ (fun i z hi hF hI => ?_) (fun z hF hI => ?_)
  · obtain ⟨b1, b3⟩ := hI
    have rz := hF.K r
    have e1 := rz.1.2.2.1
    rw [w.o] at e1
    have e6 := rz.2.2.2.1 i hi
    have w6 := w.2.2.2.1 i hi
    rw [w.i, w.r, w.g] at w6
    have e2 := (hF.P rP).1.2
    have zt : (16 * (k : Int) + (i : Int)).toNat = 16 * k + i := by omega
    unfold mX23_gatherPins_L32
    rw [rdI_e (by omega), Int.toNat_natCast, e1, b1, w32_id (by omega), w32_id (by omega), if_pos (by omega), rdI_e (by omega), zt, rdI_e (by omega), Int.toNat_natCast, e6]
    have c := pOuts_le w (i := i) (by omega)
    refine WP_call (m_addPin b3 (o := -2) (j := i) (by omega) (by omega) (fun h0 _ => ?_)) (fun x hx => ?_)
    · rw [e2 h0]; exact ⟨rfl, rfl, by omega⟩
    · exact WP_some.2 ⟨by show (i : Int) + 1 = _; omega, hx.1⟩
  · obtain ⟨b1, b3⟩ := hI
    have e1 := (hF.K r).1.2.2.1
    rw [w.o] at e1
    unfold mX23_gatherPins_L32
    rw [rdI_e (by omega), Int.toNat_natCast, e1, b1, if_neg (by omega)]
    exact WP_some.2 (fun _ => b3)
theorem pEl_2 {s : Pst} {e : Nat} : pEl C s e 2 = pAdd (pAdd s (kNp C e 0) e 0) (kNp C e 1) e 1 := rfl
theorem m_ga74 (r : RefK S k C) (rP : RefP S k C) (w : WFC C) (wp : WFP C) (hk : k < 4) (h : MPins S C (pEls C 0)) : WP (lpF (mX23_gatherPins_L74 (k : Int)) (0, S)) (fun z => MPins z C (pEls C (kR C))) := by
  have hn := w.nums
  have p1 := wp.1
  refine WP_cntF (F := fun z => KeM S z.2) (Q := fun _ => True) KeM.refl (fun z hz => ((frL_mX23_gatherPins_L74 (p1 := (k : Int)) (s12 := z) (Fr.refl _ _ _ _)).mono (fun x hx => by cases x with | inl s => exact hz.tr (KeM.fr hx rfl) | inr s => trivial))) (kR C) (fun i z => z.1 = (i : Int) ∧ MPins z.2 C (pEls C i)) (by unfold cFU; omega) ⟨rfl, h⟩ (fun i z hi hF hI => ?_) (fun z hF hI => ?_)
  · obtain ⟨b1, b3⟩ := hI
    have hE : i < kE C := by unfold kE; omega
    have rz := hF.K r
    have e1 := rz.1.2.1
    rw [w.r] at e1
    have e7 := rz.2.2.2.2.1 i hi
    have w7 := w.2.2.2.2.1 i hi
    rw [w.i, w.r, w.g] at w7
    have zt : (6 * (k : Int) + (i : Int)).toNat = 6 * k + i := by omega
    have sz : kSz C i = 2 := if_pos hi
    have c := pEls_le w (e := i) (by omega)
    have n0 : kNp C i 0 = C 7 i := by unfold kNp; rw [if_pos hi, if_neg (by omega)]
    have n1 : kNp C i 1 = ((kI C + i : Nat) : Int) := by unfold kNp; rw [if_pos hi, if_pos rfl]
    unfold mX23_gatherPins_L74
    rw [rdI_e (by omega), Int.toNat_natCast, e1, b1, w32_id (by omega), w32_id (by omega), if_pos (by omega), rdI_e (by omega), zt, e7]
    refine WP_callF (m_addPinOf (e := i) (j := 0) (net := C 7 i) b3 w wp (hF.P rP) hk hE (by omega) (by omega) (by omega)) (fr_mX23_addPinOf) (fun x hx hf => ?_)
    have hx1 : KeM S x := hF.tr (KeM.fr hf rfl)
    have e0 := (hx1.K r).1.1
    rw [w.i] at e0
    have cc := pAdd_count (s := pEls C i) (net := C 7 i) (o := (i : Int)) (j := 0)
    rw [rdI_e (by omega), Int.toNat_natCast, e0]
    refine WP_call (m_addPinOf (e := i) (j := 1) (net := (kI C : Int) + (i : Int)) hx.1 w wp (hx1.P rP) hk hE (by omega) (by omega) (by omega)) (fun y hy => ?_)
    refine WP_some.2 ⟨by show (i : Int) + 1 = _; omega, ?_⟩
    show MPins y C (pEl C (pEls C i) i (kSz C i))
    rw [sz, pEl_2, n0, n1]; exact hy.1
  · obtain ⟨b1, b3⟩ := hI
    have e1 := (hF.K r).1.2.1
    rw [w.r] at e1
    unfold mX23_gatherPins_L74
    rw [rdI_e (by omega), Int.toNat_natCast, e1, b1, if_neg (by omega)]
    exact WP_some.2 (fun _ => b3)
theorem m_ga160 (r : RefK S k C) (rP : RefP S k C) (w : WFC C) (wp : WFP C) (hk : k < 4) {g : Nat} (hg : g < kG C) {T : Sto} (h : MPins S C (pEls C (kR C + g))) : WP (lpF (mX23_gatherPins_L160 (kAr C g : Int) (k : Int) ((g : Int), T) (kR C : Int)) (0, S)) (fun z => MPins z C (pEl C (pEls C (kR C + g)) (kR C + g) (kAr C g))) := by
  have hn := w.nums
  have ar := w.ar hg
  have hE : kR C + g < kE C := by unfold kE; omega
  have sz : kSz C (kR C + g) = kAr C g + 1 := by unfold kSz; rw [if_neg (by omega), show kR C + g - kR C = g by omega]
  refine WP_cntF (F := fun z => KeM S z.2) (Q := fun _ => True) KeM.refl (fun z hz => ((frL_mX23_gatherPins_L160 (s24 := z) (Fr.refl _ _ _ _)).mono (fun x hx => by cases x with | inl s => exact hz.tr (KeM.fr hx rfl) | inr s => trivial))) (kAr C g) (fun i z => z.1 = (i : Int) ∧ MPins z.2 C (pEl C (pEls C (kR C + g)) (kR C + g) i)) (by unfold cFU; omega) ⟨rfl, h⟩ (fun i z hi hF hI => ?_) (fun z hF hI => ?_)
  · obtain ⟨b1, b3⟩ := hI
    have e5 := (hF.K r).2.2.1 (3 * g + i) (by omega)
    have w5 := w.p hg hi
    have zt : (3 * ((150 * (k : Int)) + (g : Int)) + (i : Int)).toNat = 450 * k + (3 * g + i) := by omega
    have np : kNp C (kR C + g) i = C 5 (3 * g + i) := by unfold kNp; rw [if_neg (by omega), show kR C + g - kR C = g by omega, if_neg (by omega)]
    have c1 := pEls_le2 w hE
    have c := (pEl_ok w (pEls_ok w (kR C + g) (by omega)).1 hE i (by omega)).2.1
    have ee : (kR C : Int) + (g : Int) = ((kR C + g : Nat) : Int) := by omega
    unfold mX23_gatherPins_L160
    dsimp only
    rw [b1, w32_id (by omega), w32_id (by omega), if_pos (by omega), rdI_e (by omega), zt, e5, ee]
    refine WP_call (m_addPinOf (e := kR C + g) (j := i) (net := C 5 (3 * g + i)) b3 w wp (hF.P rP) hk hE (by omega) (by omega) (by omega)) (fun x hx => ?_)
    refine WP_some.2 ⟨by show (i : Int) + 1 = _; omega, ?_⟩
    show MPins x C (pAdd _ (kNp C (kR C + g) i) ((kR C + g : Nat) : Int) i)
    rw [np]; exact hx.1
  · obtain ⟨b1, b3⟩ := hI
    unfold mX23_gatherPins_L160
    dsimp only
    rw [b1, if_neg (by omega)]
    exact WP_some.2 (fun _ => b3)
theorem m_ga125 (r : RefK S k C) (rP : RefP S k C) (w : WFC C) (wp : WFP C) (hk : k < 4) (h : MPins S C (pEls C (kR C))) : WP (lpF (mX23_gatherPins_L125 (k : Int)) (0, S)) (fun z => MPins z C (kPins C)) := by
  have hn := w.nums
  refine WP_cntF (F := fun z => KeM S z.2) (Q := fun _ => True) KeM.refl (fun z hz => ((frL_mX23_gatherPins_L125 (p1 := (k : Int)) (s19 := z) (Fr.refl _ _ _ _)).mono (fun x hx => by cases x with | inl s => exact hz.tr (KeM.fr hx rfl) | inr s => trivial))) (kG C) (fun i z => z.1 = (i : Int) ∧ MPins z.2 C (pEls C (kR C + i))) (by unfold cFU; omega) ⟨rfl, h⟩ (fun i z hi hF hI => ?_) (fun z hF hI => ?_)
  · obtain ⟨b1, b3⟩ := hI
    have ar := w.ar hi
    have hE : kR C + i < kE C := by unfold kE; omega
    have sz : kSz C (kR C + i) = kAr C i + 1 := by unfold kSz; rw [if_neg (by omega), show kR C + i - kR C = i by omega]
    have rz := hF.K r
    have e3 := rz.1.2.2.2.1
    rw [w.g] at e3
    have e1 := rz.1.2.1
    rw [w.r] at e1
    have ci := w.c hi
    have li := w.li ci.2
    have e9 := (rz.2.2.2.2.2 (kC C i) ci.2).1
    rw [li.1] at e9
    obtain ⟨z1, z2⟩ := z
    have b1 : z1 = (i : Int) := b1
    subst b1
    unfold mX23_gatherPins_L125
    dsimp only at e3 e1 e9 rz hF ⊢
    rw [rdI_e (by omega), Int.toNat_natCast, e3, w32_id (by omega), w32_id (by omega), if_pos (by omega), rdI_e (by omega), Int.toNat_natCast, e1, m_cellOf rz w hk (by omega), bX_some, Int.toNat_natCast, rdI_e (by omega), Int.toNat_natCast, e9]
    refine WP_callF (m_ga160 (T := z2) rz (hF.P rP) w wp hk hi b3) fr_mX23_gatherPins_L160 (fun x hx hf => ?_)
    have hx1 : KeM S x := hF.tr (KeM.fr hf rfl)
    have e0 := (hx1.K r).1.1
    rw [w.i] at e0
    have c1 := pEls_le2 w hE
    have c := (pEl_ok w (pEls_ok w (kR C + i) (by omega)).1 hE (kAr C i) (by omega)).2.1
    have ee : (kR C : Int) + (i : Int) = ((kR C + i : Nat) : Int) := by omega
    rw [rdI_e (by omega), Int.toNat_natCast, e0, ee]
    refine WP_call (m_addPinOf (e := kR C + i) (j := kAr C i) (net := (kI C : Int) + ((kR C + i : Nat) : Int)) hx w wp (hx1.P rP) hk hE (by omega) (by omega) (by omega)) (fun y hy => ?_)
    refine WP_some.2 ⟨by show (i : Int) + 1 = _; omega, ?_⟩
    show MPins y C (pEl C (pEls C (kR C + i)) (kR C + i) (kSz C (kR C + i)))
    rw [sz]
    show MPins y C (pAdd _ (kNp C (kR C + i) (kAr C i)) ((kR C + i : Nat) : Int) (kAr C i))
    have np : kNp C (kR C + i) (kAr C i) = (kI C : Int) + ((kR C + i : Nat) : Int) := by unfold kNp; rw [if_neg (by omega), show kR C + i - kR C = i by omega, if_pos rfl]; omega
    rw [np]; exact hy.1
  · obtain ⟨b1, b3⟩ := hI
    have e3 := (hF.K r).1.2.2.2.1
    rw [w.g] at e3
    unfold mX23_gatherPins_L125
    rw [rdI_e (by omega), Int.toNat_natCast, e3, b1, if_neg (by omega)]
    exact WP_some.2 (fun _ => b3)
theorem m_gather (r : RefK S k C) (rP : RefP S k C) (w : WFC C) (wp : WFP C) (hk : k < 4) : WP (mX23_gatherPins S (k : Int)) (fun z => MPins z C (kPins C)) := by
  unfold mX23_gatherPins
  rw [wf_eq]
  have c0 : KeM S (sI S 2000 159 0) := KeM.refl.sI (by omega)
  have h0 : MPins (sI S 2000 159 0) C (0, fun _ => (0, 0, 0)) := ⟨by rw [gI_set]; rfl, fun p hp => absurd hp (Nat.not_lt_zero _)⟩
  refine WP_callF (m_ga7 (c0.K r) w hk h0) fr_mX23_gatherPins_L7 (fun x hx hf => ?_)
  have c1 := c0.tr (KeM.fr hf rfl)
  refine WP_callF (m_ga32 (c1.K r) (c1.P rP) w wp hk hx) fr_mX23_gatherPins_L32 (fun x hx hf => ?_)
  have c1 := c1.tr (KeM.fr hf rfl)
  refine WP_callF (m_ga74 (c1.K r) (c1.P rP) w wp hk hx) fr_mX23_gatherPins_L74 (fun x hx hf => ?_)
  have c1 := c1.tr (KeM.fr hf rfl)
  refine WP_callF (m_ga125 (c1.K r) (c1.P rP) w wp hk hx) fr_mX23_gatherPins_L125 (fun x hx hf => ?_)
  exact WP_some.2 hx
end MGATHER
