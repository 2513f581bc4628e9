/-! a call of the law -/
theorem lCmp_self (x : Int64) : w32 (lCmp x x) = 0 := by rw [lCmp_eq0]
theorem bC_WP {σ : Type} {m : Option (σ ⊕ (Nat × Sto))} {k : σ → Option (Int × Sto)} {cs : List (Nat × Int)} {P : Int × Sto → Prop} (h : WP m (WE (fun s => WP (k s) P) (fun t => ∃ c, cs.lookup t.1 = some c ∧ P (c, t.2)))) : WP (bC m k cs) P := by
  obtain ⟨z, h1, h2⟩ := h
  subst h1
  cases z with
  | inl s => exact h2
  | inr t =>
    obtain ⟨c, g1, g2⟩ := h2
    refine ⟨(c, t.2), ?_, g2⟩
    show (match cs.lookup t.1 with | some c => some (c, t.2) | none => none) = _
    rw [g1]
theorem L_val {m0 : Option (Int × Sto)} {m1 : Sto → Option (Int × Sto)} {Q : Sto → Prop} (h : WP m0 (fun x => WP (m1 x.2) (fun y => w32 (gI y.2 2000 0) = w32 x.1 ∧ (x.1 = 0 → gL y.2 2178 0 = i2l y.1) ∧ (x.1 = 0 ∨ w32 x.1 ≠ 0) ∧ Q y.2))) :
    WP (bX m0 fun x1 => bX (m1 x1.2) fun x2 => bX (mX23_thrown x2.2) fun x3 => if ¬ w32 x3 = w32 x1.1 then none else bX (if w32 x1.1 = 0 then rdL 1 x2.2 2178 0 fun v4 => if ¬ w32 (lCmp v4 (i2l x2.1)) = 0 then some true else some false else some false) fun b => if b = true then none else some x2.2) Q := by
  obtain ⟨x, h1, y, h2, h3, h4, h5, h6⟩ := h
  subst h1
  rw [bX_some]
  rw [h2, bX_some]
  show WP (bX (some (gI y.2 2000 0)) _) Q
  rw [bX_some, if_neg (fun g => g h3)]
  rcases h5 with h5 | h5
  · rw [h5, if_pos (by decide), rdL_e (by omega)]
    show WP (bX (if ¬ w32 (lCmp (gL y.2 2178 0) (i2l y.1)) = 0 then some true else some false) _) Q
    rw [h4 h5, if_neg (fun g => g (lCmp_self _))]
    exact WP_some.2 h6
  · rw [if_neg h5]
    exact WP_some.2 h6
theorem L_bool {m0 : Option (Int × Sto)} {m1 : Sto → Option (Int × Sto)} {Q : Sto → Prop} (h : WP m0 (fun x => WP (m1 x.2) (fun y => w32 (gI y.2 2000 0) = w32 x.1 ∧ (x.1 = 0 → gL y.2 2178 0 = (if ¬ w32 y.1 = 0 then 1 else 0)) ∧ (x.1 = 0 ∨ w32 x.1 ≠ 0) ∧ Q y.2))) :
    WP (bX m0 fun x1 => bX (m1 x1.2) fun x2 => bX (mX23_thrown x2.2) fun x3 => if ¬ w32 x3 = w32 x1.1 then none else bX (if w32 x1.1 = 0 then rdL 1 x2.2 2178 0 fun v4 => bX (if ¬ w32 x2.1 = 0 then some 1 else some 0) fun y5 => if ¬ w32 (lCmp v4 y5) = 0 then none else some () else some ()) fun y6 => some x2.2) Q := by
  obtain ⟨x, h1, y, h2, h3, h4, h5, h6⟩ := h
  subst h1
  rw [bX_some]
  rw [h2, bX_some]
  show WP (bX (some (gI y.2 2000 0)) _) Q
  rw [bX_some, if_neg (fun g => g h3)]
  rcases h5 with h5 | h5
  · rw [h5, if_pos (by decide), rdL_e (by omega)]
    show WP (bX (bX _ fun y5 => if ¬ w32 (lCmp (gL y.2 2178 0) y5) = 0 then none else some ()) _) Q
    rw [h4 h5, ite_someL, bX_some, if_neg (fun g => g (lCmp_self _))]
    exact WP_some.2 h6
  · rw [if_neg h5]
    exact WP_some.2 h6
theorem L_void {m0 : Option (Int × Sto)} {m1 : Sto → Option Sto} {Q : Sto → Prop} (h : WP m0 (fun x => WP (m1 x.2) (fun y => w32 (gI y 2000 0) = w32 x.1 ∧ Q y))) :
    WP (bX m0 fun x1 => bX (m1 x1.2) fun x2 => bX (mX23_thrown x2) fun x3 => if ¬ w32 x3 = w32 x1.1 then none else some x2) Q := by
  obtain ⟨x, h1, y, h2, h3, h6⟩ := h
  subst h1
  rw [bX_some]
  rw [h2, bX_some]
  show WP (bX (some (gI y 2000 0)) _) Q
  rw [bX_some, if_neg (fun g => g h3)]
  exact WP_some.2 h6
/-- there is room for an exception -/
def RoomX (S : Sto) : Prop := nC S + 1 ≤ cCB ∧ nS S + 6 ≤ cSB
theorem HeapOk.x {c : Nat} {S : Sto} (h : HeapOk c S) (hc : c < 64) : RoomX S := by
  unfold HeapOk at h; unfold RoomX cCB cSB; omega
section THROWS
variable {S : Sto} {p : Int}
theorem inside_t (h : w32 p ≠ 0) : mX1_inside S p = some (.inl ()) := if_neg h
theorem inside_f (h : w32 p = 0) (r : RoomX S) : mX1_inside S p = some (.inr (1, thrS S)) := by unfold mX1_inside; rw [if_pos h]; exact if_pos r
theorem need_t (h : w32 p ≠ 0) : mX1_need S p = some (.inl ()) := if_neg h
theorem need_f (h : w32 p = 0) (r : RoomX S) : mX1_need S p = some (.inr (2, thrS S)) := by unfold mX1_need; rw [if_pos h]; exact if_pos r
theorem now_t (h : w32 p ≠ 0) : mX1_now S p = some (.inl ()) := if_neg h
theorem now_f (h : w32 p = 0) (r : RoomX S) : mX1_now S p = some (.inr (3, thrS S)) := by unfold mX1_now; rw [if_pos h]; exact if_pos r
theorem room_t (h : w32 p ≠ 0) : mX1_room S p = some (.inl ()) := if_neg h
theorem room_f (h : w32 p = 0) (r : RoomX S) : mX1_room S p = some (.inr (4, thrS S)) := by unfold mX1_room; rw [if_pos h]; exact if_pos r
theorem gth_e {τ : Type} {k : Option τ} (r : RoomX S) : gth S k = k := if_pos r
end THROWS
theorem kK_chip {k : Nat} (h : k < 4) : kK (344 + 22 * k) = 22 := (by decide : ∀ k : Fin 4, kK (344 + 22 * k.val) = 22) ⟨k, h⟩
theorem kK_dsg {k : Nat} (h : k < 6) : kK (273 + 9 * k) = 20 := (by decide : ∀ k : Fin 6, kK (273 + 9 * k.val) = 20) ⟨k, h⟩
theorem kK_lib {k : Nat} (h : k < 3) : kK (328 + 5 * k) = 21 := (by decide : ∀ k : Fin 3, kK (328 + 5 * k.val) = 21) ⟨k, h⟩
theorem gkc_chip {τ : Type} {k : Nat} {K : Option τ} (h : k < 4) : gkc (344 + 22 * k) 22 K = K := if_pos (kK_chip h)
theorem gkc_dsg {τ : Type} {k : Nat} {K : Option τ} (h : k < 6) : gkc (273 + 9 * k) 20 K = K := if_pos (kK_dsg h)
theorem gkc_lib {τ : Type} {k : Nat} {K : Option τ} (h : k < 3) : gkc (328 + 5 * k) 21 K = K := if_pos (kK_lib h)
theorem gk_chip {τ : Type} {k : Nat} {K : Nat → Option τ} (h : k < 4) : gk (344 + 22 * k) 22 K = K (344 + 22 * k) := if_pos (kK_chip h)
theorem gk_dsg {τ : Type} {k : Nat} {K : Nat → Option τ} (h : k < 6) : gk (273 + 9 * k) 20 K = K (273 + 9 * k) := if_pos (kK_dsg h)
theorem gk_lib {τ : Type} {k : Nat} {K : Nat → Option τ} (h : k < 3) : gk (328 + 5 * k) 21 K = K (328 + 5 * k) := if_pos (kK_lib h)
theorem inside_1 {S : Sto} : mX1_inside S 1 = some (.inl ()) := inside_t (by decide)
theorem inside_0 {S : Sto} (r : RoomX S) : mX1_inside S 0 = some (.inr (1, thrS S)) := inside_f (by decide) r
theorem need_1 {S : Sto} : mX1_need S 1 = some (.inl ()) := need_t (by decide)
theorem need_0 {S : Sto} (r : RoomX S) : mX1_need S 0 = some (.inr (2, thrS S)) := need_f (by decide) r
theorem now_1 {S : Sto} : mX1_now S 1 = some (.inl ()) := now_t (by decide)
theorem now_0 {S : Sto} (r : RoomX S) : mX1_now S 0 = some (.inr (3, thrS S)) := now_f (by decide) r
theorem roomX_1 {S : Sto} : mX1_room S 1 = some (.inl ()) := room_t (by decide)
theorem roomX_0 {S : Sto} (r : RoomX S) : mX1_room S 0 = some (.inr (4, thrS S)) := room_f (by decide) r
/-- 32 bits -/
def i32 (x : Int) : Prop := -2147483648 ≤ x ∧ x < 2147483648
/-- which chip is meant -/
abbrev isCh (S : Sto) (p : Int) : Prop := 0 ≤ p ∧ p < 4 ∧ (gI S 434 p.toNat) ≠ 0
abbrev isDs (S : Sto) (p : Int) : Prop := 0 ≤ p ∧ p < 6 ∧ (gI S 432 p.toNat) ≠ 0
abbrev isLb (S : Sto) (p : Int) : Prop := 0 ≤ p ∧ p < 3 ∧ (gI S 433 p.toNat) ≠ 0
section WHICH
variable {S : Sto} {p : Int}
theorem bzn {x : Int} (h : x ≠ 0) : ¬ bz x = 0 := fun g => h (bz_eq0.1 g)
theorem bzz {x : Int} (h : ¬ x ≠ 0) : ¬ ¬ bz x = 0 := fun g => h (fun e => g (bz_eq0.2 e))
theorem chipIn_t (h : isCh S p) : mX1_chipIn S p = some (.inl (344 + 22 * p.toNat)) := by
  obtain ⟨h1, h2, h3⟩ := h
  unfold mX1_chipIn rdA ixn
  rw [w32_id (by omega), if_pos h1, if_pos h2, rdZ_e (by omega), w32_bz, if_pos (bzn h3), bX_some, if_pos rfl, bX_some, inside_t (by decide), bT_inl, if_pos (by omega)]
theorem chipIn_f (h : ¬ isCh S p) (r : RoomX S) (hp : i32 p) : mX1_chipIn S p = some (.inr (1, thrS S)) := by
  unfold isCh at h
  unfold mX1_chipIn
  rw [w32_id hp]
  by_cases h1 : 0 ≤ p
  · by_cases h2 : p < 4
    · rw [if_pos h1, if_pos h2, rdZ_e (by omega), w32_bz, if_neg (bzz (fun g => h ⟨h1, h2, g⟩)), bX_some]
      rw [if_neg (by decide), bX_some, inside_f (by decide) r]; rfl
    · rw [if_pos h1, if_neg h2, bX_some, if_neg (by decide), bX_some, inside_f (by decide) r]; rfl
  · rw [if_neg h1, bX_some, if_neg (by decide), bX_some, inside_f (by decide) r]; rfl
theorem designIn_t (h : isDs S p) : mX1_designIn S p = some (.inl (273 + 9 * p.toNat)) := by
  obtain ⟨h1, h2, h3⟩ := h
  unfold mX1_designIn rdA ixn
  rw [w32_id (by omega), if_pos h1, if_pos h2, rdZ_e (by omega), w32_bz, if_pos (bzn h3), bX_some, if_pos rfl, bX_some, inside_t (by decide), bT_inl, if_pos (by omega)]
theorem designIn_f (h : ¬ isDs S p) (r : RoomX S) (hp : i32 p) : mX1_designIn S p = some (.inr (1, thrS S)) := by
  unfold isDs at h
  unfold mX1_designIn
  rw [w32_id hp]
  by_cases h1 : 0 ≤ p
  · by_cases h2 : p < 6
    · rw [if_pos h1, if_pos h2, rdZ_e (by omega), w32_bz, if_neg (bzz (fun g => h ⟨h1, h2, g⟩)), bX_some]
      rw [if_neg (by decide), bX_some, inside_f (by decide) r]; rfl
    · rw [if_pos h1, if_neg h2, bX_some, if_neg (by decide), bX_some, inside_f (by decide) r]; rfl
  · rw [if_neg h1, bX_some, if_neg (by decide), bX_some, inside_f (by decide) r]; rfl
theorem libraryIn_t (h : isLb S p) : mX1_libraryIn S p = some (.inl (328 + 5 * p.toNat)) := by
  obtain ⟨h1, h2, h3⟩ := h
  unfold mX1_libraryIn rdA ixn
  rw [w32_id (by omega), if_pos h1, if_pos h2, rdZ_e (by omega), w32_bz, if_pos (bzn h3), bX_some, if_pos rfl, bX_some, inside_t (by decide), bT_inl, if_pos (by omega)]
theorem libraryIn_f (h : ¬ isLb S p) (r : RoomX S) (hp : i32 p) : mX1_libraryIn S p = some (.inr (1, thrS S)) := by
  unfold isLb at h
  unfold mX1_libraryIn
  rw [w32_id hp]
  by_cases h1 : 0 ≤ p
  · by_cases h2 : p < 3
    · rw [if_pos h1, if_pos h2, rdZ_e (by omega), w32_bz, if_neg (bzz (fun g => h ⟨h1, h2, g⟩)), bX_some]
      rw [if_neg (by decide), bX_some, inside_f (by decide) r]; rfl
    · rw [if_pos h1, if_neg h2, bX_some, if_neg (by decide), bX_some, inside_f (by decide) r]; rfl
  · rw [if_neg h1, bX_some, if_neg (by decide), bX_some, inside_f (by decide) r]; rfl
end WHICH
section MWHICH
variable {S : Sto} {p : Int} {c : Nat}
theorem dec_isCh (S : Sto) (p : Int) : isCh S p ∨ ¬ isCh S p := Classical.em _
theorem m_isChip (hC : ∀ k, k < 4 → (gI S 2105 k) = (gI S 434 k)) (hp : i32 p) : mX23_isChip S p = some (if isCh S p then 1 else 0) := by
  unfold mX23_isChip
  rw [w32_id hp]
  by_cases h1 : 0 ≤ p
  · by_cases h2 : p < 4
    · have e := hC p.toNat (by omega)
      rw [if_pos h1, if_pos h2, rdZ_e (by omega), w32_bz, e]
      by_cases h3 : (gI S 434 p.toNat) ≠ 0
      · have q : isCh S p := ⟨h1, h2, h3⟩
        rw [if_pos (bzn h3), if_pos q]; rfl
      · have q : ¬ isCh S p := fun g => h3 g.2.2
        rw [if_neg (bzz h3), if_neg q]; rfl
    · have q : ¬ isCh S p := fun g => h2 g.2.1
      rw [if_pos h1, if_neg h2, if_neg q]; rfl
  · have q : ¬ isCh S p := fun g => h1 g.1
    rw [if_neg h1, if_neg q]; rfl
theorem m_isDesign (hC : ∀ k, k < 6 → (gI S 2036 k) = (gI S 432 k)) (hp : i32 p) : mX23_isDesign S p = some (if isDs S p then 1 else 0) := by
  unfold mX23_isDesign
  rw [w32_id hp]
  by_cases h1 : 0 ≤ p
  · by_cases h2 : p < 6
    · have e := hC p.toNat (by omega)
      rw [if_pos h1, if_pos h2, rdZ_e (by omega), w32_bz, e]
      by_cases h3 : (gI S 432 p.toNat) ≠ 0
      · have q : isDs S p := ⟨h1, h2, h3⟩
        rw [if_pos (bzn h3), if_pos q]; rfl
      · have q : ¬ isDs S p := fun g => h3 g.2.2
        rw [if_neg (bzz h3), if_neg q]; rfl
    · have q : ¬ isDs S p := fun g => h2 g.2.1
      rw [if_pos h1, if_neg h2, if_neg q]; rfl
  · have q : ¬ isDs S p := fun g => h1 g.1
    rw [if_neg h1, if_neg q]; rfl
theorem m_isLibrary (hC : ∀ k, k < 3 → (gI S 2066 k) = (gI S 433 k)) (hp : i32 p) : mX23_isLibrary S p = some (if isLb S p then 1 else 0) := by
  unfold mX23_isLibrary
  rw [w32_id hp]
  by_cases h1 : 0 ≤ p
  · by_cases h2 : p < 3
    · have e := hC p.toNat (by omega)
      rw [if_pos h1, if_pos h2, rdZ_e (by omega), w32_bz, e]
      by_cases h3 : (gI S 433 p.toNat) ≠ 0
      · have q : isLb S p := ⟨h1, h2, h3⟩
        rw [if_pos (bzn h3), if_pos q]; rfl
      · have q : ¬ isLb S p := fun g => h3 g.2.2
        rw [if_neg (bzz h3), if_neg q]; rfl
    · have q : ¬ isLb S p := fun g => h2 g.2.1
      rw [if_pos h1, if_neg h2, if_neg q]; rfl
  · have q : ¬ isLb S p := fun g => h1 g.1
    rw [if_neg h1, if_neg q]; rfl
end MWHICH
