/-! the class tries ways: functions of cells, needs, costs -/
def KLx (S : Sto) (k : Nat) (B : Lib) : Prop := gR S 198 1 = 344 + 22 * k + 1 ∧ RepL S (344 + 22 * k + 1) B ∧ gI S 198 3 = lInv B
theorem kK_own {k : Nat} (h : k < 4) : kK (344 + 22 * k + 1) = 21 := (by decide : ∀ k : Fin 4, kK (344 + 22 * k.val + 1) = 21) ⟨k, h⟩
theorem gk_own {τ : Type} {k : Nat} {K : Nat → Option τ} (h : k < 4) : gk (344 + 22 * k + 1) 21 K = K (344 + 22 * k + 1) := if_pos (kK_own h)
def ordK (m o : Nat) : Nat := if m = 2 ∧ o = 1 then 2 else o
theorem ord_k {m o i : Nat} (hm : 1 ≤ m ∧ m ≤ 3) (ho : o < nOrd m) (hi : i < m) : ordK m o < 6 ∧ i < 3 ∧ ([0, 1, 2, 0, 2, 1, 1, 0, 2, 1, 2, 0, 2, 0, 1, 2, 1, 0] : List Int).getD (3 * ordK m o + i) 0 = (inpM m o i : Int) := by
  have key : ∀ m : Fin 4, ∀ o : Fin 6, ∀ i : Fin 3, 1 ≤ m.val → o.val < nOrd m.val → i.val < m.val → ordK m.val o.val < 6 ∧ ([0, 1, 2, 0, 2, 1, 1, 0, 2, 1, 2, 0, 2, 0, 1, 2, 1, 0] : List Int).getD (3 * ordK m.val o.val + i.val) 0 = (inpM m.val o.val i.val : Int) := by decide
  have o6 : o < 6 := by
    have : ∀ m : Fin 4, nOrd m.val ≤ 6 := by decide
    have := this ⟨m, by omega⟩
    dsimp only at this
    omega
  have := key ⟨m, by omega⟩ ⟨o, o6⟩ ⟨i, by omega⟩ hm.1 ho hi
  exact ⟨this.1, by omega, this.2⟩
theorem rdO {τ : Type} {j : Nat} {K : Int → Option τ} (h : j < 18) : rdC [0, 1, 2, 0, 2, 1, 1, 0, 2, 1, 2, 0, 2, 0, 1, 2, 1, 0] (j : Int) K = K (([0, 1, 2, 0, 2, 1, 1, 0, 2, 1, 2, 0, 2, 0, 1, 2, 1, 0] : List Int).getD j 0) := by
  have e : ([0, 1, 2, 0, 2, 1, 1, 0, 2, 1, 2, 0, 2, 0, 1, 2, 1, 0] : List Int).length = 18 := rfl
  rw [rdC_e (by rw [e]; omega), Int.toNat_natCast]
section KWAYS
variable {S z : Sto} {G : Dsg} {B : Lib} {d n i k c m o tu : Nat}
theorem KLx.mv (h : KLx S k B) (e : ∀ a i, 344 + 22 * k + 1 ≤ a → a ≤ 344 + 22 * k + 5 → gI z a i = gI S a i) (eR : gR z 198 1 = gR S 198 1) (e3 : gI z 198 3 = gI S 198 3) : KLx z k B := by
  obtain ⟨h1, h2, h3⟩ := h
  refine ⟨eR.trans h1, ?_, e3.trans h3⟩
  unfold RepL at h2 ⊢
  simp (disch := omega) only [e]
  exact h2
theorem KLx.cw {Pp : Nat → Nat → Prop} (h : KLx S k B) (g : ChW Pp S z) (q : ∀ a i, Pp a i → a < 344 ∧ ¬ (a = 198 ∧ i = 3)) : KLx z k B := h.mv (fun a i l1 l2 => g.1 a i (fun k => by have := q a i k; omega)) (g.2.2.1 _ _) (g.1 _ _ (fun k => by have := (q _ _ k).2; omega))
theorem k_orderOf (hm : 1 ≤ m ∧ m ≤ 3) (ho : o < 10) : mX12_orderOf (m : Int) (o : Int) = some (ordK m o : Int) := by
  unfold mX12_orderOf ordK
  rw [w32_id (by omega), w32_id (by omega)]
  by_cases q : m = 2
  · by_cases q2 : o = 1
    · rw [if_pos (by omega), if_pos (by omega), bX_some, if_pos rfl, bX_some, if_pos ⟨q, q2⟩]; rfl
    · rw [if_pos (by omega), if_neg (by omega), bX_some, if_neg (by decide), bX_some, if_neg (fun g => q2 g.2)]
  · rw [if_neg (by omega), bX_some, if_neg (by decide), bX_some, if_neg (fun g => q g.1)]
theorem k_orders (hm : 1 ≤ m ∧ m ≤ 3) : mX12_orders (m : Int) = some (nOrd m : Int) := by
  unfold mX12_orders nOrd
  rcases (show m = 1 ∨ m = 2 ∨ m = 3 by omega) with rfl | rfl | rfl <;> rfl
theorem k_placed (h : KLx S k B) (w : WFL B) (hk : k < 4) (hc : c < liN B) (ho : o < nOrd (bI B c)) (ht : tu < 8) : mX12_placed S (c : Int) (bI B c : Int) (ordK (bI B c) o : Int) (tu : Int) = some (bitsN (2 ^ bI B c) (plF B c (bI B c) o tu) : Int) := by
  have hn := w.nums
  obtain ⟨r1, r2, r3, r4, r5, r6, r7, r8⟩ := bI_rng w hc
  have p8 := pow_m8 r2
  have e2 := (h.2.1.2 c hc).2.1
  rw [r4] at e2
  have sm : aShl 1 (bI B c : Int) = ((2 ^ bI B c : Nat) : Int) := aShl1 (by omega)
  refine WP.of ?_
  unfold mX12_placed
  refine WP_call (R := fun y => y = (bitsN (2 ^ bI B c) (plF B c (bI B c) o tu) : Int)) ?_ (fun y hy => WP_some.2 hy)
  refine WP_cnt (2 ^ bI B c) (fun s st => st.2 = (s : Int) ∧ st.1 = (bitsN s (plF B c (bI B c) o tu) : Int)) (by unfold cFU; omega) ⟨rfl, rfl⟩ (fun s st hs hI => ?_) (fun st hI => ?_)
  · obtain ⟨s1, s2⟩ := st
    obtain ⟨b1, b2⟩ := hI
    dsimp only at b1 b2
    subst b1 b2
    have inner : lpF (mX12_placed_L20 (bI B c : Int) (ordK (bI B c) o : Int) ((bitsN s (plF B c (bI B c) o tu) : Int), (s : Int)) (tu : Int)) (0, 0) = some (bitsN (bI B c) (fun i => s.testBit (inpM (bI B c) o i) ^^ tu.testBit i) : Int) := by
      refine WP.of ?_
      refine WP_cnt (bI B c) (fun i st => st.2 = (i : Int) ∧ st.1 = (bitsN i (fun i => s.testBit (inpM (bI B c) o i) ^^ tu.testBit i) : Int)) (by unfold cFU; omega) ⟨rfl, rfl⟩ (fun i st hi hI => ?_) (fun st hI => ?_)
      · obtain ⟨t1, t2⟩ := st
        obtain ⟨c1, c2⟩ := hI
        dsimp only at c1 c2
        subst c1 c2
        obtain ⟨o1, o2, o3⟩ := ord_k ⟨r1, r2⟩ ho hi
        have il := inpM_lt (m := bI B c) ⟨r1, r2⟩ ho hi
        have e3 : 3 * (ordK (bI B c) o : Int) + (i : Int) = ((3 * ordK (bI B c) o + i : Nat) : Int) := by omega
        unfold mX12_placed_L20
        dsimp only
        rw [w32_id (by omega), w32_id (by omega), if_pos (by omega), e3, rdO (by omega), o3, aBit (by omega) (by omega), aBit (by omega) (by omega)]
        have xb : ∀ p q : Bool, aXor (b2i p) (b2i q) = b2i (p ^^ q) := by intro p q; cases p <;> cases q <;> rfl
        rw [xb, aOr_bits (f := fun i => s.testBit (inpM (bI B c) o i) ^^ tu.testBit i) rfl (by omega)]
        exact WP_some.2 ⟨by show (i : Int) + 1 = _; omega, rfl⟩
      · obtain ⟨t1, t2⟩ := st
        obtain ⟨c1, c2⟩ := hI
        dsimp only at c1 c2
        subst c1 c2
        unfold mX12_placed_L20
        dsimp only
        rw [if_neg (by omega)]
        exact WP_some.2 rfl
    have tl := bitsN_lt (bI B c) (fun i => s.testBit (inpM (bI B c) o i) ^^ tu.testBit i)
    unfold mX12_placed_L6
    dsimp only
    rw [sm, w32_id (x := (s : Int)) (by omega), w32_id (by omega), if_pos (by omega), inner, bX_some, h.1, gk_own hk]
    unfold mX21_tells
    rw [rdI_e (by omega), Int.toNat_natCast, e2, aBit (by omega) (by omega), bX_some]
    have cond : (if ¬ w32 (if w32 (b2i ((bF B c).testBit (bitsN (bI B c) fun i => s.testBit (inpM (bI B c) o i) ^^ tu.testBit i))) = 1 then (1 : Int) else 0) = 0 then aShl 1 (s : Int) else 0) = if plF B c (bI B c) o tu s = true then aShl 1 (s : Int) else 0 := by
      show _ = if (bF B c).testBit (bitsN (bI B c) fun i => s.testBit (inpM (bI B c) o i) ^^ tu.testBit i) = true then _ else _
      cases (bF B c).testBit (bitsN (bI B c) fun i => s.testBit (inpM (bI B c) o i) ^^ tu.testBit i) <;> rfl
    rw [cond, aOr_bits' rfl (by omega)]
    exact WP_some.2 ⟨by show (s : Int) + 1 = _; omega, rfl⟩
  · obtain ⟨s1, s2⟩ := st
    obtain ⟨b1, b2⟩ := hI
    dsimp only at b1 b2
    subst b1 b2
    unfold mX12_placed_L6
    dsimp only
    rw [sm, if_neg (by omega)]
    exact WP_some.2 rfl
/-- all functions of cells -/
def PlD (z : Sto) (B : Lib) (n : Nat) : Prop := ∀ c o tu, c < n → o < nOrd (bI B c) → tu < 2 ^ bI B c → gI z 218 (48 * c + 8 * o + tu) = (bitsN (2 ^ bI B c) (plF B c (bI B c) o tu) : Int)
theorem nOrd_le (hm : m ≤ 3) : nOrd m ≤ 6 := by
  have : ∀ m : Fin 4, nOrd m.val ≤ 6 := by decide
  exact this ⟨m, by omega⟩
theorem k_arrM (h : KLx S k B) (w : WFL B) (hk : k < 4) : WP (mX12_arrange S) (fun z => PlD z B (liN B) ∧ ChW (fun a _ => a = 218) S z) := by
  have hn := w.nums
  have e0 := h.2.1.1
  rw [w.n] at e0
  unfold mX12_arrange
  refine WP_call (R := fun z => PlD z B (liN B) ∧ ChW (fun a _ => a = 218) S z) ?_ (fun y hy => WP_some.2 hy)
  refine WP_cnt (liN B) (fun c s => s.1 = (c : Int) ∧ PlD s.2 B c ∧ ChW (fun a _ => a = 218) S s.2) (by unfold cFU; omega) ⟨rfl, fun c o tu h => absurd h (Nat.not_lt_zero _), ChW.refl⟩ (fun c s hc hI => ?_) (fun s hI => ?_)
  · obtain ⟨s1, s2⟩ := s
    obtain ⟨b1, b2, b3⟩ := hI
    dsimp only at b1 b2 b3
    subst b1
    have hz := h.cw b3 (fun a i g => by omega)
    obtain ⟨r1, r2, r3, r4, r5, r6, r7, r8⟩ := bI_rng w hc
    have p8 := pow_m8 r2
    have n6 := nOrd_le r2
    have e0' := hz.2.1.1
    rw [w.n] at e0'
    have e1 := (hz.2.1.2 c hc).1
    rw [r3] at e1
    have sm : aShl 1 (bI B c : Int) = ((2 ^ bI B c : Nat) : Int) := aShl1 (by omega)
    unfold mX12_arrange_L2
    dsimp only
    rw [hz.1, gk_own hk, e0', w32_id (x := (c : Int)) (by omega), w32_id (x := (liN B : Int)) (by omega), if_pos (by omega), gk_own hk, rdI_e (by omega), Int.toNat_natCast, e1]
    refine WP_call (R := fun z => (∀ o tu, o < nOrd (bI B c) → tu < 2 ^ bI B c → gI z 218 (48 * c + 8 * o + tu) = (bitsN (2 ^ bI B c) (plF B c (bI B c) o tu) : Int)) ∧ ChW (fun a i => a = 218 ∧ 48 * c ≤ i) s2 z) ?_ (fun z hz' => ?_)
    · refine WP_cnt (nOrd (bI B c)) (fun o s => s.1 = (o : Int) ∧ (∀ o' tu, o' < o → tu < 2 ^ bI B c → gI s.2 218 (48 * c + 8 * o' + tu) = (bitsN (2 ^ bI B c) (plF B c (bI B c) o' tu) : Int)) ∧ ChW (fun a i => a = 218 ∧ 48 * c ≤ i) s2 s.2) (by unfold cFU; omega) ⟨rfl, fun o tu h => absurd h (Nat.not_lt_zero _), ChW.refl⟩ (fun o s ho hI => ?_) (fun s hI => ?_)
      · obtain ⟨u1, u2⟩ := s
        obtain ⟨d1, d2, d3⟩ := hI
        dsimp only at d1 d2 d3
        subst d1
        unfold mX12_arrange_L25
        dsimp only
        rw [k_orders ⟨r1, r2⟩, bX_some, w32_id (x := (o : Int)) (by omega), w32_id (x := (nOrd (bI B c) : Int)) (by omega), if_pos (by omega)]
        refine WP_call (R := fun z => (∀ tu, tu < 2 ^ bI B c → gI z 218 (48 * c + 8 * o + tu) = (bitsN (2 ^ bI B c) (plF B c (bI B c) o tu) : Int)) ∧ ChW (fun a i => a = 218 ∧ 48 * c + 8 * o ≤ i) u2 z) ?_ (fun z hz'' => ?_)
        · refine WP_cnt (2 ^ bI B c) (fun t s => s.1 = (t : Int) ∧ (∀ tu, tu < t → gI s.2 218 (48 * c + 8 * o + tu) = (bitsN (2 ^ bI B c) (plF B c (bI B c) o tu) : Int)) ∧ ChW (fun a i => a = 218 ∧ 48 * c + 8 * o ≤ i) u2 s.2) (by unfold cFU; omega) ⟨rfl, fun tu h => absurd h (Nat.not_lt_zero _), ChW.refl⟩ (fun t s ht hI => ?_) (fun s hI => ?_)
          · obtain ⟨v1, v2⟩ := s
            obtain ⟨f1, f2, f3⟩ := hI
            dsimp only at f1 f2 f3
            subst f1
            have kv := (hz.cw d3 (fun a i g => by omega)).cw f3 (fun a i g => by omega)
            have zt : (48 * (c : Int) + 8 * (o : Int) + (t : Int)).toNat = 48 * c + 8 * o + t := by omega
            have bl := bitsN_lt (2 ^ bI B c) (plF B c (bI B c) o t)
            have b256 : bitsN (2 ^ bI B c) (plF B c (bI B c) o t) < 256 := Nat.lt_of_lt_of_le bl (Nat.pow_le_pow_right (n := 2) (by omega) p8)
            unfold mX12_arrange_L36
            dsimp only
            rw [sm, w32_id (x := (t : Int)) (by omega), w32_id (by omega), if_pos (by omega), k_orderOf ⟨r1, r2⟩ (by omega), bX_some, k_placed kv w hk hc ho (by omega), bX_some, wrI_e (by omega), zt]
            refine WP_some.2 ⟨by show (t : Int) + 1 = _; omega, fun tu htu => ?_, f3.sI ⟨rfl, by omega⟩⟩
            dsimp only
            by_cases g : tu = t
            · rw [g, gI_set, w32_id (by omega)]
            · rw [hI_sI_i (by omega)]; exact f2 tu (by omega)
          · obtain ⟨v1, v2⟩ := s
            obtain ⟨f1, f2, f3⟩ := hI
            dsimp only at f1 f2 f3
            subst f1
            unfold mX12_arrange_L36
            dsimp only
            rw [sm, if_neg (by omega)]
            exact WP_some.2 ⟨f2, f3⟩
        · refine WP_some.2 ⟨by show (o : Int) + 1 = _; omega, fun o' tu h1 h2 => ?_, d3.tr hz''.2 (fun a i g => ⟨g.1, by omega⟩)⟩
          by_cases g : o' = o
          · rw [g]; exact hz''.1 tu h2
          · dsimp only
            rw [hz''.2.1 _ _ (by omega)]; exact d2 o' tu (by omega) h2
      · obtain ⟨u1, u2⟩ := s
        obtain ⟨d1, d2, d3⟩ := hI
        dsimp only at d1 d2 d3
        subst d1
        unfold mX12_arrange_L25
        dsimp only
        rw [k_orders ⟨r1, r2⟩, bX_some, if_neg (by omega)]
        exact WP_some.2 ⟨d2, d3⟩
    · refine WP_some.2 ⟨by show (c : Int) + 1 = _; omega, fun c' o tu h1 h2 h3 => ?_, b3.tr hz'.2 (fun a i g => g.1)⟩
      by_cases g : c' = c
      · rw [g] at h2 h3 ⊢; exact hz'.1 o tu h2 h3
      · have q := bI_rng w (c := c') (by omega)
        have := nOrd_le q.2.1
        have := pow_m8 q.2.1
        dsimp only
        rw [hz'.2.1 _ _ (by omega)]; exact b2 c' o tu (by omega) h2 h3
  · obtain ⟨s1, s2⟩ := s
    obtain ⟨b1, b2, b3⟩ := hI
    dsimp only at b1 b2 b3
    subst b1
    have hz := h.cw b3 (fun a i g => by omega)
    have e0' := hz.2.1.1
    rw [w.n] at e0'
    unfold mX12_arrange_L2
    dsimp only
    rw [hz.1, gk_own hk, e0', if_neg (by omega)]
    exact WP_some.2 ⟨b2, b3⟩
end KWAYS
