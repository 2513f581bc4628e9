/-! the reference tells what a node is over a cut -/
def PRn (a i : Nat) : Prop := (a = 2000 ∧ i = 127) ∨ a = 2096 ∨ a = 2097
section MFUNC
variable {S z : Sto} {G : Dsg} {d n i k : Nat} {c : List Nat} {N : Nat} {F : Nat → List Nat} {r : Int}
theorem m_tableOf {l t : Nat} (hl : l < 4096) (h : gI S 2097 (l / 2) = (t : Int)) (ht : t < 256) : mX23_tableOf S (l : Int) = some (xr8 t (l % 2) : Int) := by
  unfold mX23_tableOf
  rw [aShr1_n (by omega), rdI_e (by omega), Int.toNat_natCast, h, aAnd1_n, w32_id (by omega)]
  unfold xr8
  by_cases q : l % 2 = 1
  · have e : aXor (t : Int) 255 = ((t ^^^ 255 : Nat) : Int) := aXor_nat (b := 255) (by omega) (by omega)
    rw [if_pos (by omega), if_pos q, e]
  · have e : aXor (t : Int) 0 = ((t ^^^ 0 : Nat) : Int) := aXor_nat (b := 0) (by omega) (by omega)
    rw [if_neg (by omega), if_neg q, e, Nat.xor_zero]
theorem m_fo25 (hF : SlC S k c) (hk : k < 64) (hc : c.length ≤ 3) (hn : c.Nodup) (hb : ∀ x ∈ c, x < 1013) (hr : gI S 2000 127 = r) (r0 : 0 < r ∧ r < 2000000000) : WP (lpF (mX23_functionOver_L25 (k : Int)) (0, S)) (fun z => ChW (fun a _ => a = 2096 ∨ a = 2097) S z ∧ (∀ x ∈ c, gI z 2097 x = (tbT G c x : Int) ∧ gI z 2096 x = -r) ∧ ∀ x, ¬ x ∈ c → gI z 2096 x = gI S 2096 x) := by
  obtain ⟨k1, k2⟩ := hF
  refine WP_cnt c.length (fun j s => s.1 = (j : Int) ∧ ChW (fun a _ => a = 2096 ∨ a = 2097) S s.2 ∧ (∀ i, i < j → gI s.2 2097 (c.getD i 0) = (tbT G c (c.getD i 0) : Int) ∧ gI s.2 2096 (c.getD i 0) = -r) ∧ ∀ x, (∀ i, i < j → c.getD i 0 ≠ x) → gI s.2 2096 x = gI S 2096 x) (by unfold cFU; omega) ⟨rfl, ChW.refl, fun i h => absurd h (Nat.not_lt_zero _), fun x _ => rfl⟩ (fun j s hj hI => ?_) (fun s hI => ?_)
  · obtain ⟨s1, s2⟩ := s
    obtain ⟨b1, b2, b3, b4⟩ := hI
    dsimp only at b1 b2 b3 b4
    subst b1
    have zt : (3 * (k : Int) + (j : Int)).toNat = 3 * k + j := by omega
    have f1 : gI s2 2087 k = (c.length : Int) := (b2.1 _ _ (by omega)).trans k1
    have f2 : gI s2 2088 (3 * k + j) = ((c.getD j 0 : Nat) : Int) := (b2.1 _ _ (by omega)).trans (k2 j hj)
    have f3 : gI s2 2000 127 = r := (b2.1 _ _ (by omega)).trans hr
    have cj := getD_mem (d := 0) hj
    have cb := hb _ cj
    have pv : (if w32 (j : Int) = 0 then some (170 : Int) else if w32 (j : Int) = 1 then some 204 else some 240) = some (pat8 j : Int) := by
      rw [w32_id (by omega)]
      unfold pat8
      by_cases g : j = 0
      · rw [if_pos (by omega), if_pos g]; rfl
      · rw [if_neg (by omega), if_neg g]
        by_cases g2 : j = 1
        · rw [if_pos (by omega), if_pos g2]; rfl
        · rw [if_neg (by omega), if_neg g2]; rfl
    have pl := @pat8_lt j
    unfold mX23_functionOver_L25
    dsimp only
    rw [rdI_e (by omega), Int.toNat_natCast, f1, w32_id (x := (j : Int)) (by omega), w32_id (x := (c.length : Int)) (by omega), if_pos (by omega), rdI_e (by omega), zt, f2]
    rw [w32_id (x := (j : Int)) (by omega)] at pv
    rw [pv, bX_some, wrI_e (by omega), Int.toNat_natCast, rdI_e (by omega), zt, hI_sI_a (by omega), f2, hI_sI_a (by omega), f3, wrI_e (by omega), Int.toNat_natCast]
    refine WP_some.2 ⟨by show (j : Int) + 1 = _; omega, (b2.sI (.inr rfl)).sI (.inl rfl), fun i hi => ?_, fun x hx => ?_⟩
    · dsimp only
      by_cases e : i = j
      · rw [e, hI_sI_a (by omega), gI_set, gI_set, tbT_in cj, plc_get c hn j hj, w32_id (by omega), w32_id (by omega)]; exact ⟨rfl, rfl⟩
      · have ne : c.getD i 0 ≠ c.getD j 0 := fun g => e (by
          rw [List.getD_eq_getElem?_getD, List.getD_eq_getElem?_getD, List.getElem?_eq_getElem (show i < c.length by omega), List.getElem?_eq_getElem hj] at g
          exact (List.getElem_inj hn).1 g)
        rw [hI_sI_a (by omega), hI_sI_i ne, hI_sI_i ne, hI_sI_a (by omega)]; exact b3 i (by omega)
    · dsimp only
      rw [hI_sI_i (fun e => hx j (by omega) e.symm), hI_sI_a (by omega)]; exact b4 x (fun i hi => hx i (by omega))
  · obtain ⟨s1, s2⟩ := s
    obtain ⟨b1, b2, b3, b4⟩ := hI
    dsimp only at b1 b2 b3 b4
    subst b1
    have f1 : gI s2 2087 k = (c.length : Int) := (b2.1 _ _ (by omega)).trans k1
    unfold mX23_functionOver_L25
    dsimp only
    rw [rdI_e (by omega), Int.toNat_natCast, f1, if_neg (by omega)]
    refine WP_some.2 ⟨b2, fun x hx => ?_, fun x hx => b4 x (fun i hi e => hx (by rw [← e]; exact getD_mem hi))⟩
    obtain ⟨i, i1, i2⟩ := mem_getD 0 hx
    rw [← i2]; exact b3 i i1
/-- marks: those of the cut, those above them -/
def Mk (z : Sto) (G : Dsg) (c : List Nat) (n : Nat) (r : Int) : Prop := (∀ x ∈ c, gI z 2096 x = -r) ∧ (∀ x, x < 2048 → ¬ x ∈ c → gI z 2096 x = r → Cb G c x ∧ x ≤ n) ∧ gI z 2096 n = r ∧ (∀ x, x < 2048 → - r ≤ gI z 2096 x ∧ gI z 2096 x ≤ r) ∧ ∀ x, x < 2048 → gI z 2096 x = -r → x ∈ c
theorem m_fo108 (h : MGx S d G) (w : WFG G) (hd : d < 6) (hs : SdX S G 2082 2083 (gFi G)) (hn : AndG G n) (nc : ¬ n ∈ c) (lt : ∀ x ∈ c, x < n) (hr : gI S 2000 127 = r) (r0 : 0 < r ∧ r < 2000000000) (h0 : Mk S G c n r) :
    WP (lpF mX23_functionOver_L108 ((n : Int), (n : Int), S)) (fun z => ChW (fun a _ => a = 2096) S z.2 ∧ Mk z.2 G c n r ∧ ∃ l : Nat, z.1 = (l : Int) ∧ l ≤ n ∧ ∀ x, x < 2048 → gI z.2 2096 x = r → l ≤ x ∧ (gI z.2 2096 (aN' G x) = r ∨ aN' G x ∈ c) ∧ (gI z.2 2096 (bN' G x) = r ∨ bN' G x ∈ c)) := by
  have hno := no_le w
  have fi := w.nums
  have n1 := hn.1
  have n2 := hn.2.1
  -- what stands at a marked place
  have at' : ∀ z x, Mk z G c n r → x < 2048 → gI z 2096 x = r → Cb G c x ∧ ¬ x ∈ c ∧ x ≤ n := fun z x m hx e => by
    have q : ¬ x ∈ c := fun g => by have := m.1 x g; omega
    have := m.2.1 x hx q e
    exact ⟨this.1, q, this.2⟩
  refine WP_cnt (n + 1 - gFi G) (fun j s => s.2.1 = (n : Int) - (j : Int) ∧ ChW (fun a _ => a = 2096) S s.2.2 ∧ Mk s.2.2 G c n r ∧ ∃ l : Nat, s.1 = (l : Int) ∧ l ≤ n ∧ n ≤ l + j ∧ ∀ x, x < 2048 → n < x + j → gI s.2.2 2096 x = r → l ≤ x ∧ (gI s.2.2 2096 (aN' G x) = r ∨ aN' G x ∈ c) ∧ (gI s.2.2 2096 (bN' G x) = r ∨ bN' G x ∈ c)) (by unfold cFU; omega) ⟨by dsimp only; omega, ChW.refl, h0, n, rfl, Nat.le_refl _, Nat.le_refl _, fun x hx l e => by have := (at' S x h0 hx e).2.2; omega⟩ (fun j s hj hI => ?_) (fun s hI => ?_)
  · obtain ⟨s1, s2, s3⟩ := s
    obtain ⟨b1, b2, b3, l, b4, b5, b6, b7⟩ := hI
    dsimp only at b1 b2 b3 b4 b7
    obtain ⟨x, hx⟩ : ∃ x : Nat, x = n - j := ⟨_, rfl⟩
    have ex : s2 = (x : Int) := by omega
    subst ex b4
    have hz := h.cw w b2 (fun a i g => .inr (by omega))
    have f := hz.first w
    have f3 : gI s3 2000 127 = r := (b2.1 _ _ (by omega)).trans hr
    have rx := gI_rng s3 2096 x
    unfold mX23_functionOver_L108
    dsimp only
    rw [hz.1, rdI_e (by omega), Int.toNat_natCast, f, w32_id (x := (x : Int)) (by omega), w32_id (x := (gFi G : Int)) (by omega), if_pos (by omega), rdI_e (by omega), Int.toNat_natCast, f3, w32_id (x := r) (by omega), w32_gI]
    by_cases q : gI s3 2096 x = r
    · obtain ⟨⟨ax, ca, cb⟩, xc, xn⟩ := at' s3 x b3 (by omega) q
      have ab := aN_lt w ax.1 ax.2.1
      have sd := hs x ax.1 ax
      have g1 : gI s3 2082 x = (lA G x : Int) := (b2.1 _ _ (by omega)).trans sd.1
      have g2 : gI s3 2083 x = (lB G x : Int) := (b2.1 _ _ (by omega)).trans sd.2
      have ea : lA G x / 2 = aN' G x := rfl
      have eb : lB G x / 2 = bN' G x := rfl
      obtain ⟨A, hA⟩ : ∃ A, A = aN' G x := ⟨_, rfl⟩
      obtain ⟨B, hB⟩ : ∃ B, B = bN' G x := ⟨_, rfl⟩
      rw [← hA] at ab ca ea
      rw [← hB] at ab cb eb
      have wn : w32 (-r) = -r := w32_id (by omega)
      rw [if_pos q, rdI_e (by omega), Int.toNat_natCast, g1, rdI_e (by omega), Int.toNat_natCast, g2, aShr1_n (by omega), aShr1_n (by omega), ea, eb, rdI_e (by omega), Int.toNat_natCast, wn, w32_gI, wrI_e (by omega), Int.toNat_natCast]
      obtain ⟨Y, hY⟩ : ∃ Y, Y = sI s3 2096 A (if gI s3 2096 A = -r then -r else r) := ⟨_, rfl⟩
      rw [← hY]
      have y0 : gI Y 2000 127 = r := by rw [hY, hI_sI_a (by omega)]; exact f3
      rw [rdI_e (by omega), Int.toNat_natCast, y0, wn, w32_gI, wrI_e (by omega), Int.toNat_natCast, bX_some]
      obtain ⟨Z, hZ⟩ : ∃ Z, Z = sI Y 2096 B (if gI Y 2096 B = -r then -r else r) := ⟨_, rfl⟩
      rw [← hZ]
      -- one mark
      have one : ∀ (T : Sto) (a : Nat), Mk T G c n r → Cv G c a → a < x → (∀ U, U = sI T 2096 a (if gI T 2096 a = -r then -r else r) → Mk U G c n r ∧ (gI U 2096 a = r ∨ a ∈ c ∨ gI U 2096 a = -r) ∧ (∀ t, t ≠ a → gI U 2096 t = gI T 2096 t) ∧ (gI T 2096 a = -r → gI U 2096 a = -r) ∧ (gI T 2096 a ≠ -r → gI U 2096 a = r)) := fun T a m cv al U hU => by
        have ut : ∀ t, t ≠ a → gI U 2096 t = gI T 2096 t := fun t e => by rw [hU, hI_sI_i e]
        by_cases g : gI T 2096 a = -r
        · have ua : gI U 2096 a = -r := by rw [hU, gI_set, if_pos g]; exact wn
          refine ⟨⟨fun t ht => ?_, fun t ht nt e => ?_, ?_, fun t ht => ?_, fun t ht e => ?_⟩, .inr (.inr ua), ut, fun _ => ua, fun k => absurd g k⟩
          · by_cases e : t = a
            · rw [e]; exact ua
            · rw [ut t e]; exact m.1 t ht
          · by_cases k : t = a
            · rw [k, ua] at e; omega
            · rw [ut t k] at e; exact m.2.1 t ht nt e
          · rw [ut n (by omega)]; exact m.2.2.1
          · by_cases e : t = a
            · rw [e, ua]; omega
            · rw [ut t e]; exact m.2.2.2.1 t ht
          · by_cases k : t = a
            · rw [k] at ht ⊢; exact m.2.2.2.2 a ht g
            · rw [ut t k] at e; exact m.2.2.2.2 t ht e
        · have ua : gI U 2096 a = r := by rw [hU, gI_set, if_neg g]; exact w32_id (by omega)
          have na : ¬ a ∈ c := fun k => g (m.1 a k)
          refine ⟨⟨fun t ht => ?_, fun t ht nt e => ?_, ?_, fun t ht => ?_, fun t ht e => ?_⟩, .inl ua, ut, fun k => absurd k g, fun _ => ua⟩
          · have e : t ≠ a := fun e => na (by rw [← e]; exact ht)
            rw [ut t e]; exact m.1 t ht
          · by_cases k : t = a
            · rw [k]; exact ⟨((Cv_iff w).1 cv).resolve_left na, by omega⟩
            · rw [ut t k] at e; exact m.2.1 t ht nt e
          · rw [ut n (by omega)]; exact m.2.2.1
          · by_cases e : t = a
            · rw [e, ua]; omega
            · rw [ut t e]; exact m.2.2.2.1 t ht
          · by_cases k : t = a
            · rw [k, ua] at e; omega
            · rw [ut t k] at e; exact m.2.2.2.2 t ht e
      obtain ⟨mY, _, y2, y3, y4⟩ := one s3 A b3 ca ab.1 Y hY
      obtain ⟨mZ, _, z2, z3, z4⟩ := one Y B mY cb ab.2 Z hZ
      -- a mark -r stands in the cut: kept as a fact of what is marked
      have keep : ∀ t, t < 2048 → gI s3 2096 t = r → gI Z 2096 t = r := fun t ht e => by
        have e1 : gI Y 2096 t = r := by
          by_cases k : t = A
          · rw [k]; exact y4 (by rw [← k, e]; omega)
          · rw [y2 t k]; exact e
        by_cases k : t = B
        · rw [k]; exact z4 (by rw [← k, e1]; omega)
        · rw [z2 t k]; exact e1
      have back : ∀ t, x ≤ t → gI Z 2096 t = gI s3 2096 t := fun t ht => by rw [z2 t (by omega), y2 t (by omega)]
      refine WP_some.2 ⟨by show (x : Int) + -1 = _; omega, ?_, mZ, x, rfl, xn, by omega, fun t ht l1 e => ?_⟩
      · rw [hZ, hY]; exact (b2.sI rfl).sI rfl
      · dsimp only at e ⊢
        have yA : gI Y 2096 A = r ∨ gI Y 2096 A = -r := by
          by_cases g : gI s3 2096 A = -r
          · exact .inr (y3 g)
          · exact .inl (y4 g)
        have zB : gI Z 2096 B = r ∨ gI Z 2096 B = -r := by
          by_cases g : gI Y 2096 B = -r
          · exact .inr (z3 g)
          · exact .inl (z4 g)
        have zA : gI Z 2096 A = r ∨ gI Z 2096 A = -r := by
          by_cases g : A = B
          · rw [g]; exact zB
          · rw [z2 A g]; exact yA
        have inC : ∀ a, a < 2048 → (gI Z 2096 a = r ∨ gI Z 2096 a = -r) → gI Z 2096 a = r ∨ a ∈ c := fun a ha g => g.imp id (fun g => mZ.2.2.2.2 a ha g)
        have tx : x ≤ t := by omega
        refine ⟨tx, ?_⟩
        by_cases g : t = x
        · rw [g, ← hA, ← hB]
          exact ⟨inC A (by omega) zA, inC B (by omega) zB⟩
        · rw [back t tx] at e
          have := b7 t ht (by omega) e
          have lt' := (at' s3 t b3 ht e).1.1
          have l2 := aN_lt w lt'.1 lt'.2.1
          exact ⟨this.2.1.imp (fun g => keep _ (by omega) g) id, this.2.2.imp (fun g => keep _ (by omega) g) id⟩
    · rw [if_neg q, bX_some]
      refine WP_some.2 ⟨by show (x : Int) + -1 = _; omega, b2, b3, l, rfl, b5, by omega, fun t ht l1 e => ?_⟩
      by_cases g : t = x
      · rw [g] at e; exact absurd e q
      · exact b7 t ht (by omega) e
  · obtain ⟨s1, s2, s3⟩ := s
    obtain ⟨b1, b2, b3, l, b4, b5, b6, b7⟩ := hI
    dsimp only at b1 b2 b3 b4 b7
    have hz := h.cw w b2 (fun a i g => .inr (by omega))
    have f := hz.first w
    subst b4
    unfold mX23_functionOver_L108
    dsimp only
    rw [hz.1, rdI_e (by omega), Int.toNat_natCast, f, b1, w32_id (by omega), w32_id (by omega), if_neg (by omega)]
    refine WP_some.2 ⟨b2, b3, l, rfl, b5, fun x hx e => ?_⟩
    have a := (at' s3 x b3 hx e).1.1.1
    exact b7 x hx (by omega) e
theorem m_fo238 (w : WFG G) (hs : SdX S G 2082 2083 (gFi G)) (hn : AndG G n) (nc : ¬ n ∈ c) (lt : ∀ x ∈ c, x < n) (hr : gI S 2000 127 = r) (r0 : 0 < r ∧ r < 2000000000) (h0 : Mk S G c n r) (hT : ∀ x ∈ c, gI S 2097 x = (tbT G c x : Int)) {l : Nat} (hl : l ≤ n) (hA : ∀ x, x < 2048 → gI S 2096 x = r → l ≤ x ∧ (gI S 2096 (aN' G x) = r ∨ aN' G x ∈ c) ∧ (gI S 2096 (bN' G x) = r ∨ bN' G x ∈ c)) :
    WP (lpF (mX23_functionOver_L238 (n : Int)) ((l : Int), S)) (fun z => ChW (fun a _ => a = 2097) S z ∧ gI z 2097 n = (tbT G c n : Int)) := by
  have hno := no_le w
  have n2 := hn.2.1
  have at' : ∀ x, x < 2048 → gI S 2096 x = r → Cb G c x ∧ ¬ x ∈ c ∧ x ≤ n := fun x hx e => by
    have q : ¬ x ∈ c := fun g => by have := h0.1 x g; omega
    have := h0.2.1 x hx q e
    exact ⟨this.1, q, this.2⟩
  refine WP_cnt (n + 1 - l) (fun j s => s.1 = ((l + j : Nat) : Int) ∧ ChW (fun a _ => a = 2097) S s.2 ∧ (∀ x ∈ c, gI s.2 2097 x = (tbT G c x : Int)) ∧ ∀ x, x < l + j → gI S 2096 x = r → gI s.2 2097 x = (tbT G c x : Int)) (by unfold cFU; omega) ⟨rfl, ChW.refl, hT, fun x hx e => by have := (hA x (by omega) e).1; omega⟩ (fun j s hj hI => ?_) (fun s hI => ?_)
  · obtain ⟨s1, s2⟩ := s
    obtain ⟨b1, b2, b3, b4⟩ := hI
    dsimp only at b1 b2 b3 b4
    obtain ⟨x, hx⟩ : ∃ x, x = l + j := ⟨_, rfl⟩
    rw [← hx] at b1 b4
    subst b1
    have f3 : gI s2 2000 127 = r := (b2.1 _ _ (by omega)).trans hr
    have m1 : ∀ t, gI s2 2096 t = gI S 2096 t := fun t => b2.1 _ _ (by omega)
    unfold mX23_functionOver_L238
    dsimp only
    rw [w32_id (x := (x : Int)) (by omega), w32_id (x := (n : Int)) (by omega), if_pos (by omega), rdI_e (by omega), Int.toNat_natCast, w32_gI, m1, f3, w32_id (x := r) (by omega)]
    by_cases q : gI S 2096 x = r
    · obtain ⟨⟨ax, ca, cb⟩, xc, xn⟩ := at' x (by omega) q
      have ab := aN_lt w ax.1 ax.2.1
      have sd := hs x ax.1 ax
      have g1 : gI s2 2082 x = (lA G x : Int) := (b2.1 _ _ (by omega)).trans sd.1
      have g2 : gI s2 2083 x = (lB G x : Int) := (b2.1 _ _ (by omega)).trans sd.2
      have ea : lA G x / 2 = aN' G x := rfl
      have eb : lB G x / 2 = bN' G x := rfl
      obtain ⟨_, hA1, hA2⟩ := hA x (by omega) q
      have ta : gI s2 2097 (aN' G x) = (tbT G c (aN' G x) : Int) := hA1.elim (fun g => b4 _ (by omega) g) (fun g => b3 _ g)
      have tb : gI s2 2097 (bN' G x) = (tbT G c (bN' G x) : Int) := hA2.elim (fun g => b4 _ (by omega) g) (fun g => b3 _ g)
      have la := m_tableOf (l := lA G x) (S := s2) (by omega) (by rw [ea]; exact ta) tbT_lt
      have lb := m_tableOf (l := lB G x) (S := s2) (by omega) (by rw [eb]; exact tb) tbT_lt
      have xa := xr8_lt (b := lA G x % 2) (tbT_lt (G := G) (c := c) (x := aN' G x))
      have xb := xr8_lt (b := lB G x % 2) (tbT_lt (G := G) (c := c) (x := bN' G x))
      have tv := tbT_and w xc ax
      have tl := tbT_lt (G := G) (c := c) (x := x)
      rw [if_pos q, rdI_e (by omega), Int.toNat_natCast, g1, la, bX_some, rdI_e (by omega), Int.toNat_natCast, g2, lb, bX_some, aAnd_nat (by omega) (by omega), ← tv, wrI_e (by omega), Int.toNat_natCast, bX_some]
      refine WP_some.2 ⟨by show (x : Int) + 1 = _; omega, b2.sI rfl, fun t ht => ?_, fun t ht e => ?_⟩
      · dsimp only
        rw [hI_sI_i (fun g => xc (by rw [← g]; exact ht))]; exact b3 t ht
      · dsimp only
        by_cases g : t = x
        · rw [g, gI_set, w32_id (by omega)]
        · rw [hI_sI_i g]; exact b4 t (by omega) e
    · rw [if_neg q, bX_some]
      refine WP_some.2 ⟨by show (x : Int) + 1 = _; omega, b2, b3, fun t ht e => ?_⟩
      by_cases g : t = x
      · rw [g] at e; exact absurd e q
      · exact b4 t (by omega) e
  · obtain ⟨s1, s2⟩ := s
    obtain ⟨b1, b2, b3, b4⟩ := hI
    dsimp only at b1 b2 b3 b4
    unfold mX23_functionOver_L238
    dsimp only
    rw [b1, w32_id (by omega), w32_id (by omega), if_neg (by omega)]
    exact WP_some.2 ⟨b2, b4 n (by omega) h0.2.2.1⟩
theorem m_functionOver (h : MGx S d G) (w : WFG G) (hd : d < 6) (hn : AndG G n) (hK : SlC S k c) (hk : k < 64) (o2 : SS c) (o4 : c.length ≤ 3) (o5 : ∀ x ∈ c, WdG G x) (cb : Cb G c n) (lt : ∀ x ∈ c, x < n) (hs : SdX S G 2082 2083 (gFi G)) (hst : 0 ≤ gI S 2000 127 ∧ gI S 2000 127 < 1000000000) (hsm : ∀ m, m < 2048 → - gI S 2000 127 ≤ gI S 2096 m ∧ gI S 2096 m ≤ gI S 2000 127) :
    WP (mX23_functionOver S (n : Int) (k : Int)) (fun y => y.1 = (tbT G c n : Int) ∧ ChW PRn S y.2 ∧ gI y.2 2000 127 = gI S 2000 127 + 1 ∧ ∀ m, m < 2048 → - (gI S 2000 127 + 1) ≤ gI y.2 2096 m ∧ gI y.2 2096 m ≤ gI S 2000 127 + 1) := by
  have hno := no_le w
  have nn := hn.2.1
  have nc : ¬ n ∈ c := fun g => by have := lt n g; omega
  obtain ⟨r, hr⟩ : ∃ r, r = gI S 2000 127 + 1 := ⟨_, rfl⟩
  unfold mX23_functionOver
  rw [wf_eq, ← hr]
  obtain ⟨Y, hY⟩ : ∃ Y, Y = sI S 2000 127 r := ⟨_, rfl⟩
  rw [← hY]
  have yo : ∀ a i, a ≠ 2000 → gI Y a i = gI S a i := fun a i g => by rw [hY, hI_sI_a g]
  have y27 : gI Y 2000 127 = r := by rw [hY, gI_set, w32_id (by omega)]
  rw [wrI_e (by omega), Int.toNat_natCast, y27]
  obtain ⟨T, hT⟩ : ∃ T, T = sI Y 2096 n r := ⟨_, rfl⟩
  rw [← hT]
  have t0 : ∀ a i, a ≠ 2096 → gI T a i = gI Y a i := fun a i g => by rw [hT, hI_sI_a g]
  have cT : ChW PRn S T := by rw [hT, hY]; exact (ChW.refl.sI (.inl ⟨rfl, rfl⟩)).sI (.inr (.inl rfl))
  have kT : SlC T k c := hK.mv (fun a i l1 l2 => by rw [t0 _ _ (by omega), yo _ _ (by omega)])
  refine WP_call (m_fo25 (G := G) (r := r) kT hk o4 (SS_nodup o2) (fun x hx => Wd_lt w (o5 x hx)) (by rw [t0 _ _ (by omega)]; exact y27) (by omega)) (fun z hz => ?_)
  obtain ⟨z1, z2, z3⟩ := hz
  have cz : ChW PRn S z := cT.tr z1 (fun a i g => .inr g)
  have zn : gI z 2096 n = r := by rw [z3 n nc, hT, gI_set, w32_id (by omega)]
  have zold : ∀ x, x < 2048 → ¬ x ∈ c → x ≠ n → - (r - 1) ≤ gI z 2096 x ∧ gI z 2096 x ≤ r - 1 := fun x hx g e => by
    rw [z3 x g, hT, hI_sI_i e, yo _ _ (by omega)]
    have := hsm x hx; omega
  have mk : Mk z G c n r := by
    refine ⟨fun x hx => (z2 x hx).2, fun x hx g e => ?_, zn, fun x hx => ?_, fun x hx e => ?_⟩
    · by_cases q : x = n
      · rw [q]; exact ⟨cb, Nat.le_refl _⟩
      · have := zold x hx g q; omega
    · by_cases g : x ∈ c
      · rw [(z2 x g).2]; omega
      · by_cases q : x = n
        · rw [q, zn]; omega
        · have := zold x hx g q; omega
    · refine Classical.byContradiction (fun g => ?_)
      by_cases q : x = n
      · rw [q, zn] at e; omega
      · have := zold x hx g q; omega
  have z27 : gI z 2000 127 = r := by rw [z1.1 _ _ (by omega), t0 _ _ (by omega)]; exact y27
  have hz : MGx z d G := h.cw w cz (fun a i g => by rcases g with g | g | g <;> omega)
  have sz : ∀ (u : Sto), (∀ a i, 2082 ≤ a → a ≤ 2083 → gI u a i = gI S a i) → SdX u G 2082 2083 (gFi G) := fun u e m q1 q2 => by
    rw [e _ _ (by omega) (by omega), e _ _ (by omega) (by omega)]; exact hs m q1 q2
  refine WP_call (m_fo108 hz w hd (sz z (fun a i l1 l2 => cz.1 _ _ (fun g => by rcases g with g | g | g <;> omega))) hn nc lt z27 (by omega) mk) (fun v hv => ?_)
  obtain ⟨v1, v2, l, v3, v4, v5⟩ := hv
  have cv : ChW PRn S v.2 := cz.tr v1 (fun a i g => .inr (.inl g))
  rw [v3]
  refine WP_call (m_fo238 w (sz v.2 (fun a i l1 l2 => cv.1 _ _ (fun g => by rcases g with g | g | g <;> omega))) hn nc lt ((v1.1 _ _ (by omega)).trans z27) (by omega) v2 (fun x hx => (v1.1 _ _ (by omega)).trans (z2 x hx).1) v4 v5) (fun u hu => ?_)
  obtain ⟨u1, u2⟩ := hu
  rw [rdI_e (by omega), Int.toNat_natCast, u2]
  refine WP_some.2 ⟨rfl, cv.tr u1 (fun a i g => .inr (.inr g)), ?_, fun m hm => ?_⟩
  · dsimp only
    rw [u1.1 _ _ (by omega), v1.1 _ _ (by omega)]; exact z27
  · dsimp only
    rw [u1.1 _ _ (by omega)]; exact v2.2.2.2.1 m hm
end MFUNC
