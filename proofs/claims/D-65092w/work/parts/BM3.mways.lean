/-! the reference tries ways -/
noncomputable def ndR (G : Dsg) (B : Lib) (n t : Nat) : Option Nat := omin (wCo (WW G B n t)) (oadd (wCo (WW G B n (1 - t))) (invO B))
/-- a way by the inverter costs less -/
def trn (G : Dsg) (B : Lib) (n t : Nat) : Prop := ∃ b, oadd (wCo (WW G B n (1 - t))) (invO B) = some b ∧ ∀ v, wCo (WW G B n t) = some v → b < v
def MLx (S : Sto) (l : Nat) (B : Lib) : Prop := gI S 2000 106 = (l : Int) ∧ RefL S l B ∧ gI S 2000 107 = lInv B ∧ gI S 2000 108 = ecN 1000000000 (invO B)
def MWy (z : Sto) (n : Nat) (s : WSt) : Prop := ∀ t, t < 2 → gI z 2089 (2 * n + t) = ecN 1000000000 (wCo (s t)) ∧ ∀ y, s t = some y → gI z 2090 (2 * n + t) = (y.2.1 : Int) ∧ gI z 2092 (2 * n + t) = (y.2.2.1 : Int) ∧ ∀ i, i < y.2.2.2.length → gI z 2091 (3 * (2 * n + t) + i) = ((y.2.2.2.getD i 0 : Nat) : Int)
def MNd (z : Sto) (G : Dsg) (B : Lib) (n : Nat) : Prop := ∀ t, t < 2 → gI z 2093 (2 * n + t) = ecN 1000000000 (ndR G B n t) ∧ gI z 2094 (2 * n + t) = (bo (trn G B n t) : Int)
def MWz (z : Sto) (G : Dsg) (B : Lib) (cur : Nat) : Prop := ∀ x, AndG G x → x < cur → MWy z x (WW G B x) ∧ MNd z G B x
def PMn (n a i : Nat) : Prop := ((a = 2089 ∨ a = 2090 ∨ a = 2092 ∨ a = 2093 ∨ a = 2094) ∧ (i = 2 * n ∨ i = 2 * n + 1)) ∨ (a = 2091 ∧ 6 * n ≤ i ∧ i < 6 * n + 6)
def MRo (z : Sto) (G : Dsg) : Prop := ∀ n, gFi G ≤ n → n < gNo G → gI z 2086 n = (bo (Rt G n) : Int)
def MTo (z : Sto) (G : Dsg) (L : List (List Nat)) (n : Nat) : Prop := ∀ k, k < L.length → gI z 2098 k = (tbT G (L.getD k []) n : Int)
def CMw (z : Sto) (G : Dsg) (B : Lib) (d l : Nat) (L : List (List Nat)) (n : Nat) : Prop := MGx z d G ∧ MLx z l B ∧ MRo z G ∧ RcF z L.length (fun k => L.getD k []) ∧ MTo z G L n ∧ MWz z G B n
section MWAYS
variable {S z : Sto} {G : Dsg} {B : Lib} {d n i l c m o tu x t u : Nat} {L : List (List Nat)} {s : WSt}
theorem MLx.mv (w : WFL B) (hl : l < 3) (h : MLx S l B) (e : ∀ a i, 2067 ≤ a → a ≤ 2071 → gI z a i = gI S a i) (e1 : ∀ i, 106 ≤ i → i ≤ 108 → gI z 2000 i = gI S 2000 i) : MLx z l B := by
  obtain ⟨h1, h2, h3, h4⟩ := h
  refine ⟨(e1 _ (by omega) (by omega)).trans h1, ?_, (e1 _ (by omega) (by omega)).trans h3, (e1 _ (by omega) (by omega)).trans h4⟩
  unfold RefL at h2 ⊢
  simp (disch := omega) only [e]
  exact h2
theorem MLx.cw (w : WFL B) (hl : l < 3) {Pp : Nat → Nat → Prop} (h : MLx S l B) (g : ChW Pp S z) (q : ∀ a i, Pp a i → (a = 2000 ∧ ¬ (106 ≤ i ∧ i ≤ 108)) ∨ 2071 < a) : MLx z l B := h.mv w hl (fun a i l1 l2 => g.1 a i (fun k => by have := q a i k; omega)) (fun i l1 l2 => g.1 _ i (fun k => by have := q _ _ k; omega))
theorem MWz.cw (w : WFG G) (wl : WFL B) (h : MWz S G B n) {Pp : Nat → Nat → Prop} (g : ChW Pp S z) (q : ∀ a i, Pp a i → PMn n a i ∨ ¬ (2089 ≤ a ∧ a ≤ 2094)) : MWz z G B n := fun x hx l => by
  obtain ⟨h0, h1⟩ := h x hx l
  have ok := WW_ok w wl x hx
  refine ⟨fun t ht => ⟨(g.1 _ _ (fun k => by have k := q _ _ k; unfold PMn at k; omega)).trans (h0 t ht).1, fun y hy => ?_⟩, fun t ht => ⟨(g.1 _ _ (fun k => by have k := q _ _ k; unfold PMn at k; omega)).trans (h1 t ht).1, (g.1 _ _ (fun k => by have k := q _ _ k; unfold PMn at k; omega)).trans (h1 t ht).2⟩⟩
  obtain ⟨a1, a2, a3⟩ := (h0 t ht).2 y hy
  have b := (ok t y hy)
  have b3 := bI_rng wl b.2.1
  refine ⟨(g.1 _ _ (fun k => by have k := q _ _ k; unfold PMn at k; omega)).trans a1, (g.1 _ _ (fun k => by have k := q _ _ k; unfold PMn at k; omega)).trans a2, fun i hi => (g.1 _ _ (fun k => by
    have k := q _ _ k
    have l3 := b.2.2.2.1
    unfold PMn at k; omega)).trans (a3 i hi)⟩
theorem CMw.cw (w : WFG G) (wl : WFL B) (hl : l < 3) (h : CMw S G B d l L n) (g : ChW (PMn n) S z) : CMw z G B d l L n := by
  obtain ⟨h1, h2, h3, h4, h5, h6⟩ := h
  have o : ∀ a i, ¬ (2089 ≤ a ∧ a ≤ 2094) → gI z a i = gI S a i := fun a i q => g.1 _ _ (fun k => by unfold PMn at k; omega)
  exact ⟨h1.cw w g (fun a i q => by unfold PMn at q; omega), h2.cw wl hl g (fun a i q => by unfold PMn at q; omega), fun n q1 q2 => (o _ _ (by omega)).trans (h3 n q1 q2), h4.mv (o _ _ (by omega)) (fun a i l1 l2 => o _ _ (by omega)), fun k hk => (o _ _ (by omega)).trans (h5 k hk), h6.cw w wl g (fun a i q => .inl q)⟩
theorem m_inputAt (hm : 1 ≤ m ∧ m ≤ 3) (ho : o < nOrd m) (hi : i < m) : mX23_inputAt (m : Int) (o : Int) (i : Int) = some (inpM m o i : Int) := by
  have o6 := nOrd_le hm.2
  rcases (show m = 1 ∨ m = 2 ∨ m = 3 by omega) with rfl | rfl | rfl
  · have : nOrd 1 = 1 := rfl
    have : o = 0 := by omega
    have : i = 0 := by omega
    subst o i; rfl
  · have : nOrd 2 = 2 := rfl
    rcases (show o = 0 ∨ o = 1 by omega) with rfl | rfl <;> rcases (show i = 0 ∨ i = 1 by omega) with rfl | rfl <;> rfl
  · rcases (show o = 0 ∨ o = 1 ∨ o = 2 ∨ o = 3 ∨ o = 4 ∨ o = 5 by omega) with rfl | rfl | rfl | rfl | rfl | rfl <;> rcases (show i = 0 ∨ i = 1 ∨ i = 2 by omega) with rfl | rfl | rfl <;> rfl
theorem m_cellOver (hm : 1 ≤ m ∧ m ≤ 3) (ho : o < nOrd m) (ht : tu < 8) {f : Nat} (hf : f < 256) (ef : f = bF B c) : mX23_cellOver (f : Int) (m : Int) (o : Int) (tu : Int) = some (bitsN 8 (plF B c m o tu) : Int) := by
  refine WP.of ?_
  unfold mX23_cellOver
  refine WP_call (R := fun y => y = (bitsN 8 (plF B c m o tu) : Int)) ?_ (fun y hy => WP_some.2 hy)
  refine WP_cnt 8 (fun s st => st.2 = (s : Int) ∧ st.1 = (bitsN s (plF B c m o tu) : Int)) (by unfold cFU; omega) ⟨rfl, rfl⟩ (fun s st hs hI => ?_) (fun st hI => ?_)
  · obtain ⟨s1, s2⟩ := st
    obtain ⟨b1, b2⟩ := hI
    dsimp only at b1 b2
    subst b1 b2
    have inner : lpF (mX23_cellOver_L19 (m : Int) (o : Int) ((bitsN s (plF B c m o tu) : Int), (s : Int)) (tu : Int)) (0, 0) = some (bitsN m (fun i => s.testBit (inpM m o i) ^^ tu.testBit i) : Int) := by
      refine WP.of ?_
      refine WP_cnt m (fun i st => st.2 = (i : Int) ∧ st.1 = (bitsN i (fun i => s.testBit (inpM m o i) ^^ tu.testBit i) : Int)) (by unfold cFU; omega) ⟨rfl, rfl⟩ (fun i st hi hI => ?_) (fun st hI => ?_)
      · obtain ⟨t1, t2⟩ := st
        obtain ⟨c1, c2⟩ := hI
        dsimp only at c1 c2
        subst c1 c2
        have il := inpM_lt hm ho hi
        have xb : aAnd (aXor (aShr (s : Int) (inpM m o i : Int)) (aShr (tu : Int) (i : Int))) 1 = b2i (s.testBit (inpM m o i) ^^ tu.testBit i) := by
          have l1 : s / 2 ^ inpM m o i < 8 := Nat.lt_of_le_of_lt (Nat.div_le_self _ _) hs
          have l2 : tu / 2 ^ i < 8 := Nat.lt_of_le_of_lt (Nat.div_le_self _ _) ht
          rw [aShr_nat (by omega) (by omega), aShr_nat (by omega) (by omega), aXor_nat (by omega) (by omega), aAnd1_n]
          have e : ((s / 2 ^ inpM m o i) ^^^ (tu / 2 ^ i)).testBit 0 = (s.testBit (inpM m o i) ^^ tu.testBit i) := by
            rw [Nat.testBit_xor, Nat.testBit_div_two_pow, Nat.testBit_div_two_pow, Nat.zero_add, Nat.zero_add]
          rw [← e, Nat.testBit_zero]
          unfold b2i
          by_cases g : ((s / 2 ^ inpM m o i) ^^^ (tu / 2 ^ i)) % 2 = 1
          · rw [if_pos (decide_eq_true g), g]; rfl
          · rw [if_neg (by rw [decide_eq_false g]; decide)]; omega
        unfold mX23_cellOver_L19
        dsimp only
        rw [w32_id (by omega), w32_id (by omega), if_pos (by omega), m_inputAt hm ho hi, bX_some, xb, aOr_bits (f := fun i => s.testBit (inpM m o i) ^^ tu.testBit i) rfl (by omega)]
        exact WP_some.2 ⟨by show (i : Int) + 1 = _; omega, rfl⟩
      · obtain ⟨t1, t2⟩ := st
        obtain ⟨c1, c2⟩ := hI
        dsimp only at c1 c2
        subst c1 c2
        unfold mX23_cellOver_L19
        dsimp only
        rw [if_neg (by omega)]
        exact WP_some.2 rfl
    have tl := bitsN_lt m (fun i => s.testBit (inpM m o i) ^^ tu.testBit i)
    have p8 := pow_m8 hm.2
    unfold mX23_cellOver_L6
    dsimp only
    rw [w32_id (x := (s : Int)) (by omega), if_pos (by omega), inner, bX_some, aBit (by omega) (by omega), aOr_bits (f := plF B c m o tu) (by unfold plF; rw [ef]) (by omega)]
    exact WP_some.2 ⟨by show (s : Int) + 1 = _; omega, rfl⟩
  · obtain ⟨s1, s2⟩ := st
    obtain ⟨b1, b2⟩ := hI
    dsimp only at b1 b2
    subst b1 b2
    unfold mX23_cellOver_L6
    dsimp only
    rw [if_neg (by decide)]
    exact WP_some.2 rfl
theorem m_costOf (w : WFG G) (hG : MGx S d G) (hd : d < 6) (hL : MLx S l B) (hr : MRo S G) (hW : MWz S G B n) (hx : WdG G x) (xn : x < n) (ht : t < 2) : mX23_costOf S (x : Int) (t : Int) = some (ecN 1000000000 (ndO G B (WW G B) x t)) := by
  have xl := Wd_lt w hx
  have z0 : (2 * (x : Int) + (t : Int)).toNat = 2 * x + t := by omega
  unfold mX23_costOf
  rw [m_isInner hG w hd hr hx.1, bX_some]
  unfold ndO
  by_cases q : InG G x
  · have e := ((hW x q.and xn).2 t ht).1
    rw [cI_t q, if_pos (by decide), rdI_e (by omega), z0, e, bX_some, cG_t q]; rfl
  · rw [cI_f q, if_neg (by decide), w32_id (by omega), cG_f q]
    by_cases g : t = 0
    · rw [if_pos (by omega), bX_some, if_pos g]; rfl
    · rw [if_neg (by omega), bX_some, if_neg g, hL.2.2.2]
/-- the cost as a long number: at least the least that can't be, if a part can't be -/
def eLo (o : Option Nat) (x : Int) : Prop := match o with
  | none => 1000000000 ≤ x ∧ x ≤ 9000000000
  | some v => x = (v : Int)
theorem tw_a {Y I : Int} (h : 0 ≤ Y) (h2 : Y ≤ 20000000) (hi : 0 ≤ I) : 1000000000 ≤ Y + 1000000000 ∧ Y + 1000000000 ≤ 2000000000 * (I + 1 + 1) := by
  constructor
  · exact Int.le_add_of_nonneg_left h
  · have a : Y + 1000000000 ≤ 20000000 + 1000000000 := Int.add_le_add_right h2 _
    have b : (2000000000 : Int) * (0 + 1 + 1) ≤ 2000000000 * (I + 1 + 1) := Int.mul_le_mul_of_nonneg_left (Int.add_le_add_right (Int.add_le_add_right hi 1) 1) (by decide)
    exact Int.le_trans a (Int.le_trans (by decide) b)
def eLi (o : Option Nat) (i : Nat) (x : Int) : Prop := match o with
  | none => 1000000000 ≤ x ∧ x ≤ 2000000000 * ((i : Int) + 1)
  | some v => x = (v : Int)
theorem m_tw20 (w : WFG G) (wl : WFL B) (hG : MGx S d G) (hd : d < 6) (hL : MLx S l B) (hr : MRo S G) (hW : MWz S G B n) (hF : RcF S L.length (fun k => L.getD k [])) (hu : u < L.length) (h63 : L.length ≤ 63) (hc : c < liN B) (hm : (L.getD u []).length = bI B c) (hw : ∀ x ∈ L.getD u [], WdG G x ∧ x < n) (ho : o < nOrd (bI B c)) (ht : tu < 8) :
    WP (lpF (mX23_tryWay_L20 S (u : Int) (o : Int) (tu : Int)) (i2l (bA B c : Int), 0)) (fun y : Int64 => eLo (costO (bA B c) (ndO G B (WW G B)) (nds (L.getD u []) (bI B c) o) tu (bI B c)) y.toInt) := by
  obtain ⟨r1, r2, r3, r4, r5, r6, r7, r8⟩ := bI_rng wl hc
  have sl := hF.2 u hu
  have s1' : gI S 2087 u = ((L.getD u []).length : Int) := sl.1
  have s2' : ∀ i, i < (L.getD u []).length → gI S 2088 (3 * u + i) = (((L.getD u []).getD i 0 : Nat) : Int) := sl.2
  refine WP_cnt (bI B c) (fun i (st : Int64 × Int) => st.2 = (i : Int) ∧ eLi (costO (bA B c) (ndO G B (WW G B)) (nds (L.getD u []) (bI B c) o) tu i) i st.1.toInt) (by unfold cFU; omega) ⟨rfl, by show (i2l (bA B c : Int)).toInt = (bA B c : Int); rw [i2l_int, w32_id (by omega)]⟩ (fun i st hi hI => ?_) (fun st hI => ?_)
  · obtain ⟨t1, t2⟩ := st
    obtain ⟨b1, b2⟩ := hI
    dsimp only at b1 b2
    subst b1
    have il := inpM_lt (m := bI B c) ⟨r1, r2⟩ ho hi
    have zc : (3 * (u : Int) + (inpM (bI B c) o i : Int)).toNat = 3 * u + inpM (bI B c) o i := by omega
    have cn := s2' (inpM (bI B c) o i) (by rw [hm]; exact il)
    obtain ⟨x, hx⟩ : ∃ x, x = (L.getD u []).getD (inpM (bI B c) o i) 0 := ⟨_, rfl⟩
    have wx := hw x (by rw [hx]; exact getD_mem (by rw [hm]; exact il))
    have nx : (nds (L.getD u []) (bI B c) o).getD i 0 = x := by rw [nds_get hi, hx]
    have nd := m_costOf (t := bitN tu i) w hG hd hL hr hW wx.1 wx.2 bitN_lt
    have step : costO (bA B c) (ndO G B (WW G B)) (nds (L.getD u []) (bI B c) o) tu (i + 1) = oadd (costO (bA B c) (ndO G B (WW G B)) (nds (L.getD u []) (bI B c) o) tu i) (ndO G B (WW G B) x (bitN tu i)) := by rw [← nx]; rfl
    have c20 := fun v => costO_20 (tu := tu) (l := nds (L.getD u []) (bI B c) o) w wl r8 i v (by omega)
    have n20 := fun v => nd_le w wl (x := x) (t := bitN tu i) (v := v)
    unfold mX23_tryWay_L20
    dsimp only
    rw [rdI_e (by omega), Int.toNat_natCast, s1', hm, w32_id (by omega), w32_id (by omega), if_pos (by omega), rdI_e (by omega), Int.toNat_natCast, s1', hm, m_inputAt ⟨r1, r2⟩ ho hi, bX_some, rdI_e (by omega), zc, cn, ← hx, aBit (by omega) (by omega), b2i_bit, nd, bX_some]
    refine WP_some.2 ⟨by show (i : Int) + 1 = _; omega, ?_⟩
    dsimp only
    rw [step]
    generalize costO (bA B c) (ndO G B (WW G B)) (nds (L.getD u []) (bI B c) o) tu i = a at *
    generalize ndO G B (WW G B) x (bitN tu i) = b at *
    have ib : (i2l (ecN 1000000000 b)).toInt = ecN 1000000000 b := by
      rw [i2l_int]
      cases b with
      | none => rfl
      | some v => have := n20 v rfl; exact w32_id (by show _ ≤ (v : Int) ∧ (v : Int) < _; omega)
    cases a with
    | none =>
      have b2 : 1000000000 ≤ t1.toInt ∧ t1.toInt ≤ 2000000000 * ((i : Int) + 1) := b2
      have rb : 0 ≤ ecN 1000000000 b ∧ ecN 1000000000 b ≤ 1000000000 := by
        cases b with
        | none => exact ⟨by decide, by decide⟩
        | some v => have := n20 v rfl; show 0 ≤ (v : Int) ∧ (v : Int) ≤ _; omega
      have e := l64_add (x := t1) (y := i2l (ecN 1000000000 b)) rfl ib (by omega)
      show 1000000000 ≤ (t1 + i2l (ecN 1000000000 b)).toInt ∧ (t1 + i2l (ecN 1000000000 b)).toInt ≤ 2000000000 * (((i + 1 : Nat) : Int) + 1)
      rw [e]; omega
    | some y =>
      have b2 : t1.toInt = (y : Int) := b2
      have := c20 y rfl
      cases b with
      | none =>
        have e := l64_add b2 ib (by show _ ≤ (y : Int) + 1000000000 ∧ (y : Int) + 1000000000 < _; omega)
        show 1000000000 ≤ (t1 + i2l (ecN 1000000000 none)).toInt ∧ (t1 + i2l (ecN 1000000000 none)).toInt ≤ 2000000000 * (((i + 1 : Nat) : Int) + 1)
        rw [e]
        have y20 : (y : Int) ≤ 20000000 := by clear e ib; omega
        have ei : ((i + 1 : Nat) : Int) = (i : Int) + 1 := Int.natCast_add i 1
        rw [ei]
        have tt := tw_a (Int.natCast_nonneg y) y20 (Int.natCast_nonneg i)
        exact tt
      | some v =>
        have := n20 v rfl
        have e := l64_add b2 ib (by show _ ≤ (y : Int) + (v : Int) ∧ (y : Int) + (v : Int) < _; omega)
        show (t1 + i2l (ecN 1000000000 (some v))).toInt = ((y + v : Nat) : Int)
        rw [e]
        exact (Int.natCast_add y v).symm
  · obtain ⟨t1, t2⟩ := st
    obtain ⟨b1, b2⟩ := hI
    dsimp only at b1 b2
    subst b1
    unfold mX23_tryWay_L20
    dsimp only
    rw [rdI_e (by omega), Int.toNat_natCast, s1', hm, if_neg (by omega)]
    refine WP_some.2 ?_
    show eLo _ t1.toInt
    generalize costO (bA B c) (ndO G B (WW G B)) (nds (L.getD u []) (bI B c) o) tu (bI B c) = a at *
    cases a with
    | none =>
      have b2 : 1000000000 ≤ t1.toInt ∧ t1.toInt ≤ 2000000000 * ((bI B c : Int) + 1) := b2
      show 1000000000 ≤ t1.toInt ∧ t1.toInt ≤ 9000000000
      omega
    | some v => exact b2
end MWAYS
