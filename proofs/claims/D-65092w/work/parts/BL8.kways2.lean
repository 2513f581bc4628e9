/-! the class tries ways: a node's -/
def KWy (z : Sto) (n : Nat) (s : WSt) : Prop := ∀ t, t < 2 → gI z 204 (2 * n + t) = ecN 100000000 (wCo (s t)) ∧ ∀ y, s t = some y → gI z 205 (2 * n + t) = (y.2.1 : Int) ∧ gI z 207 (2 * n + t) = (y.2.2.1 : Int) ∧ ∀ i, i < y.2.2.2.length → gI z 206 (3 * (2 * n + t) + i) = ((y.2.2.2.getD i 0 : Nat) : Int)
def KWz (z : Sto) (G : Dsg) (B : Lib) (cur : Nat) : Prop := ∀ x, AndG G x → x < cur → KWy z x (WW G B x)
def PWn (n a i : Nat) : Prop := ((a = 204 ∨ a = 205 ∨ a = 207) ∧ (i = 2 * n ∨ i = 2 * n + 1)) ∨ (a = 206 ∧ 6 * n ≤ i ∧ i < 6 * n + 6)
def KRo (z : Sto) (G : Dsg) : Prop := ∀ n, gFi G ≤ n → n < gNo G → gI z 203 n = (bo (Rt G n) : Int)
def KTo (z : Sto) (G : Dsg) (K : List (List Nat)) (n : Nat) : Prop := ∀ k, k < K.length → gI z 217 k = (tbT G (K.getD k []) n : Int)
/-- what trying ways needs -/
def CXw (z : Sto) (G : Dsg) (B : Lib) (d k : Nat) (K : List (List Nat)) (n : Nat) : Prop := KGx z d G ∧ KLx z k B ∧ KRo z G ∧ PlD z B (liN B) ∧ KcD z K ∧ SoD z K K.length ∧ KTo z G K n ∧ KWz z G B n
section KWAYS2
variable {S z : Sto} {G : Dsg} {B : Lib} {d n i k c m o tu x t : Nat} {K : List (List Nat)} {s : WSt}
theorem KWy.mv (h : KWy S n s) (e : ∀ a i, 204 ≤ a → a ≤ 207 → gI z a i = gI S a i) : KWy z n s := fun t ht => ⟨(e _ _ (by omega) (by omega)).trans (h t ht).1, fun y hy => ⟨(e _ _ (by omega) (by omega)).trans ((h t ht).2 y hy).1, (e _ _ (by omega) (by omega)).trans ((h t ht).2 y hy).2.1, fun i hi => (e _ _ (by omega) (by omega)).trans (((h t ht).2 y hy).2.2 i hi)⟩⟩
theorem KWz.cw (w : WFG G) (wl : WFL B) (h : KWz S G B n) {Pp : Nat → Nat → Prop} (g : ChW Pp S z) (q : ∀ a i, Pp a i → PWn n a i ∨ ¬ (204 ≤ a ∧ a ≤ 207)) : KWz z G B n := fun x hx l => by
  have h0 := h x hx l
  have ok := WW_ok w wl x hx
  refine fun t ht => ⟨(g.1 _ _ (fun k => by have k := q _ _ k; unfold PWn at k; omega)).trans (h0 t ht).1, fun y hy => ?_⟩
  obtain ⟨a1, a2, a3⟩ := (h0 t ht).2 y hy
  have b := (ok t y hy)
  have b3 := bI_rng wl b.2.1
  refine ⟨(g.1 _ _ (fun k => by have k := q _ _ k; unfold PWn at k; omega)).trans a1, (g.1 _ _ (fun k => by have k := q _ _ k; unfold PWn at k; omega)).trans a2, fun i hi => (g.1 _ _ (fun k => by
    have k := q _ _ k
    have l3 := b.2.2.2.1
    unfold PWn at k; omega)).trans (a3 i hi)⟩
theorem CXw.cw (w : WFG G) (wl : WFL B) (h : CXw S G B d k K n) (g : ChW (PWn n) S z) : CXw z G B d k K n := by
  obtain ⟨h1, h2, h3, h4, h5, h6, h7, h8⟩ := h
  have o : ∀ a i, ¬ (204 ≤ a ∧ a ≤ 207) → gI z a i = gI S a i := fun a i q => g.1 _ _ (fun k => by unfold PWn at k; omega)
  exact ⟨h1.cw g (fun a i q => by unfold PWn at q; omega), h2.cw g (fun a i q => by unfold PWn at q; omega), fun n q1 q2 => (o _ _ (by omega)).trans (h3 n q1 q2), fun c o' tu q1 q2 q3 => (o _ _ (by omega)).trans (h4 c o' tu q1 q2 q3), h5.mv (o _ _ (by omega)) (fun a i l1 l2 => o _ _ (by omega)), fun t ht => by
    obtain ⟨j, j1, j2, j3⟩ := h6 t ht
    exact ⟨j, j1, (o _ _ (by omega)).trans j2, j3⟩, fun k hk => (o _ _ (by omega)).trans (h7 k hk), h8.cw w wl g (fun a i q => .inl q)⟩
theorem nd_st (hx : x < n) : ndO G B (stg (fun _ => none) (wyF G B) n) x t = ndO G B (WW G B) x t := by
  unfold ndO
  rw [WW_at hx]
theorem nd_le (w : WFG G) (wl : WFL B) {v : Nat} (h : ndO G B (WW G B) x t = some v) : v ≤ 6000000 := by
  have a := ndO_le wl (fun q t v' e => by
    cases k : WW G B x t with
    | none => rw [k] at e; cases e
    | some y => rw [k] at e; cases e; exact (WW_ok w wl x q.and t y k).1) h
  unfold tsx at a
  by_cases q : InG G x
  · rw [cG_t q] at a
    have := tSz_le w q.and
    omega
  · rw [cG_f q] at a; omega
theorem ww_le (w : WFG G) (wl : WFL B) (hx : AndG G x) {v : Nat} (h : wCo (WW G B x t) = some v) : v ≤ 6000000 := by
  cases k : WW G B x t with
  | none => rw [k] at h; cases h
  | some y =>
    rw [k] at h
    cases h
    have := (WW_ok w wl x hx t y k).1
    have := tSz_le w hx
    omega
theorem inv_a (wl : WFL B) (h : KLx S k B) (q : lInv B ≠ -1) : ∃ v, invO B = some v ∧ v ≤ 1000 ∧ gI S (344 + 22 * k + 1 + 3) (lInv B).toNat = (v : Int) ∧ 0 ≤ lInv B ∧ lInv B < 12 := by
  have r' : -1 ≤ lInv B ∧ lInv B < (liN B : Int) := lInvN_rng (B := B) (n := liN B)
  have hn := wl.nums
  have e : invO B = some (bA B (lInv B).toNat) := if_neg q
  have r := bI_rng wl (c := (lInv B).toNat) (by omega)
  refine ⟨_, e, invO_le wl e, ?_, by omega, by omega⟩
  have := (h.2.1.2 (lInv B).toNat (by omega)).2.2.1
  rw [this]; exact r.2.2.2.2.2.1
theorem k_needOf (w : WFG G) (wl : WFL B) (hG : KGx S d G) (hd : d < 6) (hL : KLx S k B) (hk : k < 4) (hr : KRo S G) (hW : KWz S G B n) (hx : WdG G x) (xn : x < n) (ht : t < 2) : mX12_needOf S (x : Int) (t : Int) = some (ecN 100000000 (ndO G B (WW G B) x t)) := by
  have xl := Wd_lt w hx
  unfold mX12_needOf
  rw [k_isLeaf hG w hd hr hx.1, bX_some, hL.2.2]
  unfold ndO
  have r' : -1 ≤ lInv B ∧ lInv B < (liN B : Int) := lInvN_rng (B := B) (n := liN B)
  have hn := wl.nums
  by_cases q : InG G x
  · rw [cI_t q, if_neg (by decide), cG_t q]
    have e1 := (hW x q.and xn (1 - t) (by omega)).1
    have e0 := (hW x q.and xn t ht).1
    have z1 : (2 * (x : Int) + 1 - (t : Int)).toNat = 2 * x + (1 - t) := by omega
    have z0 : (2 * (x : Int) + (t : Int)).toNat = 2 * x + t := by omega
    have l1 := fun v => ww_le w wl q.and (t := 1 - t) (v := v)
    have l0 := fun v => ww_le w wl q.and (t := t) (v := v)
    generalize wCo (WW G B x (1 - t)) = a1 at *
    generalize wCo (WW G B x t) = a0 at *
    by_cases qi : lInv B = -1
    · have ei : invO B = none := if_pos qi
      rw [w32_id (by omega), if_pos qi, bX_some, rdI_e (by omega), z0, e0, ei]
      cases a0 with
      | none =>
        rw [min_e (by show _ ≤ (100000000 : Int) ∧ (100000000 : Int) < _; omega) (by omega), bX_some]
        cases a1 <;> rfl
      | some v =>
        have := l0 v rfl
        rw [min_e (by show _ ≤ (v : Int) ∧ (v : Int) < _; omega) (by omega), bX_some]
        have e : min (v : Int) 100000000 = (v : Int) := by omega
        cases a1 <;> exact congrArg some e
    · obtain ⟨v, v1, v2, v3, v4, v5⟩ := inv_a wl hL qi
      rw [w32_id (by omega), if_neg qi, rdI_e (by omega), z1, e1, hL.1, gk_own hk, rdI_e (by omega), v3, bX_some, rdI_e (by omega), z0, e0, v1]
      cases a0 with
      | none =>
        cases a1 with
        | none =>
          rw [min_e (by show _ ≤ (100000000 : Int) ∧ (100000000 : Int) < _; omega) (by show _ ≤ (100000000 : Int) + _ ∧ (100000000 : Int) + _ < _; omega), bX_some]
          have e : min (100000000 : Int) (100000000 + (v : Int)) = 100000000 := by omega
          exact congrArg some e
        | some u =>
          have := l1 u rfl
          rw [min_e (by show _ ≤ (100000000 : Int) ∧ (100000000 : Int) < _; omega) (by show _ ≤ (u : Int) + _ ∧ (u : Int) + _ < _; omega), bX_some]
          have e : min (100000000 : Int) ((u : Int) + (v : Int)) = ((u + v : Nat) : Int) := by omega
          exact congrArg some e
      | some y =>
        have := l0 y rfl
        cases a1 with
        | none =>
          rw [min_e (by show _ ≤ (y : Int) ∧ (y : Int) < _; omega) (by show _ ≤ (100000000 : Int) + _ ∧ (100000000 : Int) + _ < _; omega), bX_some]
          have e : min (y : Int) (100000000 + (v : Int)) = (y : Int) := by omega
          exact congrArg some e
        | some u =>
          have := l1 u rfl
          rw [min_e (by show _ ≤ (y : Int) ∧ (y : Int) < _; omega) (by show _ ≤ (u : Int) + _ ∧ (u : Int) + _ < _; omega), bX_some]
          have e : min (y : Int) ((u : Int) + (v : Int)) = ((min y (u + v) : Nat) : Int) := by omega
          exact congrArg some e
  · rw [cI_f q, if_pos (by decide), cG_f q, w32_id (by omega)]
    by_cases qt : t = 0
    · rw [if_pos (by omega), bX_some, if_pos qt]; rfl
    · rw [if_neg (by omega), if_neg qt]
      by_cases qi : lInv B = -1
      · have ei : invO B = none := if_pos qi
        rw [w32_id (by omega), if_pos qi, bX_some, ei]; rfl
      · obtain ⟨v, v1, v2, v3, v4, v5⟩ := inv_a wl hL qi
        rw [w32_id (by omega), if_neg qi, hL.1, gk_own hk, rdI_e (by omega), v3, bX_some, v1]; rfl
theorem costO_20 (w : WFG G) (wl : WFL B) {A : Nat} {l : List Nat} (hA : A ≤ 1000) : ∀ i v, i ≤ 3 → costO A (ndO G B (WW G B)) l tu i = some v → v ≤ 1000 + 6000000 * i := by
  intro i v hi h
  have := costO_le (b := fun _ => 6000000) (fun x t v e => nd_le w wl e) i v h
  have e : smN (fun _ => 6000000) i ≤ i * 6000000 := smN_le (fun _ _ => Nat.le_refl _)
  omega
theorem b2i_bit {x i : Nat} : b2i (x.testBit i) = (bitN x i : Int) := by unfold bitN; cases x.testBit i <;> rfl
theorem bitN_lt {x i : Nat} : bitN x i < 2 := by unfold bitN; split <;> omega
theorem ec_min {N : Int} {M : Nat} {a b : Option Nat} (ha : ∀ u, a = some u → u ≤ M) (hb : ∀ v, b = some v → v ≤ M) (hN : 2 * (M : Int) ≤ N) (hN2 : N ≤ 1000000000) : min N (ecN N a + ecN N b) = ecN N (oadd a b) ∧ -2147483648 ≤ ecN N a + ecN N b ∧ ecN N a + ecN N b < 2147483648 := by
  cases a with
  | none =>
    cases b with
    | none => show min N (N + N) = N ∧ _ ≤ N + N ∧ N + N < _; omega
    | some v =>
      have := hb v rfl
      show min N (N + (v : Int)) = N ∧ _ ≤ N + (v : Int) ∧ N + (v : Int) < _
      omega
  | some u =>
    have := ha u rfl
    cases b with
    | none => show min N ((u : Int) + N) = N ∧ _ ≤ (u : Int) + N ∧ (u : Int) + N < _; omega
    | some v =>
      have := hb v rfl
      show min N ((u : Int) + (v : Int)) = ((u + v : Nat) : Int) ∧ _ ≤ (u : Int) + (v : Int) ∧ (u : Int) + (v : Int) < _
      omega
theorem k_cost (w : WFG G) (wl : WFL B) (hG : KGx S d G) (hd : d < 6) (hL : KLx S k B) (hk : k < 4) (hr : KRo S G) (hW : KWz S G B n) (hK : KcD S K) {kc : Nat} (hkc : kc < K.length) (h63 : K.length ≤ 63) (hc : c < liN B) (hm : (K.getD kc []).length = bI B c) (hw : ∀ x ∈ K.getD kc [], WdG G x ∧ x < n) (ho : o < nOrd (bI B c)) (ht : tu < 8) :
    mX12_cost S (c : Int) (kc : Int) (ordK (bI B c) o : Int) (tu : Int) = some (ecN 100000000 (costO (bA B c) (ndO G B (WW G B)) (nds (K.getD kc []) (bI B c) o) tu (bI B c))) := by
  have hn := wl.nums
  obtain ⟨r1, r2, r3, r4, r5, r6, r7, r8⟩ := bI_rng wl hc
  have e3 := (hL.2.1.2 c hc).2.2.1
  have e1 := (hL.2.1.2 c hc).1
  rw [r6] at e3
  rw [r3] at e1
  refine WP.of ?_
  unfold mX12_cost
  rw [hL.1, gk_own hk, rdI_e (by omega), Int.toNat_natCast, e3]
  refine WP_call (R := fun y => y = ecN 100000000 (costO (bA B c) (ndO G B (WW G B)) (nds (K.getD kc []) (bI B c) o) tu (bI B c))) ?_ (fun y hy => WP_some.2 hy)
  refine WP_cnt (bI B c) (fun i st => st.2 = (i : Int) ∧ st.1 = ecN 100000000 (costO (bA B c) (ndO G B (WW G B)) (nds (K.getD kc []) (bI B c) o) tu i)) (by unfold cFU; omega) ⟨rfl, rfl⟩ (fun i st hi hI => ?_) (fun st hI => ?_)
  · obtain ⟨s1, s2⟩ := st
    obtain ⟨b1, b2⟩ := hI
    dsimp only at b1 b2
    subst b1 b2
    obtain ⟨o1, o2, o3⟩ := ord_k ⟨r1, r2⟩ ho hi
    have il := inpM_lt (m := bI B c) ⟨r1, r2⟩ ho hi
    have z3 : 3 * (ordK (bI B c) o : Int) + (i : Int) = ((3 * ordK (bI B c) o + i : Nat) : Int) := by omega
    have zc : (3 * (kc : Int) + (inpM (bI B c) o i : Int)).toNat = 3 * kc + inpM (bI B c) o i := by omega
    have cn := (hK.2 kc hkc).2 (inpM (bI B c) o i) (by rw [hm]; exact il)
    obtain ⟨x, hx⟩ : ∃ x, x = (K.getD kc []).getD (inpM (bI B c) o i) 0 := ⟨_, rfl⟩
    have wx := hw x (by rw [hx]; exact getD_mem (by rw [hm]; exact il))
    have nx : (nds (K.getD kc []) (bI B c) o).getD i 0 = x := by rw [nds_get hi, hx]
    have nd := k_needOf (t := bitN tu i) w wl hG hd hL hk hr hW wx.1 wx.2 bitN_lt
    have step : costO (bA B c) (ndO G B (WW G B)) (nds (K.getD kc []) (bI B c) o) tu (i + 1) = oadd (costO (bA B c) (ndO G B (WW G B)) (nds (K.getD kc []) (bI B c) o) tu i) (ndO G B (WW G B) x (bitN tu i)) := by rw [← nx]; rfl
    have c20 := fun v => costO_20 (tu := tu) (l := nds (K.getD kc []) (bI B c) o) w wl r8 i v (by omega)
    have n20 := fun v => nd_le w wl (x := x) (t := bitN tu i) (v := v)
    unfold mX12_cost_L14
    dsimp only
    rw [hL.1, gk_own hk, rdI_e (by omega), Int.toNat_natCast, e1, w32_id (by omega), w32_id (by omega), if_pos (by omega), z3, rdO (by omega), o3, rdI_e (by omega), zc, cn, ← hx, aBit (by omega) (by omega), b2i_bit, nd, bX_some]
    rw [step]
    generalize costO (bA B c) (ndO G B (WW G B)) (nds (K.getD kc []) (bI B c) o) tu i = a at *
    generalize ndO G B (WW G B) x (bitN tu i) = b at *
    have fin := ec_min (N := 100000000) (M := 20000000) (a := a) (b := b) (fun u e => Nat.le_trans (c20 u e) (by omega)) (fun v e => Nat.le_trans (n20 v e) (by omega)) (by omega) (by omega)
    rw [min_e (by omega) fin.2, bX_some, fin.1]
    exact WP_some.2 ⟨by show (i : Int) + 1 = _; omega, rfl⟩
  · obtain ⟨s1, s2⟩ := st
    obtain ⟨b1, b2⟩ := hI
    dsimp only at b1 b2
    subst b1 b2
    unfold mX12_cost_L14
    dsimp only
    rw [hL.1, gk_own hk, rdI_e (by omega), Int.toNat_natCast, e1, if_neg (by omega)]
    exact WP_some.2 rfl
end KWAYS2
