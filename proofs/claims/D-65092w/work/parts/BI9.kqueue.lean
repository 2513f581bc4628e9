/-! the class: rows that wait -/
theorem gI_sCp {S : Sto} {a i b j n c x : Nat} : gI (sCp S a i b j n) c x = if c = b ∧ j ≤ x ∧ x < j + n then gI S a (x - j + i) else gI S c x := by
  unfold gI sCp
  dsimp only
  split <;> rfl
theorem cpI_e {τ : Type} {n1 n2 : Nat} {S : Sto} {a b : Nat} {i j n : Int} {K : Sto → Option τ} (h : 0 ≤ i ∧ 0 ≤ j ∧ 0 ≤ n ∧ i + n ≤ n1 ∧ j + n ≤ n2 ∧ (n1 : Int) < 2147483648 ∧ (n2 : Int) < 2147483648) : cpI n1 n2 S a i b j n K = K (sCp S a i.toNat b j.toNat n.toNat) := by
  unfold cpI ixn
  rw [w32_id (x := i) (by omega), w32_id (x := j) (by omega), w32_id (x := n) (by omega), if_pos (by omega)]
def ChW (P : Nat → Nat → Prop) (S z : Sto) : Prop := (∀ a i, ¬ P a i → gI z a i = gI S a i) ∧ (∀ a i, gL z a i = gL S a i) ∧ (∀ a i, gR z a i = gR S a i) ∧ nC z = nC S ∧ nS z = nS S
def Slot (z : Sto) (C : Chp) (k : Nat) (x : List Nat × Int) : Prop := gI z 249 k = x.2 ∧ gI z 250 k = tLen C x.1 ∧ gI z 251 k = (x.1.length : Int) ∧ ∀ i, i < x.1.length → gI z 252 (164 * k + i) = ((x.1.getD i 0 : Nat) : Int)
def Spr (z : Sto) (r : List Nat) : Prop := ∀ i, i < r.length → gI z 253 i = ((r.getD i 0 : Nat) : Int)
def KQu (z : Sto) (C : Chp) (n na : Nat) (A : Nat → List Nat × Int) : Prop := gI z 244 10 = (na : Int) ∧ gI z 244 12 = (n : Int) ∧ ∀ k, k < na → Slot z C k (A k)
def Rr (C : Chp) (x : List Nat × Int) : Prop := x.1.length ≤ 164 ∧ (∀ i, x.1.getD i 0 < 20000) ∧ 0 ≤ x.2 ∧ x.2 < 1000000 ∧ 0 ≤ tLen C x.1 ∧ tLen C x.1 < 1000000
def PQw (a i : Nat) : Prop := 249 ≤ a ∧ a ≤ 252
def PO (a i : Nat) : Prop := (a = 244 ∧ i = 10) ∨ (249 ≤ a ∧ a ≤ 252)
def PF (a i : Nat) : Prop := (a = 244 ∧ i = 10) ∨ (249 ≤ a ∧ a ≤ 253)
theorem drop_getD {l : List Nat} {i : Nat} (h : i < l.length) : l.drop i = l.getD i 0 :: l.drop (i + 1) := by
  rw [List.drop_eq_getElem_cons h, List.getD_eq_getElem?_getD, List.getElem?_eq_getElem h]; rfl
section QUEUE
variable {S z y : Sto} {C : Chp} {n na t k j : Nat} {A : Nat → List Nat × Int} {x a b c : List Nat × Int} {P Q : Nat → Nat → Prop} {r : List Nat}
theorem ChW.refl : ChW P S S := ⟨fun _ _ _ => rfl, fun _ _ => rfl, fun _ _ => rfl, rfl, rfl⟩
theorem ChW.tr (h : ChW P S z) (g : ChW Q z y) (e : ∀ a i, Q a i → P a i) : ChW P S y := ⟨fun a i q => (g.1 a i (fun k => q (e a i k))).trans (h.1 a i q), fun a i => (g.2.1 a i).trans (h.2.1 a i), fun a i => (g.2.2.1 a i).trans (h.2.2.1 a i), g.2.2.2.1.trans h.2.2.2.1, g.2.2.2.2.trans h.2.2.2.2⟩
theorem ChW.sI (h : ChW P S z) {a i : Nat} {v : Int} (q : P a i) : ChW P S (sI z a i v) := ⟨fun b j g => by
  rw [hI_sI, if_neg (fun e => g (by rw [e.1, e.2]; exact q))]; exact h.1 b j g, h.2.1, h.2.2.1, h.2.2.2.1, h.2.2.2.2⟩
theorem ChW.sCp (h : ChW P S z) {a i b j n : Nat} (q : ∀ x, P b x) : ChW P S (sCp z a i b j n) := ⟨fun c x g => by
  rw [gI_sCp, if_neg (fun e => g (by rw [e.1]; exact q x))]; exact h.1 c x g, h.2.1, h.2.2.1, h.2.2.2.1, h.2.2.2.2⟩
theorem ChW.of {lo hi : Nat} (h : ChW P S z) (e : ∀ a i, P a i → lo ≤ a ∧ a ≤ hi) : Ch lo hi S z := ⟨fun a i q => h.1 a i (fun g => by have := e a i g; omega), fun a i _ => h.2.1 a i, h.2.2.1, h.2.2.2.1, h.2.2.2.2⟩
theorem Rb_tr (h : Rb a b) (g : Rb b c) : Rb a c := by
  rcases h with h | ⟨h1, h2⟩ <;> rcases g with g | ⟨g1, g2⟩
  · exact .inl (by omega)
  · exact .inl (by omega)
  · exact .inl (by omega)
  · exact .inr ⟨by omega, lx_tr _ _ _ h2 g2⟩
theorem Rb_tot (h : Anti a.1 b.1) (g : ¬ Rb b a) : Rb a b := by
  rcases Int.lt_trichotomy a.2 b.2 with q | q | q
  · exact absurd (.inl q) g
  · rcases lx_tot a.1 b.1 (fun e => h.1 (by rw [e]; exact List.prefix_rfl)) with l | l
    · exact .inr ⟨q, l⟩
    · exact absurd (.inr ⟨q.symm, l⟩) g
  · exact .inl q
theorem Slot.mv (h : Slot S C j x) (e : ∀ a, 249 ≤ a → a ≤ 251 → gI z a j = gI S a j) (e' : ∀ i, i < x.1.length → gI z 252 (164 * j + i) = gI S 252 (164 * j + i)) : Slot z C j x :=
  ⟨(e _ (by omega) (by omega)).trans h.1, (e _ (by omega) (by omega)).trans h.2.1, (e _ (by omega) (by omega)).trans h.2.2.1, fun i hi => (e' i hi).trans (h.2.2.2 i hi)⟩
theorem k_isB29 (hS : Slot S C j a) (hs : Spr S x.1) (rx : Rr C x) (ra : Rr C a) (hj : j < 41) : WP (lpF (mX17_isBefore_L29 (x.1.length : Int) S (j : Int)) 0) (WE (fun _ => (lx x.1 a.1 ↔ x.1.length < a.1.length)) (fun z => z = cI (lx x.1 a.1) 1 0)) := by
  refine WP_lpM (fun s m => ∃ i : Nat, s = (i : Int) ∧ i ≤ x.1.length ∧ i ≤ a.1.length ∧ x.1.length - i ≤ m ∧ (lx (x.1.drop i) (a.1.drop i) ↔ lx x.1 a.1)) (fun s m hI => ?_) (m := 165) ⟨0, rfl, Nat.zero_le _, Nat.zero_le _, by have := rx.1; omega, Iff.rfl⟩ (by unfold cFU; omega)
  obtain ⟨i, rfl, b1, b2, b3, b4⟩ := hI
  have l1 := rx.1
  have l2 := ra.1
  have zt : (164 * (j : Int) + (i : Int)).toNat = 164 * j + i := by omega
  unfold mX17_isBefore_L29
  rw [w32_id (x := (i : Int)) (by omega), w32_id (x := (x.1.length : Int)) (by omega)]
  by_cases q1 : i < x.1.length
  · rw [if_pos (by omega), rdI_e (by omega), Int.toNat_natCast, hS.2.2.1, w32_id (by omega)]
    by_cases q2 : i < a.1.length
    · have u1 := rx.2.1 i
      have u2 := ra.2.1 i
      have d1 := drop_getD q1
      have d2 := drop_getD q2
      rw [d1, d2] at b4
      rw [if_pos (by omega), bX_some, if_pos rfl, rdI_e (by omega), Int.toNat_natCast, hs i q1, rdI_e (by omega), zt, hS.2.2.2 i q2, w32_id (by omega), w32_id (by omega)]
      by_cases e : x.1.getD i 0 = a.1.getD i 0
      · rw [if_neg (by omega)]
        rw [e] at b4
        exact WP_some.2 ⟨m - 1, by omega, i + 1, by omega, by omega, by omega, by omega, lx_cc.symm.trans b4⟩
      · rw [if_pos (by omega), rdI_e (by omega), Int.toNat_natCast, hs i q1, rdI_e (by omega), zt, hS.2.2.2 i q2, w32_id (by omega), w32_id (by omega)]
        refine WP_some.2 ?_
        show (if _ then (1 : Int) else 0) = _
        rw [← cI_cg b4]
        by_cases l : x.1.getD i 0 < a.1.getD i 0
        · rw [if_pos (by omega), cI_t ((lx_ne e).2 l)]
        · rw [if_neg (by omega), cI_f (fun g => l ((lx_ne e).1 g))]
    · rw [if_neg (by omega), bX_some, if_neg (by decide)]
      refine WP_some.2 ?_
      show lx x.1 a.1 ↔ _
      rw [drop_getD q1, List.drop_eq_nil_of_le (show a.1.length ≤ i by omega)] at b4
      exact ⟨fun g => (b4.2 g).elim, fun g => by omega⟩
  · rw [if_neg (by omega), bX_some, if_neg (by decide)]
    refine WP_some.2 ?_
    show lx x.1 a.1 ↔ _
    rw [List.drop_eq_nil_of_le (show x.1.length ≤ i by omega)] at b4
    by_cases q2 : i < a.1.length
    · rw [drop_getD q2] at b4
      exact ⟨fun _ => by omega, fun _ => b4.1 trivial⟩
    · rw [List.drop_eq_nil_of_le (show a.1.length ≤ i by omega)] at b4
      exact ⟨fun g => (b4.2 g).elim, fun g => by omega⟩
theorem k_isB (hS : Slot S C j a) (hs : Spr S x.1) (rx : Rr C x) (ra : Rr C a) (hj : j < 41) : mX17_isBefore S x.2 (x.1.length : Int) (j : Int) = some (cI (Rb x a) 1 0) := by
  obtain ⟨r1, r2, r3, r4, r5, r6⟩ := rx
  obtain ⟨a1, a2, a3, a4, a5, a6⟩ := ra
  refine WP.of ?_
  unfold mX17_isBefore
  rw [rdI_e (by omega), Int.toNat_natCast, hS.1, w32_id (by omega), w32_id (by omega)]
  by_cases q : x.2 = a.2
  · rw [if_neg (fun g => g q)]
    refine WP_bE.2 ((k_isB29 hS hs ⟨r1, r2, r3, r4, r5, r6⟩ ⟨a1, a2, a3, a4, a5, a6⟩ hj).mono (fun v hv => ?_))
    have key : Rb x a ↔ lx x.1 a.1 := ⟨fun g => g.elim (fun g => by omega) (fun g => g.2), fun g => .inr ⟨q, g⟩⟩
    cases v with
    | inl u =>
      have hv : lx x.1 a.1 ↔ x.1.length < a.1.length := hv
      show WP (rdI _ _ _ _ _) _
      rw [rdI_e (by omega), Int.toNat_natCast, hS.2.2.1, w32_id (by omega), w32_id (by omega)]
      refine WP_some.2 ?_
      by_cases l : x.1.length < a.1.length
      · rw [if_pos (by omega), cI_t (key.2 (hv.2 l))]
      · rw [if_neg (by omega), cI_f (fun g => l (hv.1 (key.1 g)))]
    | inr u =>
      have hv : u = cI (lx x.1 a.1) 1 0 := hv
      show u = _
      rw [hv]; exact (cI_cg key).symm
  · rw [if_pos q, rdI_e (by omega), Int.toNat_natCast, hS.1, w32_id (by omega)]
    refine WP_some.2 ?_
    by_cases l : a.2 < x.2
    · rw [if_pos l, cI_t (.inl l)]
    · rw [if_neg l, cI_f (fun g => g.elim l (fun g => q g.1))]
theorem k_of6 (hq : KQu S C n na A) (hs : Spr S x.1) (rx : Rr C x) (rA : ∀ i, i < na → Rr C (A i)) (hn : n + na ≤ 40) : WP (lpF (mX17_offer_L6 S x.2 (x.1.length : Int)) (na : Int)) (fun z => ∃ t : Nat, z = (t : Int) ∧ t ≤ na ∧ (t = 0 ∨ ¬ Rb x (A (t - 1))) ∧ ∀ i, t ≤ i → i < na → Rb x (A i)) := by
  refine WP_lpM (fun s m => ∃ t : Nat, s = (t : Int) ∧ t ≤ na ∧ t ≤ m ∧ ∀ i, t ≤ i → i < na → Rb x (A i)) (fun s m hI => ?_) (m := 41) ⟨na, rfl, Nat.le_refl _, by omega, fun i h1 h2 => by omega⟩ (by unfold cFU; omega)
  obtain ⟨t, rfl, b1, b2, b3⟩ := hI
  unfold mX17_offer_L6
  rw [w32_id (x := (t : Int)) (by omega)]
  by_cases q : t = 0
  · rw [if_neg (by omega), bX_some, if_neg (by decide)]
    exact WP_some.2 ⟨t, rfl, b1, .inl q, b3⟩
  · have e : (t : Int) - 1 = ((t - 1 : Nat) : Int) := by omega
    rw [if_pos (by omega), e, k_isB (hq.2.2 (t - 1) (by omega)) hs rx (rA _ (by omega)) (by omega), bX_some]
    by_cases g : Rb x (A (t - 1))
    · rw [cI_t g, if_pos (by decide), bX_some, if_pos rfl]
      refine WP_some.2 ⟨m - 1, by omega, t - 1, by omega, by omega, by omega, fun i h1 h2 => ?_⟩
      by_cases z : i = t - 1
      · rw [z]; exact g
      · exact b3 i (by omega) h2
    · rw [cI_f g, if_neg (by decide), bX_some, if_neg (by decide)]
      exact WP_some.2 ⟨t, rfl, b1, .inr g, b3⟩
theorem k_of65 (hq : KQu S C n na A) (rA : ∀ i, i < na → Rr C (A i)) (hn : n + na ≤ 40) (ht : t ≤ na) {la : Nat} (hl : la ≤ na ∧ la ≤ 39 ∧ t ≤ la) : WP (lpF (mX17_offer_L65 (t : Int)) ((la : Int), S)) (fun z => ChW PQw S z ∧ (∀ j, j < t → Slot z C j (A j)) ∧ ∀ j, t < j → j ≤ la → Slot z C j (A (j - 1))) := by
  refine WP_cnt (la - t) (fun i s => s.1 = ((la - i : Nat) : Int) ∧ ChW PQw S s.2 ∧ (∀ j, j ≤ la - i → j < na → Slot s.2 C j (A j)) ∧ ∀ j, la - i < j → j ≤ la → Slot s.2 C j (A (j - 1))) (by unfold cFU; omega) ⟨rfl, ChW.refl, fun j _ h => hq.2.2 j h, fun j h1 h2 => by omega⟩ (fun i s hi hI => ?_) (fun s hI => ?_)
  · obtain ⟨s1, s2⟩ := s
    obtain ⟨b1, b2, b3, b4⟩ := hI
    dsimp only at b1 b2 b3 b4
    obtain ⟨k, hk⟩ : ∃ k : Nat, k = la - i := ⟨_, rfl⟩
    rw [← hk] at b1 b3 b4
    subst b1
    have e : (k : Int) - 1 = ((k - 1 : Nat) : Int) := by omega
    have sl := b3 (k - 1) (by omega) (by omega)
    have rr := rA (k - 1) (by omega)
    obtain ⟨r1, r2, r3, r4, r5, r6⟩ := rr
    have z1 : (164 * ((k - 1 : Nat) : Int)).toNat = 164 * (k - 1) := by omega
    have z2 : (164 * (k : Int)).toNat = 164 * k := by omega
    unfold mX17_offer_L65
    dsimp only
    rw [w32_id (x := (t : Int)) (by omega), w32_id (x := (k : Int)) (by omega), if_pos (by omega), e, rdI_e (by omega), Int.toNat_natCast, sl.1, wrI_e (by omega), Int.toNat_natCast, rdI_e (by omega), Int.toNat_natCast, hI_sI_a (by omega), sl.2.1, wrI_e (by omega), Int.toNat_natCast, rdI_e (by omega), Int.toNat_natCast, hI_sI_a (by omega), hI_sI_a (by omega), sl.2.2.1, wrI_e (by omega), Int.toNat_natCast, rdI_e (by omega), Int.toNat_natCast, gI_set, w32_id (by omega), cpI_e (by omega), z1, z2, Int.toNat_natCast]
    obtain ⟨Z, hZ⟩ : ∃ Z, Z = sCp (sI (sI (sI s2 249 k (A (k - 1)).2) 250 k (tLen C (A (k - 1)).1)) 251 k ((A (k - 1)).1.length : Int)) 252 (164 * (k - 1)) 252 (164 * k) (A (k - 1)).1.length := ⟨_, rfl⟩
    rw [← hZ]
    have z49 : ∀ j, gI Z 249 j = if j = k then (A (k - 1)).2 else gI s2 249 j := fun j => by
      rw [hZ, gI_sCp, if_neg (by omega), hI_sI_a (by omega), hI_sI_a (by omega)]
      by_cases q : j = k
      · rw [q, gI_set, if_pos rfl, w32_id (by omega)]
      · rw [hI_sI_i q, if_neg q]
    have z50 : ∀ j, gI Z 250 j = if j = k then tLen C (A (k - 1)).1 else gI s2 250 j := fun j => by
      rw [hZ, gI_sCp, if_neg (by omega), hI_sI_a (by omega)]
      by_cases q : j = k
      · rw [q, gI_set, if_pos rfl, w32_id (by omega)]
      · rw [hI_sI_i q, if_neg q, hI_sI_a (by omega)]
    have z51 : ∀ j, gI Z 251 j = if j = k then ((A (k - 1)).1.length : Int) else gI s2 251 j := fun j => by
      rw [hZ, gI_sCp, if_neg (by omega)]
      by_cases q : j = k
      · rw [q, gI_set, if_pos rfl, w32_id (by omega)]
      · rw [hI_sI_i q, if_neg q, hI_sI_a (by omega), hI_sI_a (by omega)]
    have z52 : ∀ y, gI Z 252 y = if 164 * k ≤ y ∧ y < 164 * k + (A (k - 1)).1.length then gI s2 252 (y - 164 * k + 164 * (k - 1)) else gI s2 252 y := fun y => by
      rw [hZ, gI_sCp]
      by_cases q : 164 * k ≤ y ∧ y < 164 * k + (A (k - 1)).1.length
      · rw [if_pos ⟨rfl, q⟩, if_pos q, hI_sI_a (by omega), hI_sI_a (by omega), hI_sI_a (by omega)]
      · rw [if_neg (fun g => q g.2), if_neg q, hI_sI_a (by omega), hI_sI_a (by omega), hI_sI_a (by omega)]
    have old : ∀ j y, j ≠ k → Rr C y → Slot s2 C j y → Slot Z C j y := fun j y ne ry hj => hj.mv (fun a l1 l2 => by
      rcases (show a = 249 ∨ a = 250 ∨ a = 251 by omega) with rfl | rfl | rfl
      · rw [z49, if_neg ne]
      · rw [z50, if_neg ne]
      · rw [z51, if_neg ne]) (fun i hi => by
      have := ry.1
      rw [z52, if_neg (by omega)])
    have chZ : ChW PQw S Z := by
      rw [hZ]
      exact (((b2.sI ⟨by omega, by omega⟩).sI ⟨by omega, by omega⟩).sI ⟨by omega, by omega⟩).sCp (fun x => ⟨by omega, by omega⟩)
    refine WP_some.2 ⟨by show (k : Int) + -1 = _; omega, chZ, fun j h1 h2 => ?_, fun j h1 h2 => ?_⟩
    · exact old j _ (by omega) (rA j h2) (b3 j (by omega) h2)
    · dsimp only
      by_cases q : j = k
      · subst q
        refine ⟨by rw [z49, if_pos rfl], by rw [z50, if_pos rfl], by rw [z51, if_pos rfl], fun i hi => ?_⟩
        rw [z52, if_pos (by omega), show 164 * j + i - 164 * j + 164 * (j - 1) = 164 * (j - 1) + i by omega]
        exact sl.2.2.2 i hi
      · exact old j _ q (rA (j - 1) (by omega)) (b4 j (by omega) h2)
  · obtain ⟨s1, s2⟩ := s
    obtain ⟨b1, b2, b3, b4⟩ := hI
    dsimp only at b1 b2 b3 b4
    unfold mX17_offer_L65
    dsimp only
    rw [b1, w32_id (x := (t : Int)) (by omega), w32_id (by omega), if_neg (by omega)]
    exact WP_some.2 ⟨b2, fun j hj => b3 j (by omega) (by omega), fun j h1 h2 => b4 j (by omega) h2⟩
theorem k_offer (hq : KQu S C n na A) (hs : Spr S x.1) (rx : Rr C x) (rA : ∀ i, i < na → Rr C (A i)) (hn : n + na ≤ 40) (so : ∀ i j, i < j → j < na → Rb (A i) (A j)) (an : ∀ i, i < na → Anti (A i).1 x.1) :
    WP (mX17_offer S x.2 (tLen C x.1) (x.1.length : Int)) (fun z => ∃ t, t ≤ na ∧ (∀ i, i < t → Rb (A i) x) ∧ (∀ i, t ≤ i → i < na → Rb x (A i)) ∧ ((40 - n ≤ t ∧ z = S) ∨ (t < 40 - n ∧ KQu z C n (min (na + 1) (40 - n)) (qIns A t x) ∧ ChW PO S z))) := by
  obtain ⟨r1, r2, r3, r4, r5, r6⟩ := id rx
  have q1 := hq.1
  have q2 := hq.2.1
  unfold mX17_offer
  rw [q1, q2]
  refine WP_call (k_of6 hq hs rx rA hn) (fun v hv => ?_)
  obtain ⟨t, rfl, t1, t2, t3⟩ := hv
  have lo : ∀ i, i < t → Rb (A i) x := fun i hi => by
    have e := Rb_tot (an (t - 1) (by omega)) (t2.resolve_left (by omega))
    by_cases q : i = t - 1
    · rw [q]; exact e
    · exact Rb_tr (so i (t - 1) (by omega) (by omega)) e
  rw [w32_id (x := (40 : Int) - (n : Int)) (by omega), w32_id (x := (t : Int)) (by omega)]
  by_cases q : 40 - n ≤ t
  · rw [if_pos (by omega)]
    exact WP_some.2 ⟨t, t1, lo, t3, .inl ⟨q, rfl⟩⟩
  · obtain ⟨la, hla⟩ : ∃ la : Nat, la = min na (39 - n) := ⟨_, rfl⟩
    have em : min (na : Int) ((40 : Int) - (n : Int) - 1) = (la : Int) := by omega
    rw [if_neg (by omega), min_e (by omega) (by omega), bX_some, em]
    refine WP_call (k_of65 hq rA hn t1 (la := la) (by omega)) (fun y hy => ?_)
    obtain ⟨y1, y2, y3⟩ := hy
    have f1 : gI y 244 10 = (na : Int) := (y1.1 _ _ (fun g => by have := g.1; omega)).trans q1
    have f2 : gI y 244 12 = (n : Int) := (y1.1 _ _ (fun g => by have := g.1; omega)).trans q2
    have f3 : Spr y x.1 := fun i hi => (y1.1 _ _ (fun g => by have := g.2; omega)).trans (hs i hi)
    have z2 : (164 * (t : Int)).toNat = 164 * t := by omega
    obtain ⟨m, hm⟩ : ∃ m : Nat, m = min (na + 1) (40 - n) := ⟨_, rfl⟩
    have em2 : min ((na : Int) + 1) ((40 : Int) - (n : Int)) = (m : Int) := by omega
    rw [f1, f2, min_e (by omega) (by omega), bX_some, em2, wf_eq, wrI_e (by omega), Int.toNat_natCast, wrI_e (by omega), Int.toNat_natCast, wrI_e (by omega), Int.toNat_natCast, cpI_e (by omega), z2, Int.toNat_natCast]
    obtain ⟨Z, hZ⟩ : ∃ Z, Z = sCp (sI (sI (sI (sI y 244 10 (m : Int)) 249 t x.2) 250 t (tLen C x.1)) 251 t (x.1.length : Int)) 253 (0 : Int).toNat 252 (164 * t) x.1.length := ⟨_, rfl⟩
    rw [← hZ]
    have zo : ∀ a i, ¬ (249 ≤ a ∧ a ≤ 252) → ¬ (a = 244 ∧ i = 10) → gI Z a i = gI y a i := fun a i h1 h2 => by
      rw [hZ, gI_sCp, if_neg (by omega), hI_sI_a (by omega), hI_sI_a (by omega), hI_sI_a (by omega), hI_sI, if_neg h2]
    have z10 : gI Z 244 10 = (m : Int) := by
      rw [hZ, gI_sCp, if_neg (by omega), hI_sI_a (by omega), hI_sI_a (by omega), hI_sI_a (by omega), gI_set, w32_id (by omega)]
    have z49 : ∀ j, gI Z 249 j = if j = t then x.2 else gI y 249 j := fun j => by
      rw [hZ, gI_sCp, if_neg (by omega), hI_sI_a (by omega), hI_sI_a (by omega)]
      by_cases q : j = t
      · rw [q, gI_set, if_pos rfl, w32_id (by omega)]
      · rw [hI_sI_i q, if_neg q, hI_sI_a (by omega)]
    have z50 : ∀ j, gI Z 250 j = if j = t then tLen C x.1 else gI y 250 j := fun j => by
      rw [hZ, gI_sCp, if_neg (by omega), hI_sI_a (by omega)]
      by_cases q : j = t
      · rw [q, gI_set, if_pos rfl, w32_id (by omega)]
      · rw [hI_sI_i q, if_neg q, hI_sI_a (by omega), hI_sI_a (by omega)]
    have z51 : ∀ j, gI Z 251 j = if j = t then (x.1.length : Int) else gI y 251 j := fun j => by
      rw [hZ, gI_sCp, if_neg (by omega)]
      by_cases q : j = t
      · rw [q, gI_set, if_pos rfl, w32_id (by omega)]
      · rw [hI_sI_i q, if_neg q, hI_sI_a (by omega), hI_sI_a (by omega), hI_sI_a (by omega)]
    have z52 : ∀ i, gI Z 252 i = if 164 * t ≤ i ∧ i < 164 * t + x.1.length then gI y 253 (i - 164 * t) else gI y 252 i := fun i => by
      rw [hZ, gI_sCp]
      by_cases q : 164 * t ≤ i ∧ i < 164 * t + x.1.length
      · rw [if_pos ⟨rfl, q⟩, if_pos q, hI_sI_a (by omega), hI_sI_a (by omega), hI_sI_a (by omega), hI_sI_a (by omega)]; rfl
      · rw [if_neg (fun g => q g.2), if_neg q, hI_sI_a (by omega), hI_sI_a (by omega), hI_sI_a (by omega), hI_sI_a (by omega)]
    have old : ∀ j v, j ≠ t → Rr C v → Slot y C j v → Slot Z C j v := fun j v ne rv hj => hj.mv (fun a l1 l2 => by
      rcases (show a = 249 ∨ a = 250 ∨ a = 251 by omega) with rfl | rfl | rfl
      · rw [z49, if_neg ne]
      · rw [z50, if_neg ne]
      · rw [z51, if_neg ne]) (fun i hi => by
      have := rv.1
      rw [z52, if_neg (by omega)])
    have chZ : ChW PO S Z := by
      have c0 : ChW PO S y := ChW.refl.tr y1 (fun a i g => .inr g)
      rw [hZ]
      exact ((((c0.sI (.inl ⟨rfl, rfl⟩)).sI (.inr ⟨by omega, by omega⟩)).sI (.inr ⟨by omega, by omega⟩)).sI (.inr ⟨by omega, by omega⟩)).sCp (fun x => .inr ⟨by omega, by omega⟩)
    refine WP_some.2 ⟨t, t1, lo, t3, .inr ⟨by omega, ⟨by rw [← hm]; exact z10, (zo _ _ (by omega) (by omega)).trans f2, fun j hj => ?_⟩, chZ⟩⟩
    rcases Nat.lt_trichotomy j t with g | g | g
    · rw [qIns_lt g]; exact old j _ (by omega) (rA j (by omega)) (y2 j g)
    · subst g
      rw [qIns_eq]
      refine ⟨by rw [z49, if_pos rfl], by rw [z50, if_pos rfl], by rw [z51, if_pos rfl], fun i hi => ?_⟩
      rw [z52, if_pos (by omega), show 164 * j + i - 164 * j = i by omega]
      exact f3 i hi
    · rw [qIns_gt g]; exact old j _ (by omega) (rA _ (by omega)) (y3 j g (by omega))
theorem k_firstP (hq : KQu S C n na A) (rA : ∀ i, i < na → Rr C (A i)) (hn : n + na ≤ 40) (h0 : 0 < na) : WP (mX17_first S) (fun z => Spr z (A 0).1 ∧ KQu z C n (na - 1) (fun i => A (i + 1)) ∧ ChW PF S z) := by
  obtain ⟨r1, r2, r3, r4, r5, r6⟩ := rA 0 h0
  have s0 := hq.2.2 0 h0
  unfold mX17_first
  rw [rdI_e (by omega), show (0 : Int).toNat = 0 from rfl, s0.2.2.1, cpI_e (by omega), Int.toNat_natCast, show (0 : Int).toNat = 0 from rfl, wf_eq]
  obtain ⟨Y, hY⟩ : ∃ Y, Y = sI (sCp S 252 0 253 0 (A 0).1.length) 244 10 (gI (sCp S 252 0 253 0 (A 0).1.length) 244 10 - 1) := ⟨_, rfl⟩
  rw [← hY]
  have e10 : gI Y 244 10 = ((na - 1 : Nat) : Int) := by
    rw [hY, gI_set, gI_sCp, if_neg (by omega), hq.1, w32_id (by omega)]; omega
  have eo : ∀ a i, a ≠ 253 → ¬ (a = 244 ∧ i = 10) → gI Y a i = gI S a i := fun a i h1 h2 => by
    rw [hY, hI_sI, if_neg h2, gI_sCp, if_neg (fun g => h1 g.1)]
  have esp : Spr Y (A 0).1 := fun i hi => by
    rw [hY, hI_sI_a (by omega), gI_sCp, if_pos (by omega)]
    have := s0.2.2.2 i hi
    rw [show 164 * 0 + i = i - 0 + 0 by omega] at this
    exact this
  have cY : ChW PF S Y := by
    rw [hY]
    exact (ChW.sCp ChW.refl (fun x => .inr ⟨by omega, by omega⟩)).sI (.inl ⟨rfl, rfl⟩)
  have sY : ∀ k, k < na → Slot Y C k (A k) := fun k hk => (hq.2.2 k hk).mv (fun a l1 l2 => eo _ _ (by omega) (by omega)) (fun i _ => eo _ _ (by omega) (by omega))
  refine WP_call (R := fun z => ChW PQw Y z ∧ ∀ j, j < na - 1 → Slot z C j (A (j + 1))) ?_ (fun z hz => WP_some.2 ⟨fun i hi => (hz.1.1 _ _ (fun g => by have := g.2; omega)).trans (esp i hi), ⟨(hz.1.1 _ _ (fun g => by have := g.1; omega)).trans e10, (hz.1.1 _ _ (fun g => by have := g.1; omega)).trans ((eo _ _ (by omega) (by omega)).trans hq.2.1), hz.2⟩, cY.tr hz.1 (fun a i g => .inr ⟨g.1, by have := g.2; omega⟩)⟩)
  refine WP_cnt (na - 1) (fun i s => s.1 = (i : Int) ∧ ChW PQw Y s.2 ∧ (∀ j, j < i → Slot s.2 C j (A (j + 1))) ∧ ∀ j, i ≤ j → j < na → Slot s.2 C j (A j)) (by unfold cFU; omega) ⟨rfl, ChW.refl, fun j h => absurd h (Nat.not_lt_zero _), fun j _ h => sY j h⟩ (fun i s hi hI => ?_) (fun s hI => ?_)
  · obtain ⟨s1, s2⟩ := s
    obtain ⟨b1, b2, b3, b4⟩ := hI
    dsimp only at b1 b2 b3 b4
    subst b1
    have e : (i : Int) + 1 = ((i + 1 : Nat) : Int) := by omega
    have sl := b4 (i + 1) (by omega) (by omega)
    obtain ⟨r1, r2, r3, r4, r5, r6⟩ := rA (i + 1) (by omega)
    have z1 : (164 * ((i + 1 : Nat) : Int)).toNat = 164 * (i + 1) := by omega
    have z2 : (164 * (i : Int)).toNat = 164 * i := by omega
    have f1 : gI s2 244 10 = ((na - 1 : Nat) : Int) := (b2.1 _ _ (fun g => by have := g.1; omega)).trans e10
    unfold mX17_first_L31
    dsimp only
    rw [f1, w32_id (x := (i : Int)) (by omega), w32_id (x := ((na - 1 : Nat) : Int)) (by omega), if_pos (by omega), e, rdI_e (by omega), Int.toNat_natCast, sl.1, wrI_e (by omega), Int.toNat_natCast, rdI_e (by omega), Int.toNat_natCast, hI_sI_a (by omega), sl.2.1, wrI_e (by omega), Int.toNat_natCast, rdI_e (by omega), Int.toNat_natCast, hI_sI_a (by omega), hI_sI_a (by omega), sl.2.2.1, wrI_e (by omega), Int.toNat_natCast, rdI_e (by omega), Int.toNat_natCast, gI_set, w32_id (by omega), cpI_e (by omega), z1, z2, Int.toNat_natCast]
    obtain ⟨Z, hZ⟩ : ∃ Z, Z = sCp (sI (sI (sI s2 249 i (A (i + 1)).2) 250 i (tLen C (A (i + 1)).1)) 251 i ((A (i + 1)).1.length : Int)) 252 (164 * (i + 1)) 252 (164 * i) (A (i + 1)).1.length := ⟨_, rfl⟩
    rw [← hZ]
    have z49 : ∀ j, gI Z 249 j = if j = i then (A (i + 1)).2 else gI s2 249 j := fun j => by
      rw [hZ, gI_sCp, if_neg (by omega), hI_sI_a (by omega), hI_sI_a (by omega)]
      by_cases q : j = i
      · rw [q, gI_set, if_pos rfl, w32_id (by omega)]
      · rw [hI_sI_i q, if_neg q]
    have z50 : ∀ j, gI Z 250 j = if j = i then tLen C (A (i + 1)).1 else gI s2 250 j := fun j => by
      rw [hZ, gI_sCp, if_neg (by omega), hI_sI_a (by omega)]
      by_cases q : j = i
      · rw [q, gI_set, if_pos rfl, w32_id (by omega)]
      · rw [hI_sI_i q, if_neg q, hI_sI_a (by omega)]
    have z51 : ∀ j, gI Z 251 j = if j = i then ((A (i + 1)).1.length : Int) else gI s2 251 j := fun j => by
      rw [hZ, gI_sCp, if_neg (by omega)]
      by_cases q : j = i
      · rw [q, gI_set, if_pos rfl, w32_id (by omega)]
      · rw [hI_sI_i q, if_neg q, hI_sI_a (by omega), hI_sI_a (by omega)]
    have z52 : ∀ y, gI Z 252 y = if 164 * i ≤ y ∧ y < 164 * i + (A (i + 1)).1.length then gI s2 252 (y - 164 * i + 164 * (i + 1)) else gI s2 252 y := fun y => by
      rw [hZ, gI_sCp]
      by_cases q : 164 * i ≤ y ∧ y < 164 * i + (A (i + 1)).1.length
      · rw [if_pos ⟨rfl, q⟩, if_pos q, hI_sI_a (by omega), hI_sI_a (by omega), hI_sI_a (by omega)]
      · rw [if_neg (fun g => q g.2), if_neg q, hI_sI_a (by omega), hI_sI_a (by omega), hI_sI_a (by omega)]
    have old : ∀ j y, j ≠ i → Rr C y → Slot s2 C j y → Slot Z C j y := fun j y ne ry hj => hj.mv (fun a l1 l2 => by
      rcases (show a = 249 ∨ a = 250 ∨ a = 251 by omega) with rfl | rfl | rfl
      · rw [z49, if_neg ne]
      · rw [z50, if_neg ne]
      · rw [z51, if_neg ne]) (fun i' hi' => by
      have := ry.1
      rw [z52, if_neg (by omega)])
    have chZ : ChW PQw Y Z := by
      rw [hZ]
      exact (((b2.sI ⟨by omega, by omega⟩).sI ⟨by omega, by omega⟩).sI ⟨by omega, by omega⟩).sCp (fun x => ⟨by omega, by omega⟩)
    refine WP_some.2 ⟨rfl, chZ, fun j h1 => ?_, fun j h1 h2 => ?_⟩
    · dsimp only
      by_cases q : j = i
      · subst q
        refine ⟨by rw [z49, if_pos rfl], by rw [z50, if_pos rfl], by rw [z51, if_pos rfl], fun i hi => ?_⟩
        rw [z52, if_pos (by omega), show 164 * j + i - 164 * j + 164 * (j + 1) = 164 * (j + 1) + i by omega]
        exact sl.2.2.2 i hi
      · exact old j _ q (rA (j + 1) (by omega)) (b3 j (by omega))
    · exact old j _ (by omega) (rA j h2) (b4 j (by omega) h2)
  · obtain ⟨s1, s2⟩ := s
    obtain ⟨b1, b2, b3, b4⟩ := hI
    dsimp only at b1 b2 b3 b4
    have f1 : gI s2 244 10 = ((na - 1 : Nat) : Int) := (b2.1 _ _ (fun g => by have := g.1; omega)).trans e10
    unfold mX17_first_L31
    dsimp only
    rw [b1, f1, if_neg (by omega)]
    exact WP_some.2 ⟨b2, b3⟩
end QUEUE
