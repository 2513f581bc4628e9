/-! the class: a search that may rob -/
def ChD (S z : Sto) : Prop := (∀ a i, (a < 231 ∨ 239 < a) → ¬ (a = 229 ∧ (i = 13 ∨ i = 16)) → gI z a i = gI S a i) ∧ (∀ a i, (a < 231 ∨ 239 < a) → gL z a i = gL S a i) ∧ (∀ a i, gR z a i = gR S a i) ∧ nC z = nC S ∧ nS z = nS S
theorem ChD.refl {S : Sto} : ChD S S := ⟨fun _ _ _ _ => rfl, fun _ _ _ => rfl, fun _ _ => rfl, rfl, rfl⟩
theorem ChD.tr {S z y : Sto} (h : ChD S z) (g : ChD z y) : ChD S y := ⟨fun a i q q' => (g.1 a i q q').trans (h.1 a i q q'), fun a i q => (g.2.1 a i q).trans (h.2.1 a i q), fun a i => (g.2.2.1 a i).trans (h.2.2.1 a i), g.2.2.2.1.trans h.2.2.2.1, g.2.2.2.2.trans h.2.2.2.2⟩
theorem ChD.sI {S z : Sto} (h : ChD S z) {a i : Nat} {v : Int} (q : (231 ≤ a ∧ a ≤ 239) ∨ (a = 229 ∧ (i = 13 ∨ i = 16))) : ChD S (sI z a i v) := ⟨fun b j g g' => by
  rw [hI_sI, if_neg (fun x => by obtain ⟨x1, x2⟩ := x; subst x1; subst x2; rcases q with q | q; omega; exact g' q)]; exact h.1 b j g g', h.2.1, h.2.2.1, h.2.2.2.1, h.2.2.2.2⟩
theorem ChD.of {S z : Sto} {lo hi : Nat} (c : Ch lo hi S z) (q : 231 ≤ lo ∧ hi ≤ 239) : ChD S z := ⟨fun a i g _ => c.1 a i (by omega), fun a i g => c.2.1 a i (by omega), c.2.2.1, c.2.2.2.1, c.2.2.2.2⟩
theorem KRt.chD {S z : Sto} {k : Nat} {C : Chp} (h : KRt S k C) (c : ChD S z) : KRt z k C :=
  ⟨⟨(c.2.2.1 _ _).trans h.1.1, (c.1 _ _ (by omega) (by omega)).trans h.1.2.1, (c.1 _ _ (by omega) (by omega)).trans h.1.2.2.1, (c.1 _ _ (by omega) (by omega)).trans h.1.2.2.2.1, (c.1 _ _ (by omega) (by omega)).trans h.1.2.2.2.2⟩, fun p hp => (c.1 _ _ (by omega) (by omega)).trans (h.2 p hp)⟩
theorem KOw.chD {S z : Sto} {k : Nat} {C R : Chp} (h : KOw S k C R) (c : ChD S z) : KOw z k C R :=
  ⟨fun p hp => ⟨(c.1 _ _ (by omega) (by omega)).trans (h.1 p hp).1, (c.1 _ _ (by omega) (by omega)).trans (h.1 p hp).2⟩, fun n hn => (c.1 _ _ (by omega) (by omega)).trans (h.2 n hn)⟩
/-- a chain of entries -/
def Chn (z : Sto) (ct : Nat) : Int → List Nat → Prop
  | h, [] => h = -1
  | h, p :: l => ∃ e : Nat, h = (e : Int) ∧ e < ct ∧ gI z 237 e = (p : Int) ∧ Chn z ct (gI z 236 e) l
theorem Chn.mv {z z' : Sto} {ct ct' : Nat} (hc : ct ≤ ct') (e : ∀ i, i < ct → gI z' 236 i = gI z 236 i ∧ gI z' 237 i = gI z 237 i) : ∀ (l : List Nat) (h : Int), Chn z ct h l → Chn z' ct' h l := by
  intro l
  induction l with
  | nil => exact fun h g => g
  | cons p l ih =>
    rintro h ⟨i, h1, h2, h3, h4⟩
    exact ⟨i, h1, by omega, by rw [(e i h2).2]; exact h3, by rw [(e i h2).1]; exact ih _ h4⟩
theorem Chn.ge {z : Sto} {ct : Nat} {h : Int} {l : List Nat} (c : Chn z ct h l) : -1 ≤ h ∧ h < (ct : Int) ∨ h = -1 := by
  cases l with
  | nil => exact .inr c
  | cons p l => obtain ⟨e, h1, h2, _⟩ := c; omega
def upL (B : Nat → List Nat) (r x : Nat) : Nat → List Nat := fun s => if s = r then x :: B s else B s
def lenB (B : Nat → List Nat) : Nat := smN (fun r => (B r).length) 12
section KDEAR
variable {S z : Sto} {k : Nat} {C R : Chp} {n t ct : Nat} {B : Nat → List Nat} {Cv Dn : Nat → Prop}
abbrev oW (R : Chp) (n : Nat) (p : Nat) : Prop := R 20 p = (n : Int)
def Dl (C R : Chp) (n : Nat) (Ow : Nat → Prop) (z : Sto) (t : Nat) (B : Nat → List Nat) (Cv Dn : Nat → Prop) (ct : Nat) : Prop :=
  (gI z 229 13 = (ct : Int) ∧ ct = cnD (fun p => gI z 231 p) (2 * kLy C)) ∧ (∀ r, r < 12 → Chn z ct (gI z 235 r) (B r)) ∧ (∀ p, p < 2 * kLy C → -1 ≤ gI z 231 p ∧ gI z 231 p ≤ 11 * (ct : Int)) ∧
  (∀ p, p < 2 * kLy C → gI z 231 p ≠ -1 → Cv p ∨ p ∈ B ((gI z 231 p).toNat % 12)) ∧
  (∀ r p, r < 12 → p ∈ B r → p < 2 * kLy C ∧ gI z 231 p ≠ -1 ∧ (gI z 231 p).toNat % 12 = r ∧ (t : Int) ≤ gI z 231 p ∧ gI z 231 p ≤ (t : Int) + 11) ∧
  (∀ p, p < 2 * kLy C → (Ow p → gI z 231 p = 0) ∧ (¬ Ow p → gI z 231 p ≠ -1 → 0 < prF C R n true p ∧ gI z 232 p = (prF C R n true p : Int) ∧ ∃ j q : Nat, j < 5 ∧ q < 2 * kLy C ∧ nxF C q j = (p : Int) ∧ gI z 231 q ≠ -1 ∧ gI z 231 q ≤ (t : Int) ∧ gI z 231 p = gI z 231 q + (prF C R n true p : Int))) ∧
  ∀ p, Dn p → p < 2 * kLy C ∧ gI z 231 p ≠ -1 ∧ gI z 231 p ≤ (t : Int) ∧ BFn C R n true z p 5
/-- an entry is put -/
theorem k_put15 (hc : gI z 229 13 = (ct : Int)) (hct : ct < 5000) {x v : Nat} (hx : x < 5000) (hv : v ≤ 100000) :
    WP (mX15_put z (x : Int) (v : Int)) (fun z' => gI z' 229 13 = ((ct + 1 : Nat) : Int) ∧ (∀ r, gI z' 235 r = if r = v % 12 then (ct : Int) else gI z 235 r) ∧ (∀ i, gI z' 236 i = if i = ct then gI z 235 (v % 12) else gI z 236 i) ∧ (∀ i, gI z' 237 i = if i = ct then (x : Int) else gI z 237 i) ∧
      (∀ i, gI z' 231 i = gI z 231 i ∧ gI z' 232 i = gI z 232 i ∧ gI z' 233 i = gI z 233 i) ∧ ChD z z') := by
  have rm : aRem (v : Int) 12 = ((v % 12 : Nat) : Int) := by rw [aRem_nn (by omega) (by omega)]; omega
  have lt : v % 12 < 12 := Nat.mod_lt _ (by omega)
  unfold mX15_put
  rw [gnz_i (by omega), hc, wrI_e (by omega), Int.toNat_natCast, rm, rdI_e (by omega), Int.toNat_natCast, hI_sI_a (by omega), hI_sI_a (by omega), hc, wrI_e (by omega), Int.toNat_natCast, wf_eq, hI_sI_a (by omega), hI_sI_a (by omega), hc, wrI_e (by omega), Int.toNat_natCast]
  have rg := gI_rng z 235 (v % 12)
  refine WP_some.2 ⟨?_, fun r => ?_, fun i => ?_, fun i => ?_, fun i => ⟨?_, ?_, ?_⟩, ?_⟩
  · rw [hI_sI_a (by omega), gI_set, w32_id (by omega)]; omega
  · by_cases q : r = v % 12
    · rw [if_pos q, q, gI_set, w32_id (by omega)]
    · rw [if_neg q, hI_sI_i q, hI_sI_a (by omega), hI_sI_a (by omega), hI_sI_a (by omega)]
  · by_cases q : i = ct
    · rw [if_pos q, q, hI_sI_a (by omega), hI_sI_a (by omega), gI_set, w32_id (by omega)]
    · rw [if_neg q, hI_sI_a (by omega), hI_sI_a (by omega), hI_sI_i q, hI_sI_a (by omega)]
  · by_cases q : i = ct
    · rw [if_pos q, q, hI_sI_a (by omega), hI_sI_a (by omega), hI_sI_a (by omega), gI_set, w32_id (by omega)]
    · rw [if_neg q, hI_sI_a (by omega), hI_sI_a (by omega), hI_sI_a (by omega), hI_sI_i q]
  · rw [hI_sI_a (by omega), hI_sI_a (by omega), hI_sI_a (by omega), hI_sI_a (by omega)]
  · rw [hI_sI_a (by omega), hI_sI_a (by omega), hI_sI_a (by omega), hI_sI_a (by omega)]
  · rw [hI_sI_a (by omega), hI_sI_a (by omega), hI_sI_a (by omega), hI_sI_a (by omega)]
  · exact (((ChD.refl.sI (by omega)).sI (by omega)).sI (by omega)).sI (by omega)
/-- what putting a new point does -/
theorem Dl.put {Ow Ow' : Nat → Prop} {z' : Sto} {x v : Nat} (h : Dl C R n Ow z t B Cv Dn ct) (hO : ∀ p, p ≠ x → (Ow' p ↔ Ow p)) (hx : x < 2 * kLy C) (h0 : gI z 231 x = -1) (hv : (t : Int) ≤ v ∧ (v : Int) ≤ t + 11 ∧ (v : Int) ≤ 11 * ((ct : Int) + 1))
    (a1 : gI z' 229 13 = ((ct + 1 : Nat) : Int)) (a2 : ∀ r, gI z' 235 r = if r = v % 12 then (ct : Int) else gI z 235 r) (a3 : ∀ i, gI z' 236 i = if i = ct then gI z 235 (v % 12) else gI z 236 i) (a4 : ∀ i, gI z' 237 i = if i = ct then (x : Int) else gI z 237 i)
    (a5 : ∀ i, gI z' 231 i = if i = x then (v : Int) else gI z 231 i) (a6 : ∀ i, i ≠ x → gI z' 232 i = gI z 232 i)
    (a7 : (Ow' x → v = 0) ∧ (¬ Ow' x → 0 < prF C R n true x ∧ gI z' 232 x = (prF C R n true x : Int) ∧ ∃ j q : Nat, j < 5 ∧ q < 2 * kLy C ∧ nxF C q j = (x : Int) ∧ gI z 231 q ≠ -1 ∧ gI z 231 q ≤ (t : Int) ∧ (v : Int) = gI z 231 q + (prF C R n true x : Int))) :
    Dl C R n Ow' z' t (upL B (v % 12) x) Cv Dn (ct + 1) := by
  obtain ⟨⟨h1, h2⟩, h3, h4, h5, h6, h7, h8⟩ := h
  have keep : ∀ y, gI z 231 y ≠ -1 → gI z' 231 y = gI z 231 y := fun y hy => by rw [a5, if_neg (fun e => hy (by rw [e]; exact h0))]
  have lt : v % 12 < 12 := Nat.mod_lt _ (by omega)
  refine ⟨⟨a1, ?_⟩, fun r hr => ?_, fun p hp => ?_, fun p hp g => ?_, fun r p hr hp => ?_, fun p hp => ?_, fun p hp => ?_⟩
  · rw [cnD_up (d := fun p => gI z 231 p) hx h0 (by show gI z' 231 x ≠ -1; rw [a5, if_pos rfl]; omega) (fun y _ ne => by show gI z' 231 y = _; rw [a5, if_neg ne]), ← h2]
  · have old := (h3 r hr).mv (z' := z') (ct' := ct + 1) (by omega) (fun i hi => ⟨by rw [a3, if_neg (by omega)], by rw [a4, if_neg (by omega)]⟩)
    unfold upL
    by_cases q : r = v % 12
    · rw [if_pos q, a2, if_pos q]
      exact ⟨ct, rfl, by omega, by rw [a4, if_pos rfl], by rw [a3, if_pos rfl, ← q]; exact old⟩
    · rw [if_neg q, a2, if_neg q]; exact old
  · rw [a5]
    have := h4 p hp
    split <;> omega
  · by_cases q : p = x
    · refine .inr ?_
      rw [q, a5, if_pos rfl, Int.toNat_natCast]
      unfold upL
      rw [if_pos rfl]; exact .head _
    · rw [a5, if_neg q] at g ⊢
      rcases h5 p hp g with c | c
      · exact .inl c
      · refine .inr ?_
        unfold upL
        split
        · exact .tail _ c
        · exact c
  · have old : p ∈ B r → p < 2 * kLy C ∧ gI z' 231 p ≠ -1 ∧ (gI z' 231 p).toNat % 12 = r ∧ (t : Int) ≤ gI z' 231 p ∧ gI z' 231 p ≤ (t : Int) + 11 := fun g => by
      have := h6 r p hr g
      rw [keep p this.2.1]; exact this
    unfold upL at hp
    by_cases q : r = v % 12
    · rw [if_pos q] at hp
      rcases List.mem_cons.1 hp with e | e
      · rw [e, a5, if_pos rfl, Int.toNat_natCast]
        exact ⟨hx, by omega, q.symm, hv.1, hv.2.1⟩
      · exact old e
    · rw [if_neg q] at hp
      exact old hp
  · by_cases q : p = x
    · subst q
      rw [a5, if_pos rfl]
      refine ⟨fun g => by rw [a7.1 g]; rfl, fun g1 g2 => ?_⟩
      obtain ⟨b1, b2, j, y, c1, c2, c3, c4, c5, c6⟩ := a7.2 g1
      exact ⟨b1, b2, j, y, c1, c2, c3, by rw [keep y c4]; exact c4, by rw [keep y c4]; exact c5, by rw [keep y c4]; exact c6⟩
    · rw [a5, if_neg q, a6 p q]
      refine ⟨fun g => (h7 p hp).1 ((hO p q).1 g), fun g1 g2 => ?_⟩
      obtain ⟨b1, b2, j, y, c1, c2, c3, c4, c5, c6⟩ := (h7 p hp).2 (fun g => g1 ((hO p q).2 g)) g2
      exact ⟨b1, b2, j, y, c1, c2, c3, by rw [keep y c4]; exact c4, by rw [keep y c4]; exact c5, by rw [keep y c4]; exact c6⟩
  · obtain ⟨b1, b2, b3, b4⟩ := h8 p hp
    exact ⟨b1, by rw [keep p b2]; exact b2, by rw [keep p b2]; exact b3, b4.mv (keep p b2) keep⟩
theorem lenB_up {r x : Nat} (hr : r < 12) : lenB (upL B r x) = lenB B + 1 := smN_up hr (by unfold upL; rw [if_pos rfl]; rfl) (fun s _ ne => by unfold upL; rw [if_neg ne])
theorem k_relax (h : KRt z k C) (o : KOw z k C R) (rr : RRg C R) (hk : k < 4) (g : GSz C) (w : WFC C) (hn : n < kN C) {u : Nat} (hu : u < 2 * kLy C) (hd : Dl C R n (oW R n) z t B Cv Dn ct) (hut : gI z 231 u = (t : Int)) (ht : t ≤ 60000) :
    WP (mX15_relax z (u : Int) (t : Int) (n : Int)) (fun z' => ∃ B' ct', Dl C R n (oW R n) z' t B' Cv Dn ct' ∧ B' (t % 12) = B (t % 12) ∧ BFn C R n true z' u 5 ∧ gI z' 231 u = (t : Int) ∧ ChD z z' ∧ (∀ p, gI z' 233 p = gI z 233 p) ∧ ct ≤ ct' ∧ lenB B' + ct = lenB B + ct') := by
  have g5 := g.2.2.2.2.1
  unfold mX15_relax
  refine WP_call (R := fun z' => ∃ B' ct', Dl C R n (oW R n) z' t B' Cv Dn ct' ∧ B' (t % 12) = B (t % 12) ∧ BFn C R n true z' u 5 ∧ gI z' 231 u = (t : Int) ∧ ChD z z' ∧ (∀ p, gI z' 233 p = gI z 233 p) ∧ ct ≤ ct' ∧ lenB B' + ct = lenB B + ct') ?_ (fun z hz => WP_some.2 hz)
  refine WP_cnt 5 (fun j s => s.1 = (j : Int) ∧ ∃ B' ct', Dl C R n (oW R n) s.2 t B' Cv Dn ct' ∧ B' (t % 12) = B (t % 12) ∧ BFn C R n true s.2 u j ∧ gI s.2 231 u = (t : Int) ∧ ChD z s.2 ∧ (∀ p, gI s.2 233 p = gI z 233 p) ∧ ct ≤ ct' ∧ lenB B' + ct = lenB B + ct') (by unfold cFU; omega) ⟨rfl, B, ct, hd, rfl, fun j x hj => absurd hj (by omega), hut, ChD.refl, fun _ => rfl, Nat.le_refl _, rfl⟩ (fun j s hj hI => ?_) (fun s hI => ?_)
  · obtain ⟨z1, z2⟩ := s
    obtain ⟨b1, B', ct', b2, b3, b4, b5, b6, b7, b8, b9⟩ := hI
    dsimp only at b1 b2 b4 b5 b6 b7
    subst b1
    have hz := h.chD b6
    have oz := o.chD b6
    have ctP : ct' ≤ 2 * kLy C := by rw [b2.1.2]; exact cnD_le
    have same : (∀ x : Nat, nxF C u j = (x : Int) → R 20 x ≠ (n : Int) → 0 < prF C R n true x → gI z2 231 x ≠ -1) → BFn C R n true z2 u (j + 1) := fun hx j' x l1 l2 l3 l4 => by
      by_cases e : j' = j
      · subst e
        have fx := hx x l2 l3 l4
        obtain ⟨y, y1, y2⟩ : ∃ y : Nat, nxF C u j' = (y : Int) ∧ y < 2 * kLy C := (nxF_rng hu hj).elim (fun g => by rw [g] at l2; omega) (fun ⟨y, y1, y2, _⟩ => ⟨y, y1, y2⟩)
        have xy : x = y := by omega
        obtain ⟨c1, c2, j2, q, c3, c4, c5, c6, c7, c8⟩ := (b2.2.2.2.2.2.1 x (by omega)).2 l3 fx
        exact ⟨fx, by rw [b5]; omega⟩
      · exact b4 j' x (by omega) l2 l3 l4
    have stay : BFn C R n true z2 u (j + 1) → WP (some (Sum.inl ((j : Int) + 1, z2) : (Int × Sto) ⊕ Sto)) (WE (fun s => s.1 = ((j + 1 : Nat) : Int) ∧ ∃ B' ct', Dl C R n (oW R n) s.2 t B' Cv Dn ct' ∧ B' (t % 12) = B (t % 12) ∧ BFn C R n true s.2 u (j + 1) ∧ gI s.2 231 u = (t : Int) ∧ ChD z s.2 ∧ (∀ p, gI s.2 233 p = gI z 233 p) ∧ ct ≤ ct' ∧ lenB B' + ct = lenB B + ct') (fun z' => ∃ B' ct', Dl C R n (oW R n) z' t B' Cv Dn ct' ∧ B' (t % 12) = B (t % 12) ∧ BFn C R n true z' u 5 ∧ gI z' 231 u = (t : Int) ∧ ChD z z' ∧ (∀ p, gI z' 233 p = gI z 233 p) ∧ ct ≤ ct' ∧ lenB B' + ct = lenB B + ct')) :=
      fun hb => WP_some.2 ⟨by show (j : Int) + 1 = _; omega, B', ct', b2, b3, hb, b5, b6, b7, b8, b9⟩
    unfold mX15_relax_L3
    dsimp only
    rw [w32_id (by omega), if_pos (by omega), k_next hz hk g hu hj, bX_some]
    rcases nxF_rng hu hj with e | ⟨x, ex, x1, x2⟩
    · rw [e, if_pos (by decide), bX_some]
      exact stay (same (fun x hx => by rw [e] at hx; omega))
    · have rd := b2.2.2.1 x x1
      have pl := prF_le (C := C) (p := x) (R := R) (n := n) (dear := true)
      rw [ex, w32_id (by omega), if_neg (by omega), k_price hz oz rr hk g w x1 hn, bX_some, w32_id (by omega)]
      by_cases p0 : prF C R n true x = 0
      · rw [p0, if_neg (by decide), bX_some]
        refine stay (same (fun y hy l3 l4 => ?_))
        have : y = x := by omega
        subst this; omega
      · rw [if_pos (by omega), rdI_e (by omega), Int.toNat_natCast, w32_id (by omega)]
        by_cases q : gI z2 231 x = -1
        · rw [if_neg (fun g => g q), bX_some, if_neg (by decide), wrI_e (by omega), Int.toNat_natCast, wrI_e (by omega), Int.toNat_natCast, w8_id (by omega)]
          obtain ⟨v, hv⟩ : ∃ v : Nat, v = t + prF C R n true x := ⟨_, rfl⟩
          have hv' : (t : Int) + (prF C R n true x : Int) = (v : Int) := by omega
          have t1 : ct' < 2 * kLy C := by
            have e := cnD_up (d := fun p => gI z2 231 p) (d' := fun p => if p = x then 0 else gI z2 231 p) x1 q (by show (if x = x then (0 : Int) else _) ≠ -1; rw [if_pos rfl]; decide) (fun y _ ne => if_neg ne)
            have l := cnD_le (d := fun p => if p = x then 0 else gI z2 231 p) (P := 2 * kLy C)
            rw [← b2.1.2] at e
            omega
          have ru := b2.2.2.1 u hu
          rw [hv']
          have c3 : gI (sI (sI z2 231 x (v : Int)) 232 x (prF C R n true x : Int)) 229 13 = (ct' : Int) := by rw [hI_sI_a (by omega), hI_sI_a (by omega)]; exact b2.1.1
          refine WP_call (R := fun y => BFn C R n true y u (j + 1) ∧ gI y 231 u = (t : Int) ∧ ∃ B' ct', Dl C R n (oW R n) y t B' Cv Dn ct' ∧ B' (t % 12) = B (t % 12) ∧ ChD z y ∧ (∀ p, gI y 233 p = gI z 233 p) ∧ ct ≤ ct' ∧ lenB B' + ct = lenB B + ct') ?_ (fun y hy => by
            obtain ⟨y1, y2, B2, ct2, y3, y4, y5, y6, y7, y8⟩ := hy
            exact WP_some.2 ⟨by show (j : Int) + 1 = _; omega, B2, ct2, y3, y4, y1, y2, y5, y6, y7, y8⟩)
          refine WP_call (k_put15 c3 (by omega) (show x < 5000 by omega) (show v ≤ 100000 by omega)) (fun y hy => WP_some.2 ?_)
          obtain ⟨a1, a2, a3, a4, a5, a6⟩ := hy
          have e1 : ∀ b i, b ≠ 231 → b ≠ 232 → gI (sI (sI z2 231 x (v : Int)) 232 x (prF C R n true x : Int)) b i = gI z2 b i := fun b i g1 g2 => by rw [hI_sI_a g2, hI_sI_a g1]
          have d1 : ∀ i, gI y 231 i = if i = x then (v : Int) else gI z2 231 i := fun i => by
            rw [(a5 i).1, hI_sI_a (by omega)]
            by_cases q : i = x
            · rw [q, gI_set, w32_id (by omega), if_pos rfl]
            · rw [hI_sI_i q, if_neg q]
          have d2 : ∀ i, i ≠ x → gI y 232 i = gI z2 232 i := fun i ne => by rw [(a5 i).2.1, hI_sI_i ne, hI_sI_a (by omega)]
          have d3 : gI y 232 x = (prF C R n true x : Int) := by rw [(a5 x).2.1, gI_set, w32_id (by omega)]
          have ux : u ≠ x := fun e => x2 e.symm
          have du : gI y 231 u = (t : Int) := by rw [d1, if_neg ux]; exact b5
          have D := b2.put (Ow' := oW R n) (z' := y) (x := x) (v := v) (fun _ _ => Iff.rfl) x1 q (by omega) a1 (fun r => by rw [a2, e1 _ _ (by omega) (by omega)]) (fun i => by rw [a3, e1 _ _ (by omega) (by omega), e1 _ _ (by omega) (by omega)]) (fun i => by rw [a4, e1 _ _ (by omega) (by omega)]) d1 d2
            ⟨fun e => by have := (b2.2.2.2.2.2.1 x x1).1 e; omega, fun _ => ⟨by omega, d3, j, u, hj, hu, ex, by rw [b5]; omega, by rw [b5]; omega, by rw [b5]; omega⟩⟩
          have ne12 : t % 12 ≠ v % 12 := by
            rcases pl with e | e | e
            · exact absurd e p0
            · omega
            · omega
          refine ⟨fun j' y' l1 l2 l3 l4 => ?_, du, upL B' (v % 12) x, ct' + 1, D, ?_, (b6.sI (by omega)).sI (by omega) |>.tr a6, fun p => ?_, by omega, ?_⟩
          · by_cases e : j' = j
            · subst e
              have : y' = x := by omega
              subst this
              rw [d1, if_pos rfl, du]; omega
            · have := b4 j' y' (by omega) l2 l3 l4
              have ny : y' ≠ x := fun e => this.1 (by rw [e]; exact q)
              rw [d1, if_neg ny, du, ← b5]; exact this
          · unfold upL; rw [if_neg ne12]; exact b3
          · rw [(a5 p).2.2, hI_sI_a (by omega), hI_sI_a (by omega)]; exact b7 p
          · rw [lenB_up (Nat.mod_lt _ (by omega))]; omega
        · have le : gI z2 231 x ≤ (t : Int) + (prF C R n true x : Int) := by
            by_cases e : R 20 x = (n : Int)
            · rw [(b2.2.2.2.2.2.1 x x1).1 e]; omega
            · obtain ⟨c1, c2, j2, y, c3, c4, c5, c6, c7, c8⟩ := (b2.2.2.2.2.2.1 x x1).2 e q
              omega
          rw [if_pos q, rdI_e (by omega), Int.toNat_natCast, w32_id (by omega), w32_id (by omega), if_pos le, bX_some, if_pos rfl, bX_some]
          refine stay (same (fun y hy l3 l4 => ?_))
          have : y = x := by omega
          subst this; exact q
  · obtain ⟨z1, z2⟩ := s
    obtain ⟨b1, b2⟩ := hI
    dsimp only at b1 b2
    subst b1
    unfold mX15_relax_L3
    dsimp only
    rw [if_neg (by decide)]
    exact WP_some.2 b2
end KDEAR
