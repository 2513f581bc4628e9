/-! the reference tells designs: an instance's output, whole -/
section MOG
variable {S z y : Sto} {u : Nat → Int} {n N h M sl : Nat} {q : Qq} {ms : List Mdl} {cur : Mdl} {j b i : Nat} {f : Int × Int} {md w : Int}
theorem oB_as {α β γ δ : Type} {x : α ⊕ δ} {g : α → β ⊕ δ} {k : β → γ ⊕ δ} : oB (oB x g) k = oB x (fun c => oB (g c) k) := by cases x <;> rfl
theorem mTl.cons {r : RsD} {row : Row3} (h' : mTl u n N h md (roB S sl row) r y) : mNa u n N h md S sl (oB r (fun t => .inl (t.1, row :: t.2.1, t.2.2))) y := by
  cases r with
  | inr f => exact h'
  | inl t => exact h'
theorem mNa_cg {S' : Sto} {r : RsD} (h' : mNa u n N h md S' sl r y) (e1 : ∀ i, gI S' 2027 i = gI S 2027 i) (e2 : ∀ i, gI S' 2028 i = gI S 2028 i) : mNa u n N h md S sl r y := by
  have er : ∀ x : Row3, roB S' sl x = roB S sl x := fun x => by
    funext k; unfold roB; rw [e1, e2]
  cases r with
  | inr f => exact h'
  | inl t =>
    obtain ⟨t1, l, t3⟩ := t
    refine ⟨h'.1, h'.2.1, h'.2.2.1, fun q i hi => ?_⟩
    have h4 := h'.2.2.2 q i hi
    cases l with
    | nil => exact h4
    | cons x l =>
      have h4 : gI y 2022 (8 * h + i) = rsB (roB S' sl x) l i := h4
      rw [er] at h4; exact h4
/-- an output of an instance -/
theorem m_of (t : MTk u n N S) (hq : MsQ u n N S (.inl b)) (k1 : tkK u n b = 1) (hc : RCx u n N ms cur M S) (hi : i < cur.length) (hs : (cur.getD i nm0).2.1 = 4) (h27 : gI S 2000 27 = md) (hmd : md = 0 ∨ md = 1) (h34 : gI S 2000 34 = (h : Int)) (hh : h ≤ 1000) (h29 : md = 1 → gI S 2000 29 = (sl : Int) ∧ sl ≤ 15) :
    WP (mX23_ofInstance S (i : Int)) (fun y => ChW (PPl h) S y ∧ mNa u n N h md S sl (ofD u n (ms.getD (cur.getD i nm0).2.2.2.toNat []) i b) y) := by
  have h9 : gI S 2000 9 = (b : Int) := hq.2.1
  have hb : b ≤ N := hq.2.2.1
  have hlt : b < N := lt1 t.l k1 hb
  obtain ⟨⟨c1, c2, c3⟩, c4, ⟨c5, c6⟩, c7, c8⟩ := hc
  have hi40 : i < 40 := by have := c5.1; omega
  obtain ⟨o1, o2, o3⟩ := c5.2 i hi
  have o3 := o3 hs
  obtain ⟨v, hv⟩ := Int.eq_ofNat_of_zero_le o3.1
  have hvl : v < ms.length := by omega
  have hm := c4 v hvl
  obtain ⟨d1, d2⟩ := c7 v hvl
  have e13 : gI S 2013 (40 * M + i) = (v : Int) := by rw [(c1.2 i hi).2.2.2]; exact hv
  unfold mX23_ofInstance
  rw [c3, show 40 * (M : Int) + (i : Int) = ((40 * M + i : Nat) : Int) by omega, rdI_e (by omega), Int.toNat_natCast, e13, hv, Int.toNat_natCast, h9]
  generalize hmm : ms.getD v [] = m at hm d1 d2
  have hml : m.length ≤ 40 := d1.1
  refine WP_call (m_nameOf t hm (show v ≤ 15 by omega) hml d2 hb k1) (fun x2 hx => ?_)
  subst hx
  have bad : ∀ {e : Int × Int}, ofD u n m i b = .inr e → e = (11, (tkB u n b : Int)) → WP (bX (mX23_flaw S 11 (b : Int)) fun x4 => some x4) (fun y => ChW (PPl h) S y ∧ mNa u n N h md S sl (ofD u n m i b) y) := fun {e} e1 e2 => by
    have hf := m_flaw t hq (c := 11) (by omega)
    rw [h9] at hf
    refine WP_call hf (fun y hy => WP_some.2 ⟨ChW.refl.tr hy.2 (fun a i q => PG9_pl a i (PF10_G9 a i q)), ?_⟩)
    rw [e1, e2]; exact hy.1
  by_cases g : inNm u n (mTk m) b = true
  · rw [if_pos g]
    obtain ⟨k, hk⟩ : ∃ k, k = fiN u n (mTk m) b := ⟨_, rfl⟩
    have hkl : k < m.length := by have := (fiN_ok g).1; rw [mTk_len] at this; omega
    rw [← hk]
    obtain ⟨r1, r2, r3, r4⟩ := hm.2 k hkl
    have hn := d1.2 k hkl
    rw [w32_id (by omega), if_pos (show ¬ (k : Int) = -1 by omega), show 40 * (v : Int) + (k : Int) = ((40 * v + k : Nat) : Int) by omega, rdI_e (by omega), Int.toNat_natCast, r2]
    have hr := hn.1
    by_cases s1 : (m.getD k nm0).2.1 = 1
    · have eo : ofD u n m i b = oB (oB (nxT u n b) (biD u n (m.getD k nm0).2.2.1)) (fun t => .inl (t.1, (2, (i : Int), (k : Int)) :: t.2.1, t.2.2)) := by
        rw [oB_as]
        unfold ofD
        rw [← hk, if_pos ⟨g, s1⟩]
      have hw := hn.2.1 (by omega)
      rw [s1, if_neg (by decide), bX_some, if_neg (by decide), eo]
      refine WP_call (m_go_9 t hq hlt) (fun x5 hx => ?_)
      obtain ⟨a1, a2, a3⟩ := hx
      have t5 := t.g9 a2
      have x5o : ∀ a i, ¬ PG9 a i → gI x5 a i = gI S a i := fun a i q => a2.1 a i q
      rw [rdI_e (by omega), Int.toNat_natCast, x5o 2012 _ (fun q => by unfold PG9 at q; omega), r3]
      have x27 : gI x5 2000 27 = md := (x5o _ _ (fun q => by unfold PG9 at q; omega)).trans h27
      have x34 : gI x5 2000 34 = (h : Int) := (x5o _ _ (fun q => by unfold PG9 at q; omega)).trans h34
      have x29 : gI x5 2000 29 = gI S 2000 29 := x5o _ _ (fun q => by unfold PG9 at q; omega)
      refine WP_call (m_copy x27 hmd x34 hh (w := (m.getD k nm0).2.2.1) (w32_id (by omega)) (p2 := 1) (Or.inr rfl) (kk := 12800 * sl + 320 * i + 8 * k) (fun q => ?_)) (fun x7 hx => ?_)
      · obtain ⟨g1, g2⟩ := h29 q
        rw [x29, g1]
        exact ⟨by omega, Or.inr ⟨rfl, by omega⟩⟩
      · obtain ⟨b1, b2, b3⟩ := hx
        have t7 := t5.ch b1 (fun a i l1 l2 q => by unfold PCp at q; omega)
        have m7 : MsQ u n N x7 (nxT u n b) := a1.ch b1 (fun i l1 l2 q => by unfold PCp at q; omega)
        refine (m_tail (md := md) (fb := roB S sl (2, (i : Int), (k : Int))) t7 m7 ((b1.1 _ _ (fun q => by unfold PCp at q; omega)).trans a3) hlt ((b1.1 _ _ (fun q => by unfold PCp at q; omega)).trans x34) hh hw b2 (fun q i' hi' => ?_)).mono (fun y hy => ⟨((ChW.refl.tr a2 PG9_pl).tr b1 PCp_pl).tr hy.1 (fun _ _ z => z), hy.2.cons⟩)
        rw [b3 q i' hi', if_neg (by decide), x5o _ _ (fun q => by unfold PG9 at q; omega)]
        show _ = gI S 2028 (12800 * sl + 320 * (i : Int).toNat + 8 * (k : Int).toNat + i')
        rw [Int.toNat_natCast, Int.toNat_natCast]
    · have eo : ofD u n m i b = .inr (11, (tkB u n b : Int)) := by
        unfold ofD
        rw [← hk, if_neg (fun q => s1 q.2)]
      rw [w32_id (by omega), if_pos (show ¬ (m.getD k nm0).2.1 + 1 = 2 by omega), bX_some, if_pos rfl]
      exact bad eo rfl
  · have eo : ofD u n m i b = .inr (11, (tkB u n b : Int)) := by
      unfold ofD
      rw [if_neg (fun q => g q.1)]
    rw [if_neg g, if_neg (show ¬ ¬ w32 (-1) = (-1) from fun q => q (by decide)), bX_some, if_pos rfl]
    exact bad eo rfl
end MOG
