/-! the reference tells designs: what stands while a module is told -/
def CmI (u : Nat → Int) (n N : Nat) (fs : List Fin0) (cur : Mdl) (gv : List Nat) (S : Sto) : Prop :=
  (MTk u n N S ∧ RCx u n N (fMs fs) cur fs.length S ∧ gI S 2000 27 = 0) ∧
  (RMx S fs.length cur (rgT (totS [] (fMs fs)) cur) (inT (totS [] (fMs fs)) cur) ∧ (∀ i, i < cur.length → gI S 2014 (40 * fs.length + i) = if gv.contains i = true then 1 else 0) ∧ WdOk cur ∧ (∀ g, gv.contains g = true → g < cur.length)) ∧
  (∀ i, i < fs.length → RMx S i (fs.getD i (0, 0, [], [])).2.2.1 ((totS [] (fMs fs)).getD i (0, 0)).1 ((totS [] (fMs fs)).getD i (0, 0)).2) ∧
  (gI S 2000 12 = (fs.length : Int) ∧ (∀ i, i < fs.length → gI S 2007 i = ((fs.getD i (0, 0, [], [])).1 : Int) ∧ gI S 2008 i = ((fs.getD i (0, 0, [], [])).2.1 : Int)) ∧ KnM u n N (fMt fs))
theorem CmI.t {u : Nat → Int} {n N : Nat} {fs : List Fin0} {cur : Mdl} {gv : List Nat} {S : Sto} (h : CmI u n N fs cur gv S) : MTk u n N S := h.1.1
theorem CmI.r {u : Nat → Int} {n N : Nat} {fs : List Fin0} {cur : Mdl} {gv : List Nat} {S : Sto} (h : CmI u n N fs cur gv S) : RCx u n N (fMs fs) cur fs.length S := h.1.2.1
theorem CmI.m {u : Nat → Int} {n N : Nat} {fs : List Fin0} {cur : Mdl} {gv : List Nat} {S : Sto} (h : CmI u n N fs cur gv S) : gI S 2000 27 = 0 := h.1.2.2
theorem CmI.b {u : Nat → Int} {n N : Nat} {fs : List Fin0} {cur : Mdl} {gv : List Nat} {S : Sto} (h : CmI u n N fs cur gv S) : fs.length ≤ 15 := h.1.2.1.1.2.1
/-- what telling an item may change -/
def PDm (M a i : Nat) : Prop := PAq QL a i ∨ (a = 2000 ∧ (i = 25 ∨ i = 26)) ∨ ((2010 ≤ a ∧ a ≤ 2014) ∧ 40 * M ≤ i) ∨ ((a = 2009 ∨ (2015 ≤ a ∧ a ≤ 2018)) ∧ i = M)
def PDs (a i : Nat) : Prop := PAq QL a i ∨ (a = 2000 ∧ (i = 25 ∨ i = 26))
theorem PDs_n {a i : Nat} (q : PDs a i) : (a = 2000 ∧ ((9 ≤ i ∧ i ≤ 11) ∨ i = 32 ∨ i = 33 ∨ i = 34 ∨ i = 25 ∨ i = 26)) ∨ (2019 ≤ a ∧ a ≤ 2022) := by
  unfold PDs PAq QL at q
  omega
theorem PDm_n {M a i : Nat} (q : PDm M a i) : (a = 2000 ∧ ((9 ≤ i ∧ i ≤ 11) ∨ i = 32 ∨ i = 33 ∨ i = 34 ∨ i = 25 ∨ i = 26)) ∨ (2019 ≤ a ∧ a ≤ 2022) ∨ ((2010 ≤ a ∧ a ≤ 2014) ∧ 40 * M ≤ i) ∨ ((a = 2009 ∨ (2015 ≤ a ∧ a ≤ 2018)) ∧ i = M) := by
  unfold PDm PAq QL at q
  omega
theorem PDs_m {M : Nat} : ∀ a i, PDs a i → PDm M a i := fun a i q => by
  rcases q with q | q
  · exact Or.inl q
  · exact Or.inr (Or.inl q)
theorem PG9_s : ∀ a i, PG9 a i → PDs a i := fun a i q => Or.inl (by unfold PG9 at q; unfold PAq; omega)
theorem PN9_s : ∀ a i, PN9 a i → PDs a i := fun a i q => by
  rcases q with q | q
  · exact PG9_s a i q
  · exact Or.inr q
theorem PW9_s : ∀ a i, PW9 a i → PDs a i := fun a i q => by
  rcases q with q | q
  · exact PG9_s a i q
  · exact Or.inr (by omega)
theorem PF10_s : ∀ a i, PF10 a i → PDs a i := fun a i q => PG9_s a i (PF10_G9 a i q)
theorem PAQ_s : ∀ a i, PAq QL a i → PDs a i := fun a i q => Or.inl q
section MTO
variable {S x z y : Sto} {u : Nat → Int} {n N M c : Nat} {fs : List Fin0} {cur m : Mdl} {gv : List Nat} {q : Qq} {j jn : Nat} {s w v : Int}
theorem RMx.cg {rg ins : Int} (h : RMx S M m rg ins) (e : ∀ a, 2015 ≤ a → a ≤ 2018 → gI z a M = gI S a M) : RMx z M m rg ins := by
  obtain ⟨h1, h2, h3, h4, h5⟩ := h
  refine ⟨?_, ?_, ?_, ?_, h5⟩
  · rw [e _ (by omega) (by omega)]; exact h1
  · rw [e _ (by omega) (by omega)]; exact h2
  · rw [e _ (by omega) (by omega)]; exact h3
  · rw [e _ (by omega) (by omega)]; exact h4
theorem CmI.ch (h : CmI u n N fs cur gv S) (g : ChW PDs S z) : CmI u n N fs cur gv z := by
  obtain ⟨⟨h1, h2, h3⟩, ⟨h4, h5, h6⟩, h7, h8, h9, h10⟩ := h
  have e : ∀ a i, ¬ (a = 2000 ∧ ((9 ≤ i ∧ i ≤ 11) ∨ i = 32 ∨ i = 33 ∨ i = 34 ∨ i = 25 ∨ i = 26)) → ¬ (2019 ≤ a ∧ a ≤ 2022) → gI z a i = gI S a i := fun a i q1 q2 => g.1 _ _ (fun w => by have := PDs_n w; omega)
  refine ⟨⟨h1.ch g (fun a i q1 q2 w => by have := PDs_n w; omega), h2.ch g (fun a i w => by have := PDs_n w; omega), (e _ _ (by omega) (by omega)).trans h3⟩, ⟨h4.cg (fun a q1 q2 => e _ _ (by omega) (by omega)), fun i hi => (e _ _ (by omega) (by omega)).trans (h5 i hi), h6⟩, fun i hi => (h7 i hi).cg (fun a q1 q2 => e _ _ (by omega) (by omega)), (e _ _ (by omega) (by omega)).trans h8, fun i hi => ⟨(e _ _ (by omega) (by omega)).trans (h9 i hi).1, (e _ _ (by omega) (by omega)).trans (h9 i hi).2⟩, h10⟩
theorem totS_pos : ∀ {ms : List Mdl} {T : List (Int × Int)}, (∀ i, i < T.length → 0 ≤ (T.getD i (0, 0)).1 ∧ 0 ≤ (T.getD i (0, 0)).2) → (∀ i, i < ms.length → WdOk (ms.getD i [])) → ∀ i, i < (totS T ms).length → 0 ≤ ((totS T ms).getD i (0, 0)).1 ∧ 0 ≤ ((totS T ms).getD i (0, 0)).2
  | [], T, h, _ => h
  | m :: ms, T, h, g => by
    have hT : ∀ k : Nat, 0 ≤ (T.getD k (0, 0)).1 ∧ 0 ≤ (T.getD k (0, 0)).2 := fun k => by
      by_cases q : k < T.length
      · exact h k q
      · rw [List.getD_eq_getElem?_getD, List.getElem?_eq_none (by omega)]
        exact ⟨Int.le_refl _, Int.le_refl _⟩
    have pos : ∀ l : Mdl, WdOk l → 0 ≤ rgT T l ∧ 0 ≤ inT T l := by
      intro l
      induction l with
      | nil => intro _; exact ⟨Int.le_refl _, Int.le_refl _⟩
      | cons x l ih =>
        intro hl
        have h0 := hl 0 (by show 0 < l.length + 1; omega)
        have h0 : 0 ≤ x.2.2.1 ∧ x.2.2.1 ≤ 8 := h0
        have ih := ih (fun i hi => hl (i + 1) (by show i + 1 < l.length + 1; omega))
        have hk := hT x.2.2.2.toNat
        refine ⟨?_, ?_⟩
        · show 0 ≤ (if x.2.1 = 3 then x.2.2.1 else if x.2.1 = 4 then (T.getD x.2.2.2.toNat (0, 0)).1 else 0) + rgT T l
          split
          · omega
          · split <;> omega
        · show 0 ≤ (if x.2.1 = 4 then 1 + (T.getD x.2.2.2.toNat (0, 0)).2 else 0) + inT T l
          split <;> omega
    refine totS_pos (ms := ms) (T := T ++ [(rgT T m, inT T m)]) (fun i hi => ?_) (fun i hi => g (i + 1) (by show i + 1 < ms.length + 1; omega))
    rw [getD_appT]
    by_cases q : i < T.length
    · rw [if_pos q]; exact h i q
    · rw [if_neg q]
      have : i = T.length := by rw [List.length_append] at hi; simp only [List.length] at hi; omega
      rw [if_pos this]
      exact pos m (g 0 (by show 0 < ms.length + 1; omega))
theorem min_cap {a b : Int} (ha : 0 ≤ a) (hb : 0 ≤ b) : min 1000 (min 1000 a + b) = min 1000 (a + b) := by
  have h1 := Int.min_def 1000 a
  have h2 := Int.min_def 1000 (min 1000 a + b)
  have h3 := Int.min_def 1000 (a + b)
  split at h1 <;> split at h2 <;> split at h3 <;> omega
theorem min_cap2 {a b d : Int} (ha : 0 ≤ a) (hb : 0 ≤ b) (hd : 0 ≤ d) : min 1000 (min 1000 a + (d + min 1000 b)) = min 1000 (a + (d + b)) := by
  have h1 := Int.min_def 1000 a
  have h0 := Int.min_def 1000 b
  have h2 := Int.min_def 1000 (min 1000 a + (d + min 1000 b))
  have h3 := Int.min_def 1000 (a + (d + b))
  split at h1 <;> split at h0 <;> split at h2 <;> split at h3 <;> omega
/-- a name is told: what stands then -/
theorem m_told7 (hC : CmI u n N fs cur gv S) (hq : MsQ u n N S (.inl j)) (hk : tkK u n jn = 1) (hjn : jn ≤ N) (hc : cur.length < 40) (hs : 0 ≤ s ∧ s ≤ 4) (h26 : gI S 2000 26 = w) (hw : 0 ≤ w ∧ w ≤ 8) (h25 : gI S 2000 25 = (jn : Int)) (hv : -2147483648 ≤ v ∧ v < 2147483648) (hN : NmOk fs.length (jn, s, w, v)) :
    WP (mX23_tell S (fs.length : Int) (s + 1) v) (fun y => ChW (PDm fs.length) S y ∧ MsQ u n N y (.inl j) ∧ CmI u n N fs (cur ++ [(jn, s, w, v)]) gv y) := by
  have hb := hC.b
  obtain ⟨⟨h1, h2, h3⟩, ⟨h4, h5, h6, h6b⟩, h7, h8, h9, h10⟩ := hC
  obtain ⟨⟨a1, a2, a3⟩, a4, a5, a6, a7⟩ := h2
  have r0 := sumW_rng (s := 0) h6
  have r1 := sumW_rng (s := 1) h6
  obtain ⟨b1, b2, b3, b4, b5, b6⟩ := h4
  have m17 := Int.min_def 1000 (rgT (totS [] (fMs fs)) cur)
  have m18 := Int.min_def 1000 (inT (totS [] (fMs fs)) cur)
  have hlen : ∀ X : Nam, (cur ++ [X]).length = cur.length + 1 := fun X => by rw [List.length_append]; rfl
  have h9c : gI S 2009 fs.length = (cur.length : Int) := a1.1
  have sub : s = 4 → 0 ≤ v ∧ v < fs.length ∧ gI S 2017 v.toNat = min 1000 ((totS [] (fMs fs)).getD v.toNat (0, 0)).1 ∧ gI S 2018 v.toNat = min 1000 ((totS [] (fMs fs)).getD v.toNat (0, 0)).2 ∧ 0 ≤ ((totS [] (fMs fs)).getD v.toNat (0, 0)).1 ∧ 0 ≤ ((totS [] (fMs fs)).getD v.toNat (0, 0)).2 := fun e => by
    have hv2 : 0 ≤ v ∧ v < (fs.length : Int) := hN.2.2 e
    obtain ⟨x1, x2, x3, x4, x5, x6⟩ := h7 v.toNat (by omega)
    exact ⟨hv2.1, hv2.2, x3, x4, x5, x6⟩
  refine (m_tell1 (c := cur.length) (tk := (jn : Int)) hq hb hc h9c (s := s + 1) (w := w) (v := v) (by omega) h26 hw h25 hv (fun e => ?_) (by rw [b1]; omega) (by rw [b2]; omega) (by rw [b3]; split at m17 <;> omega) (by rw [b4]; split at m18 <;> omega)).mono (fun y hy => ?_)
  · obtain ⟨x1, x2, x3, x4, x5, x6⟩ := sub (by omega)
    have k1 := Int.min_def 1000 ((totS [] (fMs fs)).getD v.toNat (0, 0)).1
    have k2 := Int.min_def 1000 ((totS [] (fMs fs)).getD v.toNat (0, 0)).2
    rw [x3, x4]
    refine ⟨x1, x2, ?_, ?_, ?_, ?_⟩ <;> (split at k1 <;> split at k2 <;> omega)
  obtain ⟨y1, y2, ⟨y3, y4, y5, y6, y7⟩, y8, y9, y10, y11⟩ := hy
  have pT : ∀ a i, PTm fs.length cur.length a i → ((2010 ≤ a ∧ a ≤ 2014) ∧ i = 40 * fs.length + cur.length) ∨ ((a = 2009 ∨ (2015 ≤ a ∧ a ≤ 2018)) ∧ i = fs.length) := fun _ _ w => w
  have eP : ∀ a i, PTm fs.length cur.length a i → PDm fs.length a i := fun a i w => by
    rcases pT a i w with q | q
    · exact Or.inr (Or.inr (Or.inl ⟨q.1, by omega⟩))
    · exact Or.inr (Or.inr (Or.inr q))
  have tk : ∀ a i, 2002 ≤ a → a ≤ 2006 → ¬ PTm fs.length cur.length a i := fun a i l1 l2 w => by have := pT _ _ w; omega
  refine ⟨ChW.refl.tr y1 eP, hq.ch y1 (fun i l1 l2 w => by have := pT _ _ w; omega), ⟨h1.ch y1 tk, ⟨⟨⟨?_, fun i hi => ?_⟩, a2, ?_⟩, fun k hk => ?_, ⟨⟨?_, fun i hi => ?_⟩, ?_⟩, a6, a7⟩, ?_⟩, ⟨⟨?_, ?_, ?_, ?_, ?_, ?_⟩, fun i hi => ?_, fun i hi => ?_, fun g hg => ?_⟩, fun i hi => ?_, ?_, fun i hi => ?_, h10⟩
  · rw [y2, hlen]; omega
  · rw [hlen] at hi
    rw [getD_appN]
    by_cases g : i < cur.length
    · rw [if_pos g, y1.1 _ _ (fun w => by have := pT _ _ w; omega), y1.1 _ _ (fun w => by have := pT _ _ w; omega), y1.1 _ _ (fun w => by have := pT _ _ w; omega), y1.1 _ _ (fun w => by have := pT _ _ w; omega)]
      exact a1.2 i g
    · have g2 : i = cur.length := by omega
      subst g2
      rw [if_neg g, if_pos rfl]
      exact ⟨y3, y4, y5, y6⟩
  · rw [y1.1 _ _ (fun w => by have := pT _ _ w; omega)]; exact a3
  · have hk' : k < fs.length := by rw [fMs_len] at hk; exact hk
    have hm := (a6 k hk).1.1
    exact (a4 k hk).cg (y1.1 _ _ (fun w => by have := pT _ _ w; omega)) (fun a i l1 l2 l3 l4 => y1.1 _ _ (fun w => by have := pT _ _ w; omega))
  · rw [hlen]; omega
  · rw [hlen] at hi
    rw [getD_appN]
    by_cases g : i < cur.length
    · rw [if_pos g]; exact a5.1.2 i g
    · rw [if_neg g, if_pos (by omega), fMs_len]; exact hN
  · have e2 : mTk (cur ++ [(jn, s, w, v)]) = mTk cur ++ [jn] := by unfold mTk; rw [List.map_append]; rfl
    rw [e2]; exact a5.2.add hk hjn
  · rw [y1.1 _ _ (fun w => by have := pT _ _ w; omega)]; exact h3
  · rw [y8, b1, sumW_app]
    show _ + (if s + 1 = 1 then w else 0) = _ + if s = 0 then w else 0
    by_cases e : s = 0
    · rw [if_pos e, if_pos (by omega)]
    · rw [if_neg e, if_neg (by omega)]
  · rw [y9, b2, sumW_app]
    show _ + (if s + 1 = 2 then w else 0) = _ + if s = 1 then w else 0
    by_cases e : s = 1
    · rw [if_pos e, if_pos (by omega)]
    · rw [if_neg e, if_neg (by omega)]
  · rw [y10, b3, rgT_app]
    show _ = min 1000 (_ + if s = 3 then w else if s = 4 then ((totS [] (fMs fs)).getD v.toNat (0, 0)).1 else 0)
    by_cases e : s = 3
    · rw [if_pos (by omega), if_pos e, min_cap b5 hw.1]
    · rw [if_neg (by omega), if_neg e]
      by_cases e4 : s = 4
      · obtain ⟨x1, x2, x3, x4, x5, x6⟩ := sub e4
        rw [if_pos (by omega), if_pos e4, x3]
        have := min_cap2 b5 x5 (Int.le_refl 0)
        rw [Int.zero_add, Int.zero_add] at this
        exact this
      · rw [if_neg (by omega), if_neg e4, min_cap b5 (Int.le_refl 0)]
  · rw [y11, b4, inT_app]
    show _ = min 1000 (_ + if s = 4 then 1 + ((totS [] (fMs fs)).getD v.toNat (0, 0)).2 else 0)
    by_cases e4 : s = 4
    · obtain ⟨x1, x2, x3, x4, x5, x6⟩ := sub e4
      rw [if_pos (by omega), if_pos e4, x4]
      exact min_cap2 b6 x6 (by omega)
    · rw [if_neg (by omega), if_neg e4, min_cap b6 (Int.le_refl 0)]
  · rw [rgT_app]
    show 0 ≤ _ + if s = 3 then w else if s = 4 then ((totS [] (fMs fs)).getD v.toNat (0, 0)).1 else 0
    split
    · omega
    · split
      · rename_i e4
        have := sub e4
        omega
      · omega
  · rw [inT_app]
    show 0 ≤ _ + if s = 4 then 1 + ((totS [] (fMs fs)).getD v.toNat (0, 0)).2 else 0
    split
    · rename_i e4
      have := sub e4
      omega
    · omega
  · rw [hlen] at hi
    by_cases g : i < cur.length
    · rw [y1.1 _ _ (fun w => by have := pT _ _ w; omega)]; exact h5 i g
    · have g2 : i = cur.length := by omega
      subst g2
      rw [y7, if_neg (fun e => by have := h6b _ e; omega)]
  · rw [hlen] at hi
    rw [getD_appN]
    by_cases g : i < cur.length
    · rw [if_pos g]; exact h6 i g
    · rw [if_neg g, if_pos (by omega)]; exact hw
  · rw [hlen]; have := h6b g hg; omega
  · exact (h7 i hi).cg (fun a l1 l2 => y1.1 _ _ (fun w => by have := pT _ _ w; omega))
  · rw [y1.1 _ _ (fun w => by have := pT _ _ w; omega)]; exact h8
  · rw [y1.1 _ _ (fun w => by have := pT _ _ w; omega), y1.1 _ _ (fun w => by have := pT _ _ w; omega)]; exact h9 i hi
end MTO
