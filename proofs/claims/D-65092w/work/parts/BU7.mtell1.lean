/-! the reference tells designs: mode 0 follows the machine -/
section MTG
variable {S z y : Sto} {u : Nat → Int} {n N h M sl : Nat} {q : Qq} {ms : List Mdl} {cur : Mdl} {j b i : Nat} {f : Int × Int} {md w : Int} {v : VD}
def PA0 (a i : Nat) : Prop := (a = 2000 ∧ (i = 10 ∨ i = 11 ∨ i = 32)) ∨ QL a i
def PC0 (a i : Nat) : Prop := (a = 2000 ∧ (i = 10 ∨ i = 11 ∨ i = 32 ∨ i = 33)) ∨ QL a i
/-- joining two values -/
theorem m_apply0 (t : MTk u n N S) (h27 : gI S 2000 27 = 0) (hq : MsQ u n N S (.inl j)) {k p : Nat} {c : Int} (h32 : gI S 2000 32 = (k : Int) + 1) (hk : k ≤ 1000) (hc1 : gI S 2019 k = c) (hp1 : gI S 2020 k = (p : Int)) (hp : p ≤ N) (h34 : gI S 2000 34 = (v.2.length : Int)) (h2 : 2 ≤ v.2.length) (hv : v.2.length ≤ 1000) (hR : Rp0 u n N ms cur M v S) :
    WP (mX23_apply S) (fun z => ChW PA0 S z ∧ gI z 2000 32 = (k : Int) ∧ oPA (XD u n ms cur) N (Rp0 u n N ms cur M) j (apD u n c p v) z) := by
  obtain ⟨kk, vl⟩ := v
  match vl, h2 with
  | y :: x :: l, _ =>
    have h34 : gI S 2000 34 = ((l.length + 2 : Nat) : Int) := h34
    have hl : l.length + 2 ≤ 1000 := hv
    obtain ⟨⟨r1, r2, r4, r5, r7⟩, rc⟩ := hR
    have r1 : gI S 2021 (l.length + 1) = y := r1
    unfold mX23_apply
    rw [show gI S 2000 32 - 1 = (k : Int) by omega, rdI_e (by omega), rdI_e (by omega), Int.toNat_natCast, hc1, hp1, wf_eq]
    generalize hw : sI S 2000 32 (k : Int) = w
    have cw : ChW (fun a i => a = 2000 ∧ i = 32) S w := by rw [← hw]; exact ChW.refl.sI ⟨rfl, rfl⟩
    have w27 : gI w 2000 27 = 0 := (cw.1 _ _ (by omega)).trans h27
    have w34 : gI w 2000 34 = ((l.length + 2 : Nat) : Int) := (cw.1 _ _ (by omega)).trans h34
    have w32' : gI w 2000 32 = (k : Int) := by rw [← hw, gI_sI_eq, w32_id (by omega)]
    have tw := t.ch cw (fun a i l1 l2 q => by omega)
    have qw : MsQ u n N w (.inl j) := hq.ch cw (fun i l1 l2 q => by omega)
    have e2 : gI w 2000 34 - 2 = (l.length : Int) := by omega
    have e1 : gI w 2000 34 - 1 = ((l.length + 1 : Nat) : Int) := by omega
    rw [w27, if_pos (by decide), e2, e1, rdI_e (by omega), rdI_e (by omega), Int.toNat_natCast, Int.toNat_natCast, cw.1 _ _ (by omega), cw.1 _ _ (by omega), r1, r4, w32_id (by omega), w32_id (by omega)]
    -- whatever comes, the end
    have fin : ∀ {s : Sto}, ChW PF10 w s → WP (bX (if w32 (gI s 2000 27) = 1 then bX (mX23_join s c (l.length : Int) ((l.length + 1 : Nat) : Int)) fun x8 => some x8 else some s) fun y9 => bX (if w32 (gI y9 2000 27) = 2 then rdI 8192 y9 2022 (8 * (l.length : Int)) fun v10 => rdI 8192 y9 2022 (8 * ((l.length + 1 : Nat) : Int)) fun v11 => bX (if w32 c = 124 then some (aOr v10 v11) else if w32 c = 94 then some (aXor v10 v11) else some (aAnd v10 v11)) fun y12 => wrI 8192 y9 2022 (8 * (l.length : Int)) y12 fun S13 => some S13 else some y9) fun y14 => bX (if w32 c = 257 then some 1 else rdI 1024 y14 2021 (l.length : Int) fun v15 => some v15) fun y16 => wrI 1024 y14 2021 (l.length : Int) y16 fun S17 => wf S17 2000 34 ((gI S17 2000 34) - 1) fun S18 => some S18)
        (fun z => ChW PA0 S z ∧ gI z 2000 32 = (k : Int) ∧ (∀ i, 9 ≤ i → i ≤ 11 → gI z 2000 i = gI s 2000 i) ∧ gI z 2000 34 = ((l.length + 1 : Nat) : Int) ∧ gI z 2021 l.length = (if c = 257 then 1 else x) ∧ ChW (fun a i => (a = 2021 ∧ i = l.length) ∨ (a = 2000 ∧ (i = 10 ∨ i = 11 ∨ i = 32 ∨ i = 34))) S z) := fun {s} cs => by
      have s27 : gI s 2000 27 = 0 := (cs.1 _ _ (fun q => by unfold PF10 at q; omega)).trans w27
      have s21 : gI s 2021 l.length = x := (cs.1 _ _ (fun q => by unfold PF10 at q; omega)).trans ((cw.1 _ _ (by omega)).trans r4)
      have s34 : gI s 2000 34 = ((l.length + 2 : Nat) : Int) := (cs.1 _ _ (fun q => by unfold PF10 at q; omega)).trans w34
      have s32 : gI s 2000 32 = (k : Int) := (cs.1 _ _ (fun q => by unfold PF10 at q; omega)).trans w32'
      have hcw : w32 c = c := by rw [← hc1, w32_gI]
      rw [s27, if_neg (by decide), bX_some, s27, if_neg (by decide), bX_some, rdI_e (by omega), Int.toNat_natCast, s21, hcw]
      have hcc : (if c = 257 then some (1 : Int) else some x) = some (if c = 257 then 1 else x) := by split <;> rfl
      rw [hcc, bX_some, wrI_e (by omega), Int.toNat_natCast, wf_eq]
      rw [hI_sI_a (by decide), s34]
      generalize hz1 : sI s 2021 l.length (if c = 257 then 1 else x) = z1
      generalize hz2 : sI z1 2000 34 (((l.length + 2 : Nat) : Int) - 1) = z2
      have c1 : ChW (fun a i => a = 2021 ∧ i = l.length) s z1 := by rw [← hz1]; exact ChW.refl.sI ⟨rfl, rfl⟩
      have c2 : ChW (fun a i => a = 2000 ∧ i = 34) z1 z2 := by rw [← hz2]; exact ChW.refl.sI ⟨rfl, rfl⟩
      have call : ChW (fun a i => (a = 2021 ∧ i = l.length) ∨ (a = 2000 ∧ (i = 10 ∨ i = 11 ∨ i = 32 ∨ i = 34))) S z2 := (((ChW.refl.tr cw (fun a i q => by omega)).tr cs (fun a i q => by unfold PF10 at q; omega)).tr c1 (fun a i q => by omega)).tr c2 (fun a i q => by omega)
      refine WP_some.2 ⟨ChW.refl.tr call (fun a i q => by unfold PA0 QL; omega), ?_, fun i l1 l2 => ?_, ?_, ?_, call⟩
      · rw [c2.1 _ _ (by omega), c1.1 _ _ (by omega)]; exact s32
      · rw [c2.1 _ _ (by omega), c1.1 _ _ (by omega)]
      · rw [← hz2, gI_sI_eq, w32_id (by omega)]; omega
      · rw [c2.1 _ _ (by omega), ← hz1, gI_sI_eq]
        split
        · rfl
        · exact w32_id (by omega)
    by_cases g : y = x
    · rw [if_neg (show ¬ ¬ x = y from fun q => q g.symm), bX_some, if_neg (by decide), bX_some]
      refine (fin ChW.refl).mono (fun z hz => ?_)
      obtain ⟨z1, z2, z3, z4, z5, z6⟩ := hz
      refine ⟨z1, z2, ?_⟩
      have eo : apD u n c p (kk, y :: x :: l) = .inl (kk ++ [(cdD c, 0, 0)], (if c = 257 then 1 else x) :: l) := by
        show (if x = y then _ else _) = _
        rw [if_pos g.symm]
      rw [eo]
      refine ⟨qw.cg z3, z4, ⟨z5, ?_, ?_⟩, ?_⟩
      · split <;> omega
      · exact RvW.cg (v := l) r7 (fun i hi => z6.1 _ _ (by omega))
      · exact rc.ch z6 (fun a i q => by omega)
    · rw [if_pos (show ¬ x = y from fun q => g q.symm), bX_some, if_pos rfl]
      refine WP_bX.2 (WP_call (m_flawBefore tw qw hp (c := 13) (by omega)) (fun s hs => WP_some.2 ((fin hs.2).mono (fun z hz => ?_))))
      obtain ⟨z1, z2, z3, z4, z5, z6⟩ := hz
      refine ⟨z1, z2, ?_⟩
      have eo : apD u n c p (kk, y :: x :: l) = .inr (13, (tkB u n p : Int)) := by
        show (if x = y then _ else _) = _
        rw [if_neg (fun q => g q.symm)]
      rw [eo]
      exact MsQ.cg hs.1 z3
/-- choosing -/
theorem m_choose0 (t : MTk u n N S) (h27 : gI S 2000 27 = 0) (hq : MsQ u n N S (.inl j)) {k p o : Nat} (h32 : gI S 2000 32 = (k : Int) + 1) (hk : k ≤ 1000) (hp1 : gI S 2020 k = (p : Int)) (hp : p ≤ N) (h33 : gI S 2000 33 = (o : Int) + 1) (ho : o ≤ 60) (h34 : gI S 2000 34 = (v.2.length : Int)) (h2 : 3 ≤ v.2.length) (hv : v.2.length ≤ 1000) (hR : Rp0 u n N ms cur M v S) :
    WP (mX23_choose S) (fun z => ChW PC0 S z ∧ gI z 2000 32 = (k : Int) ∧ gI z 2000 33 = (o : Int) ∧ oPA (XD u n ms cur) N (Rp0 u n N ms cur M) j (chD u n p v) z) := by
  obtain ⟨kk, vl⟩ := v
  match vl, h2 with
  | y :: x :: r :: l, _ =>
    have h34 : gI S 2000 34 = ((l.length + 3 : Nat) : Int) := h34
    have hl : l.length + 3 ≤ 1000 := hv
    obtain ⟨⟨r1, r2, r4, r5, r8, r9, r7⟩, rc⟩ := hR
    have r1 : gI S 2021 (l.length + 2) = y := r1
    have r4 : gI S 2021 (l.length + 1) = x := r4
    unfold mX23_choose
    rw [show gI S 2000 32 - 1 = (k : Int) by omega, rdI_e (by omega), Int.toNat_natCast, hp1, wf_eq, hI_sI_i (by decide), show gI S 2000 33 - 1 = (o : Int) by omega, wf_eq]
    generalize hw : sI (sI S 2000 32 (k : Int)) 2000 33 (o : Int) = w
    have cw : ChW (fun a i => a = 2000 ∧ (i = 32 ∨ i = 33)) S w := by rw [← hw]; exact (ChW.refl.sI ⟨rfl, Or.inl rfl⟩).sI ⟨rfl, Or.inr rfl⟩
    have w27 : gI w 2000 27 = 0 := (cw.1 _ _ (by omega)).trans h27
    have w34 : gI w 2000 34 = ((l.length + 3 : Nat) : Int) := (cw.1 _ _ (by omega)).trans h34
    have w32' : gI w 2000 32 = (k : Int) := by rw [← hw, hI_sI_i (by decide), gI_sI_eq, w32_id (by omega)]
    have w33' : gI w 2000 33 = (o : Int) := by rw [← hw, gI_sI_eq, w32_id (by omega)]
    have tw := t.ch cw (fun a i l1 l2 q => by omega)
    have qw : MsQ u n N w (.inl j) := hq.ch cw (fun i l1 l2 q => by omega)
    have e3 : gI w 2000 34 - 3 = (l.length : Int) := by omega
    rw [e3, show (l.length : Int) + 1 = ((l.length + 1 : Nat) : Int) by omega, show (l.length : Int) + 2 = ((l.length + 2 : Nat) : Int) by omega, rdI_e (by omega), rdI_e (by omega), Int.toNat_natCast, Int.toNat_natCast, cw.1 _ _ (by omega), cw.1 _ _ (by omega), r1, r4, w32_id (by omega), w32_id (by omega)]
    have fin : ∀ {s : Sto}, ChW PF10 w s → WP (bX (if w32 (gI s 2000 27) = 1 then bX (mX23_choice s (l.length : Int)) fun x8 => some x8 else some s) fun y9 => rdI 1024 y9 2021 ((l.length + 1 : Nat) : Int) fun v10 => wrI 1024 y9 2021 (l.length : Int) v10 fun S11 => wf S11 2000 34 ((gI S11 2000 34) - 2) fun S12 => some S12)
        (fun z => ChW PC0 S z ∧ gI z 2000 32 = (k : Int) ∧ gI z 2000 33 = (o : Int) ∧ (∀ i, 9 ≤ i → i ≤ 11 → gI z 2000 i = gI s 2000 i) ∧ gI z 2000 34 = ((l.length + 1 : Nat) : Int) ∧ gI z 2021 l.length = x ∧ ChW (fun a i => (a = 2021 ∧ i = l.length) ∨ (a = 2000 ∧ (i = 10 ∨ i = 11 ∨ i = 32 ∨ i = 33 ∨ i = 34))) S z) := fun {s} cs => by
      have s27 : gI s 2000 27 = 0 := (cs.1 _ _ (fun q => by unfold PF10 at q; omega)).trans w27
      have s21 : gI s 2021 (l.length + 1) = x := (cs.1 _ _ (fun q => by unfold PF10 at q; omega)).trans ((cw.1 _ _ (by omega)).trans r4)
      have s34 : gI s 2000 34 = ((l.length + 3 : Nat) : Int) := (cs.1 _ _ (fun q => by unfold PF10 at q; omega)).trans w34
      have s32 : gI s 2000 32 = (k : Int) := (cs.1 _ _ (fun q => by unfold PF10 at q; omega)).trans w32'
      have s33 : gI s 2000 33 = (o : Int) := (cs.1 _ _ (fun q => by unfold PF10 at q; omega)).trans w33'
      rw [s27, if_neg (by decide), bX_some, rdI_e (by omega), Int.toNat_natCast, s21, wrI_e (by omega), Int.toNat_natCast, wf_eq]
      rw [hI_sI_a (by decide), s34]
      generalize hz1 : sI s 2021 l.length x = z1
      generalize hz2 : sI z1 2000 34 (((l.length + 3 : Nat) : Int) - 2) = z2
      have c1 : ChW (fun a i => a = 2021 ∧ i = l.length) s z1 := by rw [← hz1]; exact ChW.refl.sI ⟨rfl, rfl⟩
      have c2 : ChW (fun a i => a = 2000 ∧ i = 34) z1 z2 := by rw [← hz2]; exact ChW.refl.sI ⟨rfl, rfl⟩
      have call : ChW (fun a i => (a = 2021 ∧ i = l.length) ∨ (a = 2000 ∧ (i = 10 ∨ i = 11 ∨ i = 32 ∨ i = 33 ∨ i = 34))) S z2 := (((ChW.refl.tr cw (fun a i q => by omega)).tr cs (fun a i q => by unfold PF10 at q; omega)).tr c1 (fun a i q => by omega)).tr c2 (fun a i q => by omega)
      refine WP_some.2 ⟨ChW.refl.tr call (fun a i q => by unfold PC0 QL; omega), ?_, ?_, fun i l1 l2 => ?_, ?_, ?_, call⟩
      · rw [c2.1 _ _ (by omega), c1.1 _ _ (by omega)]; exact s32
      · rw [c2.1 _ _ (by omega), c1.1 _ _ (by omega)]; exact s33
      · rw [c2.1 _ _ (by omega), c1.1 _ _ (by omega)]
      · rw [← hz2, gI_sI_eq, w32_id (by omega)]; omega
      · rw [c2.1 _ _ (by omega), ← hz1, gI_sI_eq]
        exact w32_id (by omega)
    by_cases g : y = x
    · rw [if_neg (show ¬ ¬ x = y from fun q => q g.symm), bX_some]
      refine (fin ChW.refl).mono (fun z hz => ?_)
      obtain ⟨z1, z2, z2', z3, z4, z5, z6⟩ := hz
      refine ⟨z1, z2, z2', ?_⟩
      have eo : chD u n p (kk, y :: x :: r :: l) = .inl (kk ++ [(10, 0, 0)], x :: l) := by
        show (if x = y then _ else _) = _
        rw [if_pos g.symm]
      rw [eo]
      refine ⟨qw.cg z3, z4, ⟨z5, r5, ?_⟩, ?_⟩
      · exact RvW.cg (v := l) r7 (fun i hi => z6.1 _ _ (by omega))
      · exact rc.ch z6 (fun a i q => by omega)
    · rw [if_pos (show ¬ x = y from fun q => g q.symm)]
      refine WP_bX.2 (WP_call (m_flawBefore tw qw hp (c := 13) (by omega)) (fun s hs => WP_some.2 ((fin hs.2).mono (fun z hz => ?_))))
      obtain ⟨z1, z2, z2', z3, z4, z5, z6⟩ := hz
      refine ⟨z1, z2, z2', ?_⟩
      have eo : chD u n p (kk, y :: x :: r :: l) = .inr (13, (tkB u n p : Int)) := by
        show (if x = y then _ else _) = _
        rw [if_neg (fun q => g q.symm)]
      rw [eo]
      exact MsQ.cg hs.1 z3
/-- mode 0 gives what the loop needs -/
theorem XD_in0 : OIn (XD u n ms cur) N 0 QL (Rp0 u n N ms cur M) := by
  refine ⟨⟨Or.inr ⟨rfl, Or.inl rfl⟩, Or.inr (Or.inr ⟨rfl, rfl⟩)⟩, ?_, ?_, ?_, ?_, ?_, ?_, ?_⟩
  · intro a i q; unfold QL at q; omega
  · intro v S z h g
    refine h.ch g (fun a i q => ?_)
    rcases q with q | q | q | q
    · omega
    · omega
    · omega
    · exact absurd q id
  · intro j v S t h27 hq _ _ h34 hv hR
    have t : MTk u n N S := t
    have hq : MsQ u n N S (.inl j) := hq
    have h34 : gI S 2000 34 = (v.2.length : Int) := h34
    have hv : v.2.length ≤ 1000 := hv
    refine (m_midD (sl := 0) t hq hR.2 h27 (Or.inl rfl) h34 hv (fun q => by omega)).mono (fun y hy => ?_)
    obtain ⟨y1, y2⟩ := hy
    have hP : ∀ a i, PPl v.2.length a i → PG9 a i ∨ QL a i := fun a i q => by
      rcases q with q | q | q
      · exact Or.inl q
      · exact Or.inr (Or.inl q.1)
      · exact Or.inr (Or.inr (Or.inl q.1))
    refine ⟨ChW.refl.tr y1 hP, ?_⟩
    show oPO _ _ _ _ (oB (opD u n ms cur j) (fun t => (.inl (t.1, v.1 ++ t.2.1, t.2.2 :: v.2) : Rv VD))) y
    cases hC : opD u n ms cur j with
    | inr f => rw [hC] at y2; exact y2
    | inl r =>
      rw [hC] at y2
      rw [oB_l]
      obtain ⟨y3, y4, y5, _⟩ := y2
      have c34 : ChW (fun a i => a = 2000 ∧ i = 34) y (sI y 2000 34 ((v.2.length : Int) + 1)) := ChW.refl.sI ⟨rfl, rfl⟩
      have cS : ChW (fun a i => PPl v.2.length a i ∨ (a = 2000 ∧ i = 34)) S (sI y 2000 34 ((v.2.length : Int) + 1)) := (ChW.refl.tr y1 (fun a i q => Or.inl q)).tr c34 (fun a i q => Or.inr q)
      refine ⟨y3, (y1.1 _ _ (fun q => by unfold PPl PG9 at q; omega)).trans h34, ⟨(c34.1 _ _ (by omega)).trans y4, y5, RvW.cg (v := v.2) hR.1 (fun i hi => cS.1 _ _ (fun q => by unfold PPl PG9 at q; omega))⟩, hR.2.ch cS (fun a i q => by unfold PPl PG9 at q; omega)⟩
  · intro v S h27 h34 h1 h2 hR
    have h1 : 1 ≤ v.2.length := h1
    have h2 : v.2.length ≤ 1000 := h2
    have h34 : gI S 2000 34 = (v.2.length : Int) := h34
    obtain ⟨h, hh⟩ : ∃ h, v.2.length = h + 1 := ⟨v.2.length - 1, by omega⟩
    refine (m_turnD (h := h) h27 (Or.inl rfl) (by rw [h34, hh]) (by omega)).mono (fun z hz => ?_)
    refine ⟨ChW.refl.tr hz.1 (fun a i q => Or.inr (Or.inl q.1)), hz.1.1 _ _ (by omega), RvW.cg (v := v.2) hR.1 (fun i _ => hz.1.1 _ _ (by omega)), hR.2.ch hz.1 (fun a i q => by omega)⟩
  · intro j c p k v S t h27 hq h32 hk' hc hp' hp _ _ h34 h2 hv hR; exact m_apply0 t h27 hq h32 hk' hc hp' hp h34 h2 hv hR
  · intro j p k o v S _ t h27 hq h32 hk' hp' hp h33 ho h34 h3 hv hR; exact m_choose0 t h27 hq h32 hk' hp' hp h33 ho h34 h3 hv hR
  · intro v S _ h34 h1 h2 hR
    obtain ⟨kk, vl⟩ := v
    match vl, h1 with
    | w :: l, _ =>
      have r1 : gI S 2021 l.length = w := hR.1.1
      show gI S 2021 (l.length + 1 - 1) = 1 ↔ decide (w = 1) = true
      rw [Nat.add_sub_cancel, r1, decide_eq_true_iff]
end MTG
