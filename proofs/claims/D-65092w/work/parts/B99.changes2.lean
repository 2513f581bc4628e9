/-! changes: the call -/
section CHG2
variable {c : Nat} {S : Sto}
theorem L45 {p1 p2 p3 p4 : Int} (h : Inv c S) (hc : c < 64) (h1 : i32 p1) (h2 : i32 p2) (h3 : i32 p3) (h4 : i32 p4) : WP (mL_45 S p1 p2 p3 p4) (Inv (c + 1)) := by
  have rx := h.1.x hc
  unfold mL_45 mX0_changes
  by_cases hq : isCh S p1
  · have hx := chipIn_t hq; obtain ⟨k, C, hk, rfl, w, r, m, wx, rX, mX⟩ := InvC.get h hq; rw [Int.toNat_natCast] at hx; have hn := w.nums; have eg := r.1.2.2.2.1; have em := m.1.2.2.2.1; rw [w.g] at eg em; have ei := r.1.1; have mi := m.1.1; rw [w.i] at ei mi; have er := r.1.2.1; have mr := m.1.2.1; rw [w.r] at er mr; have eo := r.1.2.2.1; have mo := m.1.2.2.1; rw [w.o] at eo mo; have el := r.1.2.2.2.2.1; have ml := m.1.2.2.2.2.1; rw [w.l] at el ml
    have h4' := h4
    unfold i32 at h4
    have kn := k_nets r w
    have p12 : 2 ^ kB C ≤ 4096 := Nat.pow_le_pow_right (n := 2) (by omega) hn.2.1
    by_cases q1 : -1 ≤ p4 ∧ p4 < (kN C : Int)
    · by_cases q2 : (0 ≤ p2 ∧ p2 < ((2 ^ kB C : Nat) : Int)) ∧ (0 ≤ p3 ∧ p3 < ((2 ^ kB C : Nat) : Int))
      · obtain ⟨qa, qb⟩ := q2
        obtain ⟨a, rfl⟩ : ∃ n : Nat, p2 = (n : Int) := ⟨p2.toNat, by omega⟩
        obtain ⟨b, rfl⟩ : ∃ n : Nat, p3 = (n : Int) := ⟨p3.toNat, by omega⟩
        obtain ⟨x, gx, x1, x2⟩ := k_wtake (a := a) (b := b) hk rfl r w wx.1 rX.1 (by omega) (by omega)
        have pa := k_isPat_t r w qa
        have pb := k_isPat_t r w qb
        have head : mX1_changes S (k : Int) (a : Int) (b : Int) p4 = bT (mX1_room x.2 x.1) fun x10 => bX (mX18_changes x.2 p4) fun x11 => some (Sum.inl (x11, x.2)) := by
          unfold mX1_changes
          rw [hx, bT_inl, gkc_chip hk, w32_id h4, if_pos q1.1, kn, bX_some, w32_id (by omega), if_pos q1.2, bX_some, if_pos rfl, bX_some, inside_1, bT_inl, pa, bT_inl, pb, bT_inl, gx, bX_some]
        have mref : ∀ S1, RefK S1 k C → RefP S1 k C → mX23_isChip S1 (k : Int) = some 1 → ∃ z, mX23_isWild S1 (k : Int) (a : Int) (b : Int) = some z ∧ (MWc z.2 k C a ∧ ((z.1 = 0 ∧ kWo C a b (kN C) ≤ 20000 ∧ MWs z.2 C a b (kN C) (kFl C a b (kN C))) ∨ (z.1 = 1 ∧ 20000 < kWo C a b (kN C)))) ∧ Fr W_mX23_isWild [] false S1 z.2 ∧ mX23_changes S1 (k : Int) (a : Int) (b : Int) p4 = bX (if ¬ w32 z.1 = 0 then some (3, z.2) else some (0, z.2)) fun y5 => wf y5.2 2000 0 y5.1 fun S6 => if 0 < w32 (gI S6 2000 0) then some (0, S6) else bX (lpF (mX23_changes_L76 S6) (0, 0)) fun y11 => bX (if w32 p4 = (-1) then some y11 else rdI 257 S6 2169 (p4 + 1) fun v12 => rdI 257 S6 2169 p4 fun v13 => some (v12 - v13)) fun y14 => some (y14, S6) := fun S1 m1 mp1 ch => by
          obtain ⟨z, gz, hz⟩ := m_isWild (a := a) (b := b) m1 mp1 w wx.1 hk (by omega) (by omega)
          refine ⟨z, gz, hz, fr_mX23_isWild z gz, ?_⟩
          have no := m_netOrAll ch m1 w hk h4'
          rw [mX23_changes, ch, bX_some, no, bX_some, decide_eq_true q1, if_neg (by decide), m_arePat m1 w hk h2 h3, if_pos ⟨qa, qb⟩, bX_some, if_neg (by decide), gz, bX_some]
        rcases x2 with ⟨x2, x3⟩ | ⟨x2, x3⟩
        · have l20 := x3.2.2.2.2.1
          rw [kFl_len] at l20
          have va := k_changes w x3 q1
          refine L_scr (m1 := fun S1 => mX23_changes S1 _ _ _ _) (kChg C a b p4) h hc ?_ (fun S1 eS => ?_)
          · rw [head, x2, roomX_1, bT_inl, va, bX_some]
            exact WP_some.2 ⟨rfl, x1⟩
          · obtain ⟨z, gz, ⟨z0, z1⟩, hf, ew⟩ := mref S1 (eS.M m) (eS.Y w wx mX).1 (eS.chip h h1 hq)
            have z1 := z1.resolve_right (fun g => by omega)
            have W6 : MWs (sI z.2 2000 0 0) C a b (kN C) (kFl C a b (kN C)) := z1.2.2.ch (fun a i q => by rw [hI_sI, if_neg (by omega)])
            rw [ew, z1.1, if_neg (by decide), bX_some, wf_eq]; dsimp only; rw [gI_set, if_neg (by decide), m_changesEnd w wx.1 l20 W6 q1]
            exact WP_some.2 ⟨rfl, gI_set, (Sc.fr hf rfl rfl).sI rfl⟩
        · refine L_scrF (m1 := fun S1 => mX23_changes S1 _ _ _ _) 3 4 h hc ?_ rfl (by omega) (fun S1 eS => ?_)
          · have rx' : RoomX x.2 := by unfold RoomX at rx ⊢; rw [x1.2.2.1, x1.2.2.2]; exact rx
            rw [head, x2, roomX_0 rx', bT_inr]
            exact WP_some.2 ⟨rfl, x.2, rfl, x1⟩
          · have m1 : RefK S1 k C := m.cg (fun a i l1 l2 => eS a i (kept_rng (by omega)))
            have mp1 : RefP S1 k C := mX.1.cg (fun a i l1 l2 => eS a i (kept_rng (by omega)))
            have ch : mX23_isChip S1 (k : Int) = some 1 := m_isChip_w h (fun i => eS _ _ (kept_rng (by omega))) (fun i => eS _ _ (kept_rng (by omega))) h1 hq
            obtain ⟨z, gz, ⟨z0, z1⟩, hf, ew⟩ := mref S1 m1 mp1 ch
            have z1 := z1.resolve_left (fun g => by omega)
            rw [ew, z1.1, if_pos (by decide), bX_some, wf_eq]; dsimp only; rw [gI_set, if_pos (by decide)]
            exact WP_some.2 ⟨gI_set, (Sc.fr hf rfl rfl).sI rfl⟩
      · refine L_modF (m1 := fun S1 => mX23_changes S1 _ _ _ _) 2 2 h hc ?_ rfl (by omega) (fun S1 eS => ?_)
        · unfold mX1_changes
          rw [hx, bT_inl, gkc_chip hk, w32_id h4, if_pos q1.1, kn, bX_some, w32_id (by omega), if_pos q1.2, bX_some, if_pos rfl, bX_some, inside_1, bT_inl]
          by_cases qa : 0 ≤ p2 ∧ p2 < ((2 ^ kB C : Nat) : Int)
          · rw [k_isPat_t r w qa, bT_inl, k_isPat_f r w rx h3 (fun g => q2 ⟨qa, g⟩)]; rfl
          · rw [k_isPat_f r w rx h2 qa]; rfl
        · have m1 : RefK S1 k C := m.cg (fun a i _ _ => eS a i)
          have ch := m_isChip_t h eS h1 hq
          have no := m_netOrAll ch m1 w hk h4'
          rw [mX23_changes, ch, bX_some, no, bX_some, decide_eq_true q1, if_neg (by decide), m_arePat m1 w hk h2 h3, if_neg q2, bX_some, if_pos (by decide), bX_some, wf_eq]; dsimp only; rw [gI_set, if_pos (by decide)]
    · refine L_modF (m1 := fun S1 => mX23_changes S1 _ _ _ _) 1 1 h hc ?_ rfl (by omega) (fun S1 eS => ?_)
      · unfold mX1_changes
        rw [hx, bT_inl, gkc_chip hk, w32_id h4]
        by_cases q2 : -1 ≤ p4
        · rw [if_pos q2, kn, bX_some, w32_id (by omega), if_neg (fun g => q1 ⟨q2, g⟩), bX_some, if_neg (by decide), bX_some, inside_0 rx]; rfl
        · rw [if_neg q2, bX_some, if_neg (by decide), bX_some, inside_0 rx]; rfl
      · have m1 : RefK S1 k C := m.cg (fun a i _ _ => eS a i)
        have ch := m_isChip_t h eS h1 hq
        have no := m_netOrAll ch m1 w hk h4'
        rw [mX23_changes, ch, bX_some, no, bX_some, decide_eq_false q1, if_pos (by decide), bX_some, wf_eq]; dsimp only; rw [gI_set, if_pos (by decide)]
  · refine L_modF (m1 := fun S1 => mX23_changes S1 _ _ _ _) 1 1 h hc ?_ rfl (by omega) (fun S1 eS => ?_)
    · rw [mX1_changes, chipIn_f hq rx h1]; rfl
    · unfold mX23_changes; rw [m_isChip_f h eS h1 hq]; rfl
end CHG2
