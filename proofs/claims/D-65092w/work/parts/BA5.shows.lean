/-! shows: the call -/
section SHOWS
variable {c : Nat} {S : Sto} {L k : Nat} {C : Chp}
theorem k_shows (hk : k < 4) (r : RepK S (344 + 22 * k) C) (w : WFC C) {p f : Nat} (hp : p < 4096) (hf : f < kFa C) : WP (mX19_shows S (344 + 22 * k) (p : Int) (f : Int)) (fun z => z.1 = b2i (kShow C f p) ∧ Sc S z.2) := by
  have hn := w.nums
  have fa := kFa_le w
  unfold mX19_shows
  rw [wfR_eq]
  have r1 : RepK (sR S 264 0 (344 + 22 * k)) (344 + 22 * k) C := r.cg (fun a i _ _ => rfl)
  have g1 : gR (sR S 264 0 (344 + 22 * k)) 264 0 = 344 + 22 * k := by rw [gR_sR, if_pos ⟨rfl, rfl⟩]
  rw [g1, gk_chip hk]
  refine WP_callF (k_values (T := 270) r1 w hp (by omega) rfl) fr_mX22_values (fun x hx hg => ?_)
  have c1 : Ch 270 270 (sR S 264 0 (344 + 22 * k)) x := Ch.of hg rfl
  have r2 : RepK x (344 + 22 * k) C := r1.ch c1 (by omega)
  have g2 : gR x 264 0 = 344 + 22 * k := (c1.2.2.1 264 0).trans g1
  rw [g2, gk_chip hk, k_nets r2 w, bX_some, w32_id (by omega), w32_id (by omega)]
  refine WP_call (R := fun y => y = kFst C f) ?_ (fun y6 h6 => ?_)
  · unfold kFst
    by_cases q : f < 2 * kN C
    · rw [if_pos (by omega), if_pos q, gnz_nz (by decide), aDiv_nn (by omega) (by omega)]
      exact WP_some.2 (by omega)
    · rw [if_neg (by omega), if_neg q]; exact WP_some.2 rfl
  subst h6
  refine WP_call (R := fun y => y = kFpn C f) ?_ (fun y8 h8 => ?_)
  · have sr := kFst_rng w (f := f)
    rw [w32_id (by omega)]
    by_cases q : f < 2 * kN C
    · have e : kFst C f = ((f / 2 : Nat) : Int) := if_pos q
      rw [if_neg (by omega)]
      exact WP_some.2 (by unfold kFpn; rw [if_pos q])
    · have e : kFst C f = -1 := if_neg q
      rw [if_pos e, k_pinOf r2 w hk g2 (by omega) hf, bX_some]
      exact WP_some.2 rfl
  subst h8
  refine WP_call (k_shows73 hk r2 w hf g2 hx) (fun y hy => ?_)
  obtain ⟨y1, y2⟩ := hy
  have r3 : RepK y (344 + 22 * k) C := r2.ch y1 (by omega)
  have g3 : gR y 264 0 = 344 + 22 * k := (y1.2.2.1 264 0).trans g2
  have v0 : ∀ n, n < kN C → gI y 270 n = b2i (kVal C p n) := fun n hn' => (y1.1 270 n (by omega)).trans (hx n hn')
  have t0 := k_toldG r3 w v0 rfl
  have t1 := k_toldG r3 w y2 rfl
  have m0 := k_movedG r3 w v0 rfl
  have m1 := k_movedG r3 w y2 rfl
  have b1 := bitsN_lt (kO C) (fun j => eBit (kVal C p) (C 6 j))
  have b2 := bitsN_lt (kO C) (fun j => eBit (kValF C p (kFst C f) (kFpn C f) (kFv f)) (C 6 j))
  have b3 := bitsN_lt (kR C) (fun j => eBit (kVal C p) (C 7 j))
  have b4 := bitsN_lt (kR C) (fun j => eBit (kValF C p (kFst C f) (kFpn C f) (kFv f)) (C 7 j))
  have pO : 2 ^ kO C ≤ 65536 := Nat.pow_le_pow_right (n := 2) (by omega) hn.2.2.2.1
  have pR : 2 ^ kR C ≤ 64 := Nat.pow_le_pow_right (n := 2) (by omega) hn.1
  have d6 : kDifN (fun j => kBit C p (C 6 j)) (fun j => kBitF C p f (C 6 j)) (kO C) = false ↔ bitsN (kO C) (fun j => eBit (kVal C p) (C 6 j)) = bitsN (kO C) (fun j => eBit (kValF C p (kFst C f) (kFpn C f) (kFv f)) (C 6 j)) := kDif_bits
  have d7 : kDifN (fun j => kBit C p (C 7 j)) (fun j => kBitF C p f (C 7 j)) (kR C) = false ↔ bitsN (kR C) (fun j => eBit (kVal C p) (C 7 j)) = bitsN (kR C) (fun j => eBit (kValF C p (kFst C f) (kFpn C f) (kFv f)) (C 7 j)) := kDif_bits
  have sc : Sc S y := (Sc.refl.sR.tr (Sc.ch c1 rfl)).tr (Sc.ch y1 rfl)
  rw [g3, gk_chip hk, t0, bX_some, gk_chip hk, t1, bX_some, w32_id (by omega), w32_id (by omega)]
  generalize hA : bitsN (kO C) (fun j => eBit (kVal C p) (C 6 j)) = A at *
  generalize hB : bitsN (kO C) (fun j => eBit (kValF C p (kFst C f) (kFpn C f) (kFv f)) (C 6 j)) = B at *
  refine WP_call (R := fun y => y = b2i (kShow C f p)) ?_ (fun v hv => ?_)
  · unfold kShow
    by_cases q : A = B
    · rw [if_pos (by omega), gk_chip hk, m0, bX_some, gk_chip hk, m1, bX_some, w32_id (by omega), w32_id (by omega), d6.2 q, Bool.false_or]
      by_cases q2 : bitsN (kR C) (fun j => eBit (kVal C p) (C 7 j)) = bitsN (kR C) (fun j => eBit (kValF C p (kFst C f) (kFpn C f) (kFv f)) (C 7 j))
      · rw [if_neg (by omega), bX_some, if_neg (by decide), d7.2 q2]; exact WP_some.2 rfl
      · rw [if_pos (by omega), bX_some, if_pos rfl]
        have : kDifN (fun j => kBit C p (C 7 j)) (fun j => kBitF C p f (C 7 j)) (kR C) = true := by
          cases e : kDifN (fun j => kBit C p (C 7 j)) (fun j => kBitF C p f (C 7 j)) (kR C) with
          | true => rfl
          | false => exact absurd (d7.1 e) q2
        rw [this]; exact WP_some.2 rfl
    · rw [if_neg (by omega), bX_some, if_pos rfl]
      have : kDifN (fun j => kBit C p (C 6 j)) (fun j => kBitF C p f (C 6 j)) (kO C) = true := by
        cases e : kDifN (fun j => kBit C p (C 6 j)) (fun j => kBitF C p f (C 6 j)) (kO C) with
        | true => rfl
        | false => exact absurd (d6.1 e) q
      rw [this, Bool.true_or]; exact WP_some.2 rfl
  subst hv
  rw [gz_b2i]
  exact WP_some.2 ⟨rfl, sc⟩
theorem L47 {p1 p2 p3 : Int} (h : Inv c S) (hc : c < 64) (h1 : i32 p1) (h2 : i32 p2) (h3 : i32 p3) : WP (mL_47 S p1 p2 p3) (Inv (c + 1)) := by
  have rx := h.1.x hc
  unfold mL_47 mX0_shows
  by_cases hq : isCh S p1
  · have hx := chipIn_t hq; obtain ⟨k, C, hk, rfl, w, r, m, wx, rX, mX⟩ := InvC.get h hq; rw [Int.toNat_natCast] at hx; have hn := w.nums; have eg := r.1.2.2.2.1; have em := m.1.2.2.2.1; rw [w.g] at eg em; have ei := r.1.1; have mi := m.1.1; rw [w.i] at ei mi; have er := r.1.2.1; have mr := m.1.2.1; rw [w.r] at er mr; have eo := r.1.2.2.1; have mo := m.1.2.2.1; rw [w.o] at eo mo; have el := r.1.2.2.2.2.1; have ml := m.1.2.2.2.2.1; rw [w.l] at el ml
    have h3' := h3
    unfold i32 at h3
    have fa := kFa_le w
    have p12 : 2 ^ kB C ≤ 4096 := Nat.pow_le_pow_right (n := 2) (by omega) hn.2.1
    by_cases q1 : 0 ≤ p3 ∧ p3 < (kFa C : Int)
    · obtain ⟨f, rfl⟩ : ∃ n : Nat, p3 = (n : Int) := ⟨p3.toNat, by omega⟩
      have hf : f < kFa C := by omega
      have fin : mX1_faultIn S (k : Int) (f : Int) = some (.inl (344 + 22 * k)) := by
        unfold mX1_faultIn
        rw [hx, bT_inl, gkc_chip hk, w32_id (by omega), if_pos q1.1, k_faults r w, bX_some, w32_id (by omega), if_pos q1.2, bX_some, if_pos rfl, bX_some, inside_1, bT_inl]
      have gate : ∀ S1, RefK S1 k C → mX23_isChip S1 (k : Int) = some 1 → (bX (mX23_isChip S1 (k : Int)) fun x1 => bX (if ¬ w32 x1 = 0 then if 0 ≤ w32 (f : Int) then bX (mX23_faultCount S1 (k : Int)) fun x2 => if w32 x2 ≤ w32 (f : Int) then some true else some false else some true else some true) fun b => some b) = some false := fun S1 m1 ch => by
        rw [ch, bX_some, if_pos (by decide), w32_id (by omega), if_pos (by omega), m_faultCount m1 w hk, bX_some, w32_id (by omega), if_neg (by omega), bX_some]
      by_cases q2 : 0 ≤ p2 ∧ p2 < ((2 ^ kB C : Nat) : Int)
      · obtain ⟨p, rfl⟩ : ∃ n : Nat, p2 = (n : Int) := ⟨p2.toNat, by omega⟩
        have hp : p < 4096 := by omega
        refine L_bscr (m1 := fun S1 => mX23_shows S1 _ _ _) (b2i (kShow C f p)) h hc ?_ (fun S1 eS => ?_)
        · unfold mX1_shows
          rw [fin, bT_inl, gkc_chip hk, k_isPat_t r w q2, bT_inl]
          refine WP_call (k_shows hk r w hp hf) (fun z hz => ?_)
          rw [hz.1, gz_b2i]
          exact WP_some.2 ⟨rfl, hz.2⟩
        · have m1 := eS.M m
          have ch := eS.chip h h1 hq
          have e0 := m1.1.1
          rw [w.i] at e0
          have e1 := m1.1.2.1
          rw [w.r] at e1
          have es : (kI C : Int) + (kR C : Int) = ((kB C : Nat) : Int) := by omega
          have s6 : aShr (p : Int) 6 = ((p / 64 : Nat) : Int) := by rw [aShr_6, w32_id (by omega)]; omega
          have s63 : aAnd (p : Int) 63 = ((p % 64 : Nat) : Int) := by rw [aAnd_63]; omega
          unfold mX23_shows
          rw [ch, bX_some, if_pos (by decide), w32_id (show (-2147483648 : Int) ≤ (f : Int) ∧ (f : Int) < 2147483648 by omega), if_pos (by omega), m_faultCount m1 w hk, bX_some, w32_id (by omega), if_neg (by omega), bX_some, if_neg (by decide), rdI_e (by omega), Int.toNat_natCast, e0, rdI_e (by omega), Int.toNat_natCast, e1, es, m_isBelow (n := kB C) rfl (by omega) h2, bX_some]
          rw [show (if ¬ (p : Int) < 0 then (if (p : Int) < ((2 ^ kB C : Nat) : Int) then (1 : Int) else 0) else 0) = 1 by rw [if_pos (by omega), if_pos q2.2], if_neg (by decide), bX_some, wf_eq]
          rw [gI_set, if_neg (by decide), s6]
          have s0 : Sc S1 (sI S1 2000 0 0) := Sc.refl.sI rfl
          have m2 := s0.M m1
          refine WP_callF (m_layRight m2 w hk (by omega)) fr_mX23_layRight (fun x hx7 hg => ?_)
          have m3 : RefK x k C := (KeM.fr hg rfl).K m2
          refine WP_callF (m_shownWord m3 w hk (by omega) hf hx7) fr_mX23_shownWord (fun y hy hg2 => ?_)
          have t := hy (p % 64) (by omega)
          have msk : (decide (6 ≤ kB C) || decide (p % 64 < 2 ^ kB C)) = true := by
            have : p % 64 ≤ p := Nat.mod_le _ _
            rw [decide_eq_true (show p % 64 < 2 ^ kB C by omega), Bool.or_true]
          rw [show 64 * (p / 64) + p % 64 = p by omega, msk, Bool.and_true] at t
          have q := ush_is1 (x := y.1) (k := p % 64) (by omega)
          rw [t] at q
          have sc : Sc S1 y.2 := (s0.tr (Sc.fr hg rfl rfl)).tr (Sc.fr hg2 rfl rfl)
          have z0 : gI y.2 2000 0 = 0 := (hg2.ei rfl).trans ((hg.ei rfl).trans gI_set)
          rw [s63]
          refine WP_some.2 ⟨?_, z0, sc⟩
          dsimp only
          cases e : kShow C f p with
          | true => rw [e] at q; rw [if_pos (by rw [q])]; rfl
          | false => rw [e] at q; rw [if_neg (by rw [q]; decide)]; rfl
      · refine L_boolF (m1 := fun S1 => mX23_shows S1 _ _ _) 2 2 h hc ?_ rfl (by omega) (fun S1 eS => ?_)
        · unfold mX1_shows
          rw [fin, bT_inl, gkc_chip hk, k_isPat_f r w rx h2 q2]; rfl
        · have m1 : RefK S1 k C := m.cg (fun a i _ _ => eS a i)
          have ch := m_isChip_t h eS h1 hq
          have e0 := m1.1.1
          rw [w.i] at e0
          have e1 := m1.1.2.1
          rw [w.r] at e1
          have es : (kI C : Int) + (kR C : Int) = ((kB C : Nat) : Int) := by omega
          unfold mX23_shows
          rw [ch, bX_some, if_pos (by decide), w32_id (show (-2147483648 : Int) ≤ (f : Int) ∧ (f : Int) < 2147483648 by omega), if_pos (by omega), m_faultCount m1 w hk, bX_some, w32_id (by omega), if_neg (by omega), bX_some, if_neg (by decide), rdI_e (by omega), Int.toNat_natCast, e0, rdI_e (by omega), Int.toNat_natCast, e1, es, m_isBelow (n := kB C) rfl (by omega) h2, bX_some]
          have z : (if ¬ p2 < 0 then (if p2 < ((2 ^ kB C : Nat) : Int) then (1 : Int) else 0) else 0) = 0 := by
            by_cases n0 : p2 < 0
            · exact if_neg (fun g => g n0)
            · rw [if_pos n0]; exact if_neg (fun g => q2 ⟨by omega, g⟩)
          rw [z, if_pos (by decide), bX_some, wf_eq]
          rw [gI_set, if_pos (by decide)]
    · refine L_boolF (m1 := fun S1 => mX23_shows S1 _ _ _) 1 1 h hc ?_ rfl (by omega) (fun S1 eS => ?_)
      · unfold mX1_shows mX1_faultIn
        rw [hx, bT_inl, gkc_chip hk, w32_id h3]
        by_cases q2 : 0 ≤ p3
        · rw [if_pos q2, k_faults r w, bX_some, w32_id (by omega), if_neg (by omega), bX_some, if_neg (by decide), bX_some, inside_0 rx]; rfl
        · rw [if_neg q2, bX_some, if_neg (by decide), bX_some, inside_0 rx]; rfl
      · have m1 : RefK S1 k C := m.cg (fun a i _ _ => eS a i)
        have ch := m_isChip_t h eS h1 hq
        unfold mX23_shows
        rw [ch, bX_some, if_pos (by decide), w32_id h3]
        by_cases q2 : 0 ≤ p3
        · rw [if_pos q2, m_faultCount m1 w hk, bX_some, w32_id (by omega), if_pos (by omega), bX_some, if_pos rfl, bX_some, wf_eq]
          rw [gI_set, if_pos (by decide)]
        · rw [if_neg q2, bX_some, if_pos rfl, bX_some, wf_eq]
          rw [gI_set, if_pos (by decide)]
  · refine L_boolF (m1 := fun S1 => mX23_shows S1 _ _ _) 1 1 h hc ?_ rfl (by omega) (fun S1 eS => ?_)
    · unfold mX1_shows mX1_faultIn; rw [chipIn_f hq rx h1]; rfl
    · unfold mX23_shows; rw [m_isChip_f h eS h1 hq]; rfl
end SHOWS
