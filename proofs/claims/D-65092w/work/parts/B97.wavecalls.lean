/-! waves: the calls -/
section WVC
variable {c : Nat} {S : Sto} {k : Nat} {C : Chp} {a b : Nat}
theorem m_isWild (r : RefK S k C) (rP : RefP S k C) (w : WFC C) (wp : WFP C) (hk : k < 4) (ha : a < 4096) (hb : b < 4096) :
    WP (mX23_isWild S (k : Int) (a : Int) (b : Int)) (fun z => MWc z.2 k C a ∧ ((z.1 = 0 ∧ kWo C a b (kN C) ≤ 20000 ∧ MWs z.2 C a b (kN C) (kFl C a b (kN C))) ∨ (z.1 = 1 ∧ 20000 < kWo C a b (kN C)))) := by
  have hn := w.nums
  have e6 : aShr (a : Int) 6 = ((a / 64 : Nat) : Int) := by rw [aShr_6, w32_id (by omega)]; omega
  have e63 : aAnd (a : Int) 63 = ((a % 64 : Nat) : Int) := by rw [aAnd_63]; omega
  unfold mX23_isWild
  rw [e6]
  refine WP_callF (m_workNets (b := false) r w hk (by omega) (by omega) (by omega) (fun i hi => tb_0)) fr_mX23_workNets (fun x hx hf => ?_)
  have kx : KeM S x := KeM.fr hf rfl
  have key : WP (lpF (mX23_isWild_L15 (k : Int) (a : Int)) (0, x)) (fun z => Ch 2167 2167 x z ∧ ∀ m, m < kN C → gI z 2167 m = b2i (kVal C a m)) := by
    refine WP_cnt (kN C) (fun n z => z.1 = (n : Int) ∧ Ch 2167 2167 x z.2 ∧ ∀ m, m < n → gI z.2 2167 m = b2i (kVal C a m)) (by unfold cFU; omega) ⟨rfl, Ch.refl, fun m h => absurd h (Nat.not_lt_zero _)⟩ (fun n z hn' hI => ?_) (fun z hI => ?_)
    · obtain ⟨b1, b2, b3⟩ := hI
      have rz : RefK z.2 k C := (kx.K r).ch b2 (by omega)
      have hv := hx n hn' (a % 64) (by omega)
      rw [show 64 * (a / 64) + a % 64 = a by omega] at hv
      have gv := b2.2.1 2121 n (by omega)
      unfold mX23_isWild_L15
      rw [m_netCount rz w hk, bX_some, b1, w32_id (by omega), w32_id (by omega), if_pos (by omega), rdL_e (by omega), Int.toNat_natCast, gv, e63, wrI_e (by omega), Int.toNat_natCast]
      have e : (if w32 (lCmp (lUsh (gL x 2121 n) ((a % 64 : Nat) : Int) &&& 1) 1) = 0 then (1 : Int) else 0) = b2i (kVal C a n) := by
        have q := ush_is1 (x := gL x 2121 n) (k := a % 64) (by omega)
        rw [hv] at q
        by_cases g : kValF C a (-1) (-1) false n = true
        · have g1 : w32 (lCmp (lUsh (gL x 2121 n) ((a % 64 : Nat) : Int) &&& 1) 1) = 0 := by rw [q]; exact g
          rw [if_pos g1, show kVal C a n = true from g]; rfl
        · have g1 : ¬ w32 (lCmp (lUsh (gL x 2121 n) ((a % 64 : Nat) : Int) &&& 1) 1) = 0 := by rw [q]; exact g
          rw [if_neg g1, show kVal C a n = false from Bool.eq_false_iff.2 g]; rfl
      rw [e]
      refine WP_some.2 ⟨by show (n : Int) + 1 = _; omega, b2.sI (by omega), fun m hm => ?_⟩
      dsimp only
      by_cases q : m = n
      · rw [q, gI_set, w32_b2i]
      · rw [hI_sI_i q]; exact b3 m (by omega)
    · obtain ⟨b1, b2, b3⟩ := hI
      have rz : RefK z.2 k C := (kx.K r).ch b2 (by omega)
      unfold mX23_isWild_L15
      rw [m_netCount rz w hk, bX_some, b1, if_neg (by omega)]
      exact WP_some.2 ⟨b2, b3⟩
  refine WP_call key (fun y hy => ?_)
  obtain ⟨y1, y2⟩ := hy
  have ky : KeM S y := kx.tr (fun a i q => y1.1 a i (by omega))
  refine WP_callF (m_findTimes (ky.K r) (ky.P rP) w wp hk) fr_mX23_findTimes (fun u hu hg => ?_)
  obtain ⟨u1, u2, u3, u4⟩ := hu
  have ku := ky.tr u4
  have ru := ku.K r
  have e0 := ru.1.1
  rw [w.i] at e0
  have e1 := ru.1.2.1
  rw [w.r] at e1
  have cu : MWc (sI u 2000 214 0) k C a := by
    refine ⟨ru.sI (by omega), fun m hm => ?_, fun m hm => ?_⟩
    · rw [hI_sI_a (by omega), hg.ei rfl]; exact y2 m hm
    · rw [hI_sI_a (by omega)]; exact u1 m hm
  rw [rdI_e (by omega), Int.toNat_natCast, e0, rdI_e (by omega), Int.toNat_natCast, e1, wf_eq]
  refine WP_call (m_iw90 cu w wp hk hb (by rw [gI_set]; rfl)) (fun z hz => ?_)
  obtain ⟨z1, z2⟩ := hz
  refine WP_some.2 ⟨z1, ?_⟩
  rcases z2 with ⟨z2, z3⟩ | ⟨z2, z3⟩
  · have l := z3.2.1
    have fl := kFl_len (C := C) (a := a) (b := b) (n := kN C)
    refine .inl ⟨?_, z2, z3⟩
    show (if 20000 < w32 (gI z 2000 214) then (1 : Int) else 0) = 0
    rw [l, w32_id (by omega), if_neg (by omega)]
  · refine .inr ⟨?_, z2⟩
    show (if 20000 < w32 (gI z 2000 214) then (1 : Int) else 0) = 1
    rw [z3]; rfl
theorem k_isPat_t {L : Nat} (r : RepK S L C) (w : WFC C) {p : Int} (hp : 0 ≤ p ∧ p < ((2 ^ kB C : Nat) : Int)) : mX1_isPattern S L p = some (.inl ()) := by
  have hn := w.nums
  have p12 : 2 ^ kB C ≤ 4096 := Nat.pow_le_pow_right (n := 2) (by omega) hn.2.1
  unfold mX1_isPattern
  rw [w32_id (by omega), if_pos hp.1, k_bits r w, bX_some, aShl1 (by omega), w32_id (by omega), if_pos hp.2, bX_some, if_pos rfl, bX_some, need_1, bT_inl]
theorem k_isPat_f {L : Nat} (r : RepK S L C) (w : WFC C) (rx : RoomX S) {p : Int} (h : i32 p) (hp : ¬ (0 ≤ p ∧ p < ((2 ^ kB C : Nat) : Int))) : mX1_isPattern S L p = some (.inr (2, thrS S)) := by
  have hn := w.nums
  have p12 : 2 ^ kB C ≤ 4096 := Nat.pow_le_pow_right (n := 2) (by omega) hn.2.1
  unfold i32 at h
  unfold mX1_isPattern
  rw [w32_id h, k_bits r w, bX_some, aShl1 (by omega)]
  generalize 2 ^ kB C = P at *
  rw [w32_id (by omega)]
  by_cases q : 0 ≤ p
  · rw [if_pos q, if_neg (by omega), bX_some, if_neg (by decide), bX_some, need_0 rx]; rfl
  · rw [if_neg q, bX_some, if_neg (by decide), bX_some, need_0 rx]; rfl
theorem m_arePat (m : RefK S k C) (w : WFC C) (hk : k < 4) {p q : Int} (hp : i32 p) (hq : i32 q) : mX23_arePatterns S (k : Int) p q = some (if (0 ≤ p ∧ p < ((2 ^ kB C : Nat) : Int)) ∧ (0 ≤ q ∧ q < ((2 ^ kB C : Nat) : Int)) then 1 else 0) := by
  have hn := w.nums
  have e0 := m.1.1
  rw [w.i] at e0
  have e1 := m.1.2.1
  rw [w.r] at e1
  have es : (kI C : Int) + (kR C : Int) = ((kB C : Nat) : Int) := by omega
  unfold mX23_arePatterns
  rw [rdI_e (by omega), rdI_e (by omega), rdI_e (by omega), rdI_e (by omega), Int.toNat_natCast, e0, e1, es, m_isBelow (n := kB C) rfl (by omega) hp, m_isBelow (n := kB C) rfl (by omega) hq, bX_some, bX_some]
  generalize 2 ^ kB C = P
  by_cases p0 : p < 0
  · rw [show (if ¬ p < 0 then (if p < (P : Int) then (1 : Int) else 0) else 0) = 0 from if_neg (fun g => g p0), if_neg (by decide), bX_some, if_neg (by decide), bX_some, if_neg (by omega)]; rfl
  · rw [show (if ¬ p < 0 then (if p < (P : Int) then (1 : Int) else 0) else 0) = (if p < (P : Int) then (1 : Int) else 0) from if_pos p0]
    by_cases p1 : p < (P : Int)
    · rw [if_pos p1, if_pos (by decide)]
      by_cases q0 : q < 0
      · rw [show (if ¬ q < 0 then (if q < (P : Int) then (1 : Int) else 0) else 0) = 0 from if_neg (fun g => g q0), if_neg (by decide), bX_some, if_neg (by decide), bX_some, if_neg (by omega)]; rfl
      · rw [show (if ¬ q < 0 then (if q < (P : Int) then (1 : Int) else 0) else 0) = (if q < (P : Int) then (1 : Int) else 0) from if_pos q0]
        by_cases q1 : q < (P : Int)
        · rw [if_pos q1, if_pos (by decide), bX_some, if_pos rfl, bX_some, if_pos (by omega)]; rfl
        · rw [if_neg q1, if_neg (by decide), bX_some, if_neg (by decide), bX_some, if_neg (by omega)]; rfl
    · rw [if_neg p1, if_neg (by decide), bX_some, if_neg (by decide), bX_some, if_neg (by omega)]; rfl
theorem m_valueAt (w : WFC C) (wp : WFP C) {n : Nat} (hn : n < kN C) {t : Int} (ht : -2147483648 ≤ t ∧ t < 2147483648) (h20 : kWo C a b (kN C) ≤ 20000) (h : MWs S C a b (kN C) (kFl C a b (kN C))) : lpF (mX23_wave_L86 S (n : Int) t) (b2i (kVal C a n), (kWo C a b n : Int)) = some (b2i (kWval C a b n t)) := by
  have hnn := w.nums
  have mo := kWo_mono (C := C) (a := a) (b := b) (n := n + 1) (m := kN C) (by omega)
  have eO : kWo C a b (n + 1) = kWo C a b n + (kWv C a b n).length := rfl
  have f := h.1 n hn
  have zt : ((n : Int) + 1).toNat = n + 1 := by omega
  refine WP.of ?_
  refine WP_cnt (kWv C a b n).length (fun i z => z.2 = ((kWo C a b n + i : Nat) : Int) ∧ z.1 = b2i (kVal C a n ^^ decide (cLe (kWv C a b n) t i % 2 = 1))) (by unfold cFU; omega) ⟨rfl, by show b2i _ = _; cases kVal C a n <;> rfl⟩ (fun i z hi hI => ?_) (fun z hI => ?_)
  · obtain ⟨z0, z1⟩ := z
    obtain ⟨b1, b3⟩ := hI
    dsimp only at b1 b3
    subst b1
    obtain ⟨s, hs⟩ : ∃ s, (kWv C a b n)[i]? = some s := ⟨_, List.getElem?_eq_getElem hi⟩
    have e : gI S 2168 (kWo C a b n + i) = s := h.2.2 _ _ ((kFl_at hn hi).trans hs)
    have rr := (kWv_rise' (a := a) (b := b) w wp hn).1 i s hs
    have cs := cLe_step (t := t) hs
    unfold mX23_wave_L86
    dsimp only
    rw [rdI_e (by omega), zt, f.2, w32_id (by omega), w32_id (by omega), if_pos (by omega), rdI_e (by omega), Int.toNat_natCast, e, w32_id (by omega), w32_id (by omega)]
    by_cases q : s ≤ t
    · rw [if_pos q] at cs
      rw [if_pos q, ite_someI, bX_some]
      refine WP_some.2 ⟨by show ((kWo C a b n + i : Nat) : Int) + 1 = _; omega, ?_⟩
      show (if w32 z0 = 0 then (1 : Int) else 0) = _
      have par : decide ((cLe (kWv C a b n) t i + 1) % 2 = 1) = !decide (cLe (kWv C a b n) t i % 2 = 1) := by
        by_cases o : cLe (kWv C a b n) t i % 2 = 1
        · rw [decide_eq_true o, decide_eq_false (by omega)]; rfl
        · rw [decide_eq_false o, decide_eq_true (by omega)]; rfl
      rw [b3, cs, par, w32_b2i]
      cases kVal C a n <;> cases decide (cLe (kWv C a b n) t i % 2 = 1) <;> rfl
    · rw [if_neg q] at cs
      rw [if_neg q, bX_some]
      refine WP_some.2 ⟨by show ((kWo C a b n + i : Nat) : Int) + 1 = _; omega, ?_⟩
      show z0 = _
      rw [b3, cs, Nat.add_zero]
  · obtain ⟨b1, b3⟩ := hI
    unfold mX23_wave_L86
    rw [rdI_e (by omega), zt, f.2, b1, w32_id (by omega), w32_id (by omega), if_neg (by omega)]
    refine WP_some.2 ?_
    rw [b3]; rfl
theorem L44 {p1 p2 p3 p4 p5 : Int} (h : Inv c S) (hc : c < 64) (h1 : i32 p1) (h2 : i32 p2) (h3 : i32 p3) (h4 : i32 p4) (h5 : i32 p5) : WP (mL_44 S p1 p2 p3 p4 p5) (Inv (c + 1)) := by
  have rx := h.1.x hc
  unfold mL_44 mX0_wave
  by_cases hq : isCh S p1
  · have hx := chipIn_t hq; obtain ⟨k, C, hk, rfl, w, r, m, wx, rX, mX⟩ := InvC.get h hq; rw [Int.toNat_natCast] at hx; have hn := w.nums; have eg := r.1.2.2.2.1; have em := m.1.2.2.2.1; rw [w.g] at eg em; have ei := r.1.1; have mi := m.1.1; rw [w.i] at ei mi; have er := r.1.2.1; have mr := m.1.2.1; rw [w.r] at er mr; have eo := r.1.2.2.1; have mo := m.1.2.2.1; rw [w.o] at eo mo; have el := r.1.2.2.2.2.1; have ml := m.1.2.2.2.2.1; rw [w.l] at el ml
    have h4' := h4
    have h5' := h5
    unfold i32 at h4 h5
    have kn := k_nets r w
    have p12 : 2 ^ kB C ≤ 4096 := Nat.pow_le_pow_right (n := 2) (by omega) hn.2.1
    by_cases q1 : 0 ≤ p4 ∧ p4 < (kN C : Int)
    · obtain ⟨n, rfl⟩ : ∃ n : Nat, p4 = (n : Int) := ⟨p4.toNat, by omega⟩
      have hnn : n < kN C := by omega
      by_cases q2 : (0 ≤ p2 ∧ p2 < ((2 ^ kB C : Nat) : Int)) ∧ (0 ≤ p3 ∧ p3 < ((2 ^ kB C : Nat) : Int)) ∧ (-1 ≤ p5 ∧ p5 ≤ 100000)
      · obtain ⟨qa, qb, qt⟩ := q2
        obtain ⟨a, rfl⟩ : ∃ n : Nat, p2 = (n : Int) := ⟨p2.toNat, by omega⟩
        obtain ⟨b, rfl⟩ : ∃ n : Nat, p3 = (n : Int) := ⟨p3.toNat, by omega⟩
        obtain ⟨x, gx, x1, x2⟩ := k_wtake (a := a) (b := b) hk rfl r w wx.1 rX.1 (by omega) (by omega)
        have pa := k_isPat_t r w qa
        have pb := k_isPat_t r w qb
        have head : mX1_wave S (k : Int) (a : Int) (b : Int) (n : Int) p5 = bT (mX1_room x.2 x.1) fun x10 => bX (mX18_valueAt x.2 (n : Int) p5) fun x11 => some (Sum.inl (x11, x.2)) := by
          unfold mX1_wave
          rw [hx, bT_inl, gkc_chip hk, w32_id (by omega), if_pos q1.1, kn, bX_some, w32_id (by omega), if_pos q1.2, bX_some, if_pos rfl, bX_some, inside_1, bT_inl, pa, bT_inl, pb, bT_inl, w32_id h5, if_pos qt.1, if_pos qt.2, bX_some, if_pos rfl, bX_some, need_1, bT_inl, gx, bX_some]
        have mref : ∀ S1, RefK S1 k C → RefP S1 k C → mX23_isChip S1 (k : Int) = some 1 → ∃ z, mX23_isWild S1 (k : Int) (a : Int) (b : Int) = some z ∧ (MWc z.2 k C a ∧ ((z.1 = 0 ∧ kWo C a b (kN C) ≤ 20000 ∧ MWs z.2 C a b (kN C) (kFl C a b (kN C))) ∨ (z.1 = 1 ∧ 20000 < kWo C a b (kN C)))) ∧ Fr W_mX23_isWild [] false S1 z.2 ∧ mX23_wave S1 (k : Int) (a : Int) (b : Int) (n : Int) p5 = bX (if ¬ w32 z.1 = 0 then some (3, z.2) else some (0, z.2)) fun y5 => wf y5.2 2000 0 y5.1 fun S6 => if 0 < w32 (gI S6 2000 0) then some (0, S6) else rdZ 256 S6 2167 (n : Int) fun v7 => rdI 257 S6 2169 (n : Int) fun v8 => bX (lpF (mX23_wave_L86 S6 (n : Int) p5) (v7, v8)) fun y13 => some ((if ¬ w32 y13 = 0 then 1 else 0), S6) := fun S1 m1 mp1 ch => by
          obtain ⟨z, gz, hz⟩ := m_isWild (a := a) (b := b) m1 mp1 w wx.1 hk (by omega) (by omega)
          refine ⟨z, gz, hz, fr_mX23_isWild z gz, ?_⟩
          rw [mX23_wave, m_isNet_t ch m1 w hk hnn, bX_some, if_neg (by decide), m_arePat m1 w hk h2 h3, if_pos ⟨qa, qb⟩, bX_some, if_pos (by decide), m_within_t h5 (by omega) (by omega) qt, bX_some, if_neg (by decide), bX_some, if_neg (by decide), gz, bX_some]
        rcases x2 with ⟨x2, x3⟩ | ⟨x2, x3⟩
        · have l20 := x3.2.2.2.2.1
          rw [kFl_len] at l20
          have va := k_valueAt (a := a) (b := b) w wx.1 hnn h5 x3
          refine L_scr (m1 := fun S1 => mX23_wave S1 _ _ _ _ _) (b2i (kWval C a b n p5)) h hc ?_ (fun S1 eS => ?_)
          · rw [head, x2, roomX_1, bT_inl, va, bX_some]
            exact WP_some.2 ⟨rfl, x1⟩
          · obtain ⟨z, gz, ⟨z0, z1⟩, hf, ew⟩ := mref S1 (eS.M m) (eS.Y w wx mX).1 (eS.chip h h1 hq)
            have z1 := z1.resolve_right (fun g => by omega)
            have e7 := z0.2.1 n hnn
            have e9 := (z1.2.2.1 n hnn).1
            have W6 : MWs (sI z.2 2000 0 0) C a b (kN C) (kFl C a b (kN C)) := z1.2.2.ch (fun a i q => by rw [hI_sI, if_neg (by omega)])
            have mo := kWo_mono (C := C) (a := a) (b := b) (n := n) (m := kN C) (by omega)
            rw [ew, z1.1, if_neg (by decide), bX_some, wf_eq]; dsimp only; rw [gI_set, if_neg (by decide), rdZ_e (by omega), Int.toNat_natCast, hI_sI_a (by omega), e7, bz_b2i, rdI_e (by omega), Int.toNat_natCast, hI_sI_a (by omega), e9, m_valueAt w wx.1 hnn h5 z1.2.1 W6, bX_some, w32_b2i]
            refine WP_some.2 ⟨by cases kWval C a b n p5 <;> rfl, gI_set, (Sc.fr hf rfl rfl).sI rfl⟩
        · refine L_scrF (m1 := fun S1 => mX23_wave S1 _ _ _ _ _) 3 4 h hc ?_ rfl (by omega) (fun S1 eS => ?_)
          · have rx' : RoomX x.2 := by unfold RoomX at rx ⊢; rw [x1.2.2.1, x1.2.2.2]; exact rx
            rw [head, x2, roomX_0 rx', bT_inr]
            exact WP_some.2 ⟨rfl, x.2, rfl, x1⟩
          · have m1 : RefK S1 k C := m.cg (fun a i l1 l2 => eS a i (kept_rng (by omega)))
            have mp1 : RefP S1 k C := mX.1.cg (fun a i l1 l2 => eS a i (kept_rng (by omega)))
            have ch : mX23_isChip S1 (k : Int) = some 1 := m_isChip_w h (fun i => eS _ _ (kept_rng (by omega))) (fun i => eS _ _ (kept_rng (by omega))) h1 hq
            obtain ⟨z, gz, ⟨z0, z1⟩, hf, ew⟩ := mref S1 m1 mp1 ch
            have z1 := z1.resolve_left (fun g => by omega)
            rw [ew, z1.1, if_pos (by decide), bX_some, wf_eq]; dsimp only; rw [gI_set, if_pos (by decide)]
            exact WP_some.2 ⟨gI_set, (Sc.fr hf rfl rfl).sI rfl⟩
      · refine L_modF (m1 := fun S1 => mX23_wave S1 _ _ _ _ _) 2 2 h hc ?_ rfl (by omega) (fun S1 eS => ?_)
        · unfold mX1_wave
          rw [hx, bT_inl, gkc_chip hk, w32_id (by omega), if_pos q1.1, kn, bX_some, w32_id (by omega), if_pos q1.2, bX_some, if_pos rfl, bX_some, inside_1, bT_inl]
          by_cases qa : 0 ≤ p2 ∧ p2 < ((2 ^ kB C : Nat) : Int)
          · rw [k_isPat_t r w qa, bT_inl]
            by_cases qb : 0 ≤ p3 ∧ p3 < ((2 ^ kB C : Nat) : Int)
            · rw [k_isPat_t r w qb, bT_inl, w32_id h5]
              by_cases t1 : -1 ≤ p5
              · rw [if_pos t1, if_neg (fun g => q2 ⟨qa, qb, t1, g⟩), bX_some, if_neg (by decide), bX_some, need_0 rx]; rfl
              · rw [if_neg t1, bX_some, if_neg (by decide), bX_some, need_0 rx]; rfl
            · rw [k_isPat_f r w rx h3 qb]; rfl
          · rw [k_isPat_f r w rx h2 qa]; rfl
        · have m1 : RefK S1 k C := m.cg (fun a i _ _ => eS a i)
          rw [mX23_wave, m_isNet_t (m_isChip_t h eS h1 hq) m1 w hk hnn, bX_some, if_neg (by decide), m_arePat m1 w hk h2 h3]
          by_cases qp : (0 ≤ p2 ∧ p2 < ((2 ^ kB C : Nat) : Int)) ∧ (0 ≤ p3 ∧ p3 < ((2 ^ kB C : Nat) : Int))
          · rw [if_pos qp, bX_some, if_pos (by decide), m_within_f h5 (by omega) (by omega) (fun g => q2 ⟨qp.1, qp.2, g⟩), bX_some, if_pos (by decide), bX_some, if_pos rfl, bX_some, wf_eq]; dsimp only; rw [gI_set, if_pos (by decide)]
          · rw [if_neg qp, bX_some, if_neg (by decide), bX_some, if_pos rfl, bX_some, wf_eq]; dsimp only; rw [gI_set, if_pos (by decide)]
    · refine L_modF (m1 := fun S1 => mX23_wave S1 _ _ _ _ _) 1 1 h hc ?_ rfl (by omega) (fun S1 eS => ?_)
      · by_cases q2 : 0 ≤ p4
        · have q3 : ¬ p4 < (kN C : Int) := by omega
          have q2' : ¬ p4 < 0 := by omega
          simp (disch := omega) only [mX1_wave, hx, gI_thr, gz_0, gz_1, true_or, or_true, or_false, false_or, rdI_e, rdZ_e, rdL_e, wrI_e, wrL_e, bX_some, bE_inl, bE_inr, bT_inl, bT_inr, wf_eq, wfL_eq, wfR_eq, gkc_chip, gkc_dsg, gkc_lib, gk_chip, gk_dsg, gk_lib, gth_e rx, inside_0 rx, inside_1, need_0 rx, need_1, now_0 rx, now_1, roomX_0 rx, roomX_1, w32_id, w32_gI, ← Int.not_lt, not_true_eq_false, not_false_eq_true, if_true, if_false, reduceIte, Bool.false_eq_true, Int.toNat_natCast, Int.reduceToNat, Int.toNat_add, Int.toNat_mul, Int.reduceLT, Int.reduceEq, Int.reduceNeg, Nat.reduceAdd, hI_sI, and_self, Nat.reduceEqDiff, true_and, and_true, and_false, false_and, ne_eq, q2', q3, kn]
        · have q2' : p4 < 0 := by omega
          simp (disch := omega) only [mX1_wave, hx, gI_thr, gz_0, gz_1, true_or, or_true, or_false, false_or, rdI_e, rdZ_e, rdL_e, wrI_e, wrL_e, bX_some, bE_inl, bE_inr, bT_inl, bT_inr, wf_eq, wfL_eq, wfR_eq, gkc_chip, gkc_dsg, gkc_lib, gk_chip, gk_dsg, gk_lib, gth_e rx, inside_0 rx, inside_1, need_0 rx, need_1, now_0 rx, now_1, roomX_0 rx, roomX_1, w32_id, w32_gI, ← Int.not_lt, not_true_eq_false, not_false_eq_true, if_true, if_false, reduceIte, Bool.false_eq_true, Int.toNat_natCast, Int.reduceToNat, Int.toNat_add, Int.toNat_mul, Int.reduceLT, Int.reduceEq, Int.reduceNeg, Nat.reduceAdd, hI_sI, and_self, Nat.reduceEqDiff, true_and, and_true, and_false, false_and, ne_eq, q2']
      · rw [mX23_wave, m_isNet_f (m_isChip_t h eS h1 hq) (m.cg (fun a i _ _ => eS a i)) w hk h4' q1, bX_some, if_pos (by decide), bX_some, wf_eq]; dsimp only; rw [gI_set, if_pos (by decide)]
  · refine L_modF (m1 := fun S1 => mX23_wave S1 _ _ _ _ _) 1 1 h hc ?_ rfl (by omega) (fun S1 eS => ?_)
    · rw [mX1_wave, chipIn_f hq rx h1]; rfl
    · unfold mX23_wave; rw [m_isNet_no (m_isChip_f h eS h1 hq)]; rfl
end WVC
