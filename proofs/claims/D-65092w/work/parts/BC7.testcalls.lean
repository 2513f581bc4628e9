/-! sets of tests: the call -/
section TESTCALLS
variable {c : Nat} {S : Sto} {k : Nat} {C : Chp}
theorem rngS.tr {C : Chp} : ∀ (d : Nat) (s : (Nat → Int) × Nat), rngS C s → d ≤ s.2 → rngS C (trS C d s) := by
  intro d
  induction d with
  | zero => exact fun s h _ => h
  | succ d ih =>
    intro s h hd
    show rngS C (trS C d (if okGo C s.1 d s.2 (kFa C) = true then (cutS s.1 d, s.2 - 1) else s))
    by_cases e : okGo C s.1 d s.2 (kFa C) = true
    · rw [if_pos e]
      exact ih _ (h.cut (by omega)) (by show d ≤ s.2 - 1; omega)
    · rw [if_neg e]; exact ih _ h (by omega)
theorem tstS_ok (w : WFC C) : (tstS C).2 ≤ 1224 ∧ rngS C (tstS C) := by
  have fa := kFa_le w
  have h1 := tsS_le (C := C) (kFa C)
  have h2 := trS_le (C := C) (tsS C (kFa C)).2 (tsS C (kFa C))
  exact ⟨by unfold tstS; omega, rngS.tr _ _ (tsS_rng _) (Nat.le_refl _)⟩
/-- the reference's sets: what a frame and the rest give -/
theorem MhQ.fr {z : Sto} (hg : Fr W_mX23_tests [] false S z) (ho : OutM k S z) (h7 : ∀ i, i < 1280 * k ∨ 1280 * (k + 1) ≤ i → gI z 2177 i = gI S 2177 i) : MhQ k S z := by
  have ok : ∀ a i, a ≠ 2121 → a ≠ 2176 → a ≠ 2177 → a ≠ 2172 → a ≠ 2173 → a ≠ 2174 → a ≠ 2175 → ¬ (a = 2000 ∧ (i = 0 ∨ i = 221 ∨ i = 222)) → okP W_mX23_tests a i := fun a i h1 h2 h3 g2 g3 g4 g5 h4 =>
    okP_cons (fun e => ⟨fun g => (nomatch g), fun g => h4 ⟨e.symm, .inl (Option.some.inj g).symm⟩⟩) <| okP_cons (fun e => absurd e.symm g2) <| okP_cons (fun e => absurd e.symm h1) <| okP_cons (fun e => absurd e.symm h2) <| okP_cons (fun e => ⟨fun g => (nomatch g), fun g => h4 ⟨e.symm, .inr (.inl (Option.some.inj g).symm)⟩⟩) <| okP_cons (fun e => ⟨fun g => (nomatch g), fun g => h4 ⟨e.symm, .inr (.inr (Option.some.inj g).symm)⟩⟩) <| okP_cons (fun e => absurd e.symm h3) <| okP_cons (fun e => absurd e.symm g3) <| okP_cons (fun e => absurd e.symm g4) <| okP_cons (fun e => absurd e.symm g5) okP_nil
  have kne : ∀ a i, kept a i = true → a ≠ 2121 ∧ a ≠ 2176 ∧ ¬ (a = 2000 ∧ (i = 0 ∨ i = 221 ∨ i = 222)) := fun a i q => by
    refine ⟨?_, ?_, ?_⟩
    · rintro rfl; exact absurd (kept_lab q) (by decide)
    · rintro rfl; exact absurd (kept_lab q) (by decide)
    · rintro ⟨rfl, rfl | rfl | rfl⟩
      · exact absurd q (by decide)
      · exact absurd q (by decide)
      · exact absurd q (by decide)
  refine ⟨fun a i q g => ?_, fun a i q g => ?_, hg.heap.1, hg.heap.2⟩
  · obtain ⟨n1, n2, n3⟩ := kne a i q
    by_cases l : a = 2177
    · subst l
      refine h7 i ?_
      by_cases l2 : i < 1280 * k ∨ 1280 * (k + 1) ≤ i
      · exact l2
      · exact absurd ⟨.inr rfl, by omega, show 1280 * k ≤ i by omega, show i < 1280 * k + 1280 by omega⟩ g
    by_cases l3 : a = 2172
    · subst l3
      refine ho.1 i (fun e => ?_)
      subst e
      exact g ⟨.inl (by omega), ownC_1 (by omega)⟩
    by_cases l4 : a = 2173
    · subst l4
      refine (ho.2.1 i ?_).1
      by_cases l2 : i < 1280 * k ∨ 1280 * (k + 1) ≤ i
      · exact l2
      · exact absurd ⟨.inl (by omega), by omega, show 1280 * k ≤ i by omega, show i < 1280 * k + 1280 by omega⟩ g
    by_cases l5 : a = 2174
    · subst l5
      refine (ho.2.1 i ?_).2
      by_cases l2 : i < 1280 * k ∨ 1280 * (k + 1) ≤ i
      · exact l2
      · exact absurd ⟨.inl (by omega), by omega, show 1280 * k ≤ i by omega, show i < 1280 * k + 1280 by omega⟩ g
    by_cases l6 : a = 2175
    · subst l6; exact ho.2.2.2 i
    exact hg.gi (ok a i n1 n2 l l3 l4 l5 l6 n3)
  · by_cases l6 : a = 2175
    · subst l6
      refine ho.2.2.1 i ?_
      by_cases l2 : i < 25600 * k ∨ 25600 * (k + 1) ≤ i
      · exact l2
      · exact absurd ⟨by omega, show 25600 * k ≤ i by omega, show i < 25600 * k + 25600 by omega⟩ g
    · exact hg.gl (ok a i (by omega) (by omega) (by omega) (by omega) (by omega) (by omega) l6 (by omega))
theorem m_tests23 (r : RefK S k C) (w : WFC C) (hk : k < 4) (ch : mX23_isChip S (k : Int) = some 1) (mT : MLeast S k C) : WP (mX23_tests S (k : Int)) (fun y => y.1 = ((tstS C).2 : Int) ∧ gI y.2 2000 0 = 0 ∧ OutM k S y.2 ∧ (∀ i, i < 1280 * k ∨ 1280 * (k + 1) ≤ i → gI y.2 2177 i = gI S 2177 i) ∧ RefT y.2 k (teC C ((tstS C).2 : Int) (tstS C).1 (fun _ => 0))) := by
  have fa := kFa_le w
  have le := tsS_le (C := C) (kFa C)
  unfold mX23_tests
  rw [ch, bX_some, if_pos (by decide), wf_eq, gI_set, if_neg (by decide), wrI_e (by omega), Int.toNat_natCast]
  obtain ⟨S3, hS3⟩ : ∃ S3, sI (sI S 2000 0 0) 2172 k 0 = S3 := ⟨_, rfl⟩
  rw [hS3]
  have e3 : ∀ a i, a ≠ 2000 → ¬ (a = 2172 ∧ i = k) → gI S3 a i = gI S a i := fun a i q1 q2 => by rw [← hS3, hI_sI, if_neg q2, hI_sI_a q1]
  have r3 : RefK S3 k C := r.cg (fun a i _ _ => e3 a i (by omega) (by omega))
  have z3 : gI S3 2000 0 = 0 := by rw [← hS3, hI_sI_a (by omega), gI_set]; rfl
  have o3 : OutM k S S3 := ⟨fun i q => e3 _ _ (by omega) (by omega), fun i _ => ⟨e3 _ _ (by omega) (by omega), e3 _ _ (by omega) (by omega)⟩, fun i _ => by rw [← hS3]; rfl, fun i => e3 _ _ (by omega) (by omega)⟩
  have t3 : MTs k C S3 S3 (tsS C 0) := by
    refine ⟨⟨?_, by show 0 ≤ 1224; omega, fun i hi => absurd hi (Nat.not_lt_zero _), fun i f hi => absurd hi (Nat.not_lt_zero _)⟩, fun f hf => ?_, KeM.refl, fun i hi => absurd hi (Nat.not_lt_zero _), OutM.refl, fun _ _ => rfl⟩
    · rw [← hS3, gI_set]; rfl
    · rw [e3 _ _ (by omega) (by omega)]; exact mT f hf
  refine WP_callF (m_tests35 r3 w hk t3) fr_mX23_tests_L35 (fun y hy hg => ?_)
  obtain ⟨c1, c2, c3, c4, c5, c6⟩ := hy
  have s1 : MTs k C y y (tsS C (kFa C)) := ⟨c1, c2, KeM.refl, c4, OutM.refl, fun _ _ => rfl⟩
  have zy : gI y 2000 0 = 0 := (hg.ei rfl).trans z3
  rw [rdI_e (by omega), Int.toNat_natCast, c1.1]
  refine WP_callF (m_tests90 (c3.K r3) w hk s1 (tsS_rng _)) fr_mX23_tests_L90 (fun z hz hg2 => ?_)
  obtain ⟨d1, d2, d3, d4, d5, d6⟩ := hz
  rw [rdI_e (by omega), Int.toNat_natCast, d1.1]
  refine WP_some.2 ⟨rfl, (hg2.ei rfl).trans zy, (o3.tr c5).tr d5, fun i hi => ((d6 i hi).trans (c6 i hi)).trans (e3 _ _ (by omega) (by omega)), RefT_te d1.1 (fun i hi => ?_) (fun i f hi hf => ?_) d2⟩
  · rw [Int.toNat_natCast] at hi; exact ⟨d1.2.2.1 i hi, d4 i hi⟩
  · rw [Int.toNat_natCast] at hi; exact d1.2.2.2 i f hi hf
theorem L48 {p1 : Int} (h : Inv c S) (hc : c < 64) (h1 : i32 p1) : WP (mL_48 S p1) (Inv (c + 1)) := by
  have rx := h.1.x hc
  unfold mL_48 mX0_tests
  by_cases hq : isCh S p1
  · have hx := chipIn_t hq; obtain ⟨k, C, hk, rfl, w, r, m, wx, rX, mX⟩ := InvC.get h hq; rw [Int.toNat_natCast] at hx; have hn := w.nums; have eg := r.1.2.2.2.1; have em := m.1.2.2.2.1; rw [w.g] at eg em; have ei := r.1.1; have mi := m.1.1; rw [w.i] at ei mi; have er := r.1.2.1; have mr := m.1.2.1; rw [w.r] at er mr; have eo := r.1.2.2.1; have mo := m.1.2.2.1; rw [w.o] at eo mo; have el := r.1.2.2.2.2.1; have ml := m.1.2.2.2.2.1; rw [w.l] at el ml
    obtain ⟨t1, t2⟩ := tstS_ok w
    refine L_tst (m1 := fun S1 => mX23_tests S1 _) ((tstS C).2 : Int) ((tstS C).2 : Int) (tstS C).1 (fun _ => 0) h hc hk w r m wx rX mX (WFT_te (by omega) (fun i hi => ?_)) ?_ (fun S1 g => ?_)
    · rw [Int.toNat_natCast] at hi
      have := t2 i hi
      refine ⟨this.1, ?_, .inl rfl⟩
      have e : (2 : Int) ^ kB C = ((2 ^ kB C : Nat) : Int) := ipow _
      rw [e]; exact this.2
    · unfold mX1_tests
      rw [hx, bT_inl, gkc_chip hk]
      refine WP_call (k_tests19 hk r w rX.2.2.2.2) (fun x hx' => WP_some.2 ⟨hx'.1, hx'.2.1, hx'.2.2.1⟩)
    · have t := g.T hk w wx.2.2.2.2 mX.2.2.2.2
      refine WP.mono (WP.pc (m_tests23 (g.M hk m) w hk (g.chip hk h h1 hq) t.2.2.2) fr_mX23_tests) (fun y hy => ?_)
      obtain ⟨⟨y1, y2, y3, y4, y5⟩, y6⟩ := hy
      exact ⟨y1, y2, MhQ.fr y6 y3 y4, y5⟩
  · refine L_modF (m1 := fun S1 => mX23_tests S1 _) 1 1 h hc ?_ rfl (by omega) (fun S1 eS => ?_)
    · unfold mX1_tests; rw [chipIn_f hq rx h1]; rfl
    · unfold mX23_tests; rw [m_isChip_f h eS h1 hq]; rfl
end TESTCALLS
