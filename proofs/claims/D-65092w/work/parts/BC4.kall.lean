/-! the class's faults: all of them; a fault's least pattern (the call) -/
section KALL
variable {c : Nat} {S : Sto} {k : Nat} {C : Chp}
/-- all faults are tried -/
def KAll (S : Sto) (k : Nat) (C : Chp) : Prop := gI S (344 + 22 * k) 30 = 1 ∧ ∀ f, f < kFa C → gI S (344 + 22 * k + 20) f = kLeast C f ∧ ∀ p, p < 2 ^ kB C → tb (gL S (344 + 22 * k + 21) (64 * f + p / 64)) (p % 64) = kShow C f p
theorem okW_all {L a i : Nat} (h : a ≠ 264 ∧ a ≠ 265 ∧ a ≠ 266 ∧ a ≠ 267 ∧ a ≠ L + 21 ∧ a ≠ L + 20 ∧ ¬ (a = L ∧ i = 30)) : okP (W_mX19_all L) a i :=
  okP_cons (fun e => absurd e.symm h.1) <| okP_cons (fun e => absurd e.symm h.1) <| okP_cons (fun e => absurd e.symm h.2.1) <| okP_cons (fun e => absurd e.symm h.2.2.2.1) <| okP_cons (fun e => absurd e.symm h.2.2.2.2.1) <| okP_cons (fun e => absurd e.symm h.2.2.1) <| okP_cons (fun e => absurd e.symm h.2.2.2.2.2.1) <| okP_cons (fun e => ⟨fun g => (nomatch g), fun g => h.2.2.2.2.2.2 ⟨e.symm, (Option.some.inj g).symm⟩⟩) okP_nil
theorem kept_hi {a i : Nat} (g : kept a i = true) : ¬ (219 ≤ a ∧ a ≤ 272) := by
  unfold kept keptO keptN rowL at g
  simp only [Bool.or_eq_true, Bool.and_eq_true, Nat.beq_eq, Nat.ble_eq] at g
  omega
theorem repK_s20 {z : Sto} {i : Nat} {v : Int} (hk : k < 4) (r : RepK z (344 + 22 * k) C) : RepK (sI z (344 + 22 * k + 20) i v) (344 + 22 * k) C :=
  ChQ.K (S := z) ⟨fun a j _ _ g => hI_sI_a (by omega), fun _ _ _ _ => rfl, rfl, rfl⟩ hk r
theorem kWds_p {p : Nat} (hp : p < 2 ^ kB C) : p / 64 < kWds C ∧ kMsk C (p % 64) = true := by
  have := kWds_le (C := C)
  refine ⟨by omega, ?_⟩
  unfold kMsk
  rw [decide_eq_true (show p % 64 < 2 ^ kB C by have := Nat.mod_le p 64; omega), Bool.or_true]
theorem k_all (hk : k < 4) (r : RepK S (344 + 22 * k) C) (w : WFC C) (rT : RepT S (344 + 22 * k) C) :
    WP (mX19_all S (344 + 22 * k)) (fun z => KAll z k C ∧ ChQ k S z ∧ gI z (344 + 22 * k) 25 = gI S (344 + 22 * k) 25 ∧ ∀ i, gI z (344 + 22 * k + 18) i = gI S (344 + 22 * k + 18) i ∧ gI z (344 + 22 * k + 19) i = gI S (344 + 22 * k + 19) i) := by
  have hn := w.nums
  have fa := kFa_le w
  have key : WP (mX19_all S (344 + 22 * k)) (fun z => KAll z k C) := by
    unfold mX19_all
    rw [w32_bz]
    rcases rT.2.2.1 with h0 | h1
    · rw [h0, if_neg (by decide)]
      refine WP_callF (k_fill hk r w) fr_mX19_fill (fun x1 h1 hg => ?_)
      obtain ⟨f1, f2⟩ := h1
      have r1 : RepK x1 (344 + 22 * k) C := r.cg (fun a i _ _ => hg.1.gi (okP_cons (fun e => absurd e.symm (by omega)) <| okP_cons (fun e => absurd e.symm (by omega)) <| okP_cons (fun e => absurd e.symm (by omega)) okP_nil))
      refine WP_call (R := fun y => KFl y k C ∧ ∀ f, f < kFa C → gI y (344 + 22 * k + 20) f = kLeast C f ∧ KRw y k C f) ?_ (fun y hy => ?_)
      · refine WP_cnt (kFa C) (fun f z => z.1 = (f : Int) ∧ RepK z.2 (344 + 22 * k) C ∧ KFl z.2 k C ∧ (∀ n u, n < kN C → u < kWds C → KWd z.2 C n u) ∧ ∀ g, g < f → gI z.2 (344 + 22 * k + 20) g = kLeast C g ∧ KRw z.2 k C g) (by unfold cFU; omega)
          ⟨rfl, r1, f1, f2, fun g hg => absurd hg (Nat.not_lt_zero _)⟩ (fun f z hf hI => ?_) (fun z hI => ?_)
        · obtain ⟨z1, z2⟩ := z
          obtain ⟨b1, b2, b3, b4, b5⟩ := hI
          dsimp only at b1 b2 b3 b4 b5
          subst b1
          have lr := kLeast_rng w (f := f)
          unfold mX19_all_L15
          dsimp only
          rw [b3.1, gk_chip hk, k_faults b2 w, bX_some, w32_id (by omega), w32_id (by omega), if_pos (by omega)]
          refine WP_call (k_work19 hk b2 w b3 b4 hf) (fun x hx => ?_)
          obtain ⟨x1, x2⟩ := hx
          have k5 := x1.T.F hk b3
          rw [k5.1, gk_chip hk, k_leastOf hk w k5 (by omega) x2, bX_some, wrI_e (by omega), Int.toNat_natCast]
          refine WP_some.2 ⟨by show (f : Int) + 1 = _; omega, repK_s20 hk (x1.T.K hk b2), ⟨k5.1, (hI_sI_a (by omega)).trans k5.2.1, k5.2.2⟩, fun n u h1 h2 => x1.T.W hk (b4 n u h1 h2), fun g hg => ?_⟩
          dsimp only
          by_cases q : g = f
          · subst q
            exact ⟨by rw [gI_set, w32_id (by omega)], x2⟩
          · refine ⟨by rw [hI_sI_i q, x1.1 _ _ (by omega)]; exact (b5 g (by omega)).1, fun u i hu hi => ?_⟩
            have kw := kWds_rng w
            rw [gL_sI, x1.2.2.1 _ (by omega)]
            exact (b5 g (by omega)).2 u i hu hi
        · obtain ⟨z1, z2⟩ := z
          obtain ⟨b1, b2, b3, b4, b5⟩ := hI
          dsimp only at b1 b2 b3 b4 b5
          subst b1
          unfold mX19_all_L15
          dsimp only
          rw [b3.1, gk_chip hk, k_faults b2 w, bX_some, w32_id (by omega), if_neg (by omega)]
          exact WP_some.2 ⟨b3, b5⟩
      · obtain ⟨y1, y2⟩ := hy
        rw [y1.1, gk_chip hk, wf_eq]
        refine WP_some.2 ⟨gI_set, fun f hf => ⟨by rw [hI_sI_a (by omega)]; exact (y2 f hf).1, fun p hp => ?_⟩⟩
        obtain ⟨p1, p2⟩ := kWds_p hp
        rw [gL_sI, (y2 f hf).2 (p / 64) (p % 64) p1 (Nat.mod_lt _ (by omega)), p2, Bool.and_true, show 64 * (p / 64) + p % 64 = p by omega]
    · rw [h1, if_pos (by decide)]
      exact WP_some.2 ⟨h1, rT.2.2.2 h1⟩
  refine WP.mono (WP.pc key fr_mX19_all) (fun z hz => ?_)
  obtain ⟨z1, z2⟩ := hz
  have e : ∀ a i, a ≠ 264 ∧ a ≠ 265 ∧ a ≠ 266 ∧ a ≠ 267 ∧ a ≠ 344 + 22 * k + 21 ∧ a ≠ 344 + 22 * k + 20 ∧ ¬ (a = 344 + 22 * k ∧ i = 30) → gI z a i = gI S a i := fun a i q => z2.gi (okW_all q)
  refine ⟨z1, ⟨fun a i q1 q2 q3 => e a i ?_, fun a i q1 q2 => z2.gl (okW_all ?_), z2.heap.1, z2.heap.2⟩, e _ _ (by omega), fun i => ⟨e _ _ (by omega), e _ _ (by omega)⟩⟩
  · have := kept_hi q1; omega
  · omega
/-- a fault is meant -/
theorem k_faultIn_t (hk : k < 4) (hx : mX1_chipIn S (k : Int) = some (.inl (344 + 22 * k))) (r : RepK S (344 + 22 * k) C) (w : WFC C) {f : Nat} (hf : f < kFa C) : mX1_faultIn S (k : Int) (f : Int) = some (.inl (344 + 22 * k)) := by
  have fa := kFa_le w
  unfold mX1_faultIn
  rw [hx, bT_inl, gkc_chip hk, w32_id (by omega), if_pos (by omega), k_faults r w, bX_some, w32_id (by omega), if_pos (by omega), bX_some, if_pos rfl, bX_some, inside_1, bT_inl]
theorem k_faultIn_f (hk : k < 4) (hx : mX1_chipIn S (k : Int) = some (.inl (344 + 22 * k))) (r : RepK S (344 + 22 * k) C) (w : WFC C) (rx : RoomX S) {p : Int} (hp : i32 p) (hf : ¬ (0 ≤ p ∧ p < (kFa C : Int))) : mX1_faultIn S (k : Int) p = some (.inr (1, thrS S)) := by
  have fa := kFa_le w
  unfold mX1_faultIn
  rw [hx, bT_inl, gkc_chip hk, w32_id hp]
  by_cases q2 : 0 ≤ p
  · rw [if_pos q2, k_faults r w, bX_some, w32_id (by omega), if_neg (by omega), bX_some, if_neg (by decide), bX_some, inside_0 rx]; rfl
  · rw [if_neg q2, bX_some, if_neg (by decide), bX_some, inside_0 rx]; rfl
theorem KAll.T {z : Sto} {n : Int} {set fl : Nat → Int} (h : KAll z k C) (h1 : gI z (344 + 22 * k) 25 = n) (h2 : ∀ i, i < n.toNat → gI z (344 + 22 * k + 18) i = set i ∧ gI z (344 + 22 * k + 19) i = fl i) : RepT z (344 + 22 * k) (teC C n set fl) :=
  RepT_te h1 h2 (.inr h.1) (fun _ => h.2)
/-- the reference: nothing but what was searched is new -/
theorem m_sameT {z : Sto} (mT : RefT S k C) (hM : MLeast z k C) (e : ∀ a i, a = 2172 ∨ a = 2173 ∨ a = 2174 → gI z a i = gI S a i) (eL : ∀ i, gL z 2175 i = gL S 2175 i) : RefT z k (teC C (C 28 0) (C 29) (C 30)) := by
  obtain ⟨h1, h2, h3, h4⟩ := mT
  refine RefT_te (by rw [e _ _ (by omega)]; exact h1) (fun i hi => by rw [e _ _ (by omega), e _ _ (by omega)]; exact h2 i hi) (fun i f hi hf => by rw [eL]; exact h3 i f hi hf) hM
theorem WFT_same (wT : WFT C) : WFT (teC C (C 28 0) (C 29) (C 30)) := WFT_te wT.1 (fun i hi => wT.2 i hi)
theorem k_sameT {z : Sto} (rT : RepT S (344 + 22 * k) C) (h : KAll z k C) (h25 : gI z (344 + 22 * k) 25 = gI S (344 + 22 * k) 25) (h18 : ∀ i, gI z (344 + 22 * k + 18) i = gI S (344 + 22 * k + 18) i ∧ gI z (344 + 22 * k + 19) i = gI S (344 + 22 * k + 19) i) : RepT z (344 + 22 * k) (teC C (C 28 0) (C 29) (C 30)) :=
  h.T (h25.trans rT.1) (fun i hi => by rw [(h18 i).1, (h18 i).2]; exact rT.2.1 i hi)
/-- what the reference's search for least patterns changes -/
theorem MhQ.least {z : Sto} (hg : Fr W_mX23_leastPattern [] false S z) (h : ∀ i, i < 1280 * k ∨ 1280 * (k + 1) ≤ i → gI z 2177 i = gI S 2177 i) : MhQ k S z := by
  have ok : ∀ a i, a ≠ 2121 → a ≠ 2176 → a ≠ 2177 → ¬ (a = 2000 ∧ (i = 221 ∨ i = 222)) → okP W_mX23_leastPattern a i := fun a i h1 h2 h3 h4 =>
    okP_cons (fun e => absurd e.symm h1) <| okP_cons (fun e => absurd e.symm h2) <| okP_cons (fun e => ⟨fun g => (nomatch g), fun g => h4 ⟨e.symm, .inl (Option.some.inj g).symm⟩⟩) <| okP_cons (fun e => ⟨fun g => (nomatch g), fun g => h4 ⟨e.symm, .inr (Option.some.inj g).symm⟩⟩) <| okP_cons (fun e => absurd e.symm h3) okP_nil
  have kne : ∀ a i, kept a i = true → a ≠ 2121 ∧ a ≠ 2176 ∧ ¬ (a = 2000 ∧ (i = 221 ∨ i = 222)) := fun a i q => by
    refine ⟨?_, ?_, ?_⟩
    · rintro rfl; exact absurd (kept_lab q) (by decide)
    · rintro rfl; exact absurd (kept_lab q) (by decide)
    · rintro ⟨rfl, rfl | rfl⟩
      · exact absurd q (by decide)
      · exact absurd q (by decide)
  refine ⟨fun a i q g => ?_, fun a i q g => hg.gl (ok a i (by omega) (by omega) (by omega) (by omega)), hg.heap.1, hg.heap.2⟩
  obtain ⟨n1, n2, n3⟩ := kne a i q
  by_cases l : a = 2177
  · subst l
    refine h i ?_
    by_cases l2 : i < 1280 * k ∨ 1280 * (k + 1) ≤ i
    · exact l2
    · exact absurd ⟨.inr rfl, by omega, show 1280 * k ≤ i by omega, show i < 1280 * k + 1280 by omega⟩ g
  · exact hg.gi (ok a i n1 n2 l n3)
theorem L46 {p1 p2 : Int} (h : Inv c S) (hc : c < 64) (h1 : i32 p1) (h2 : i32 p2) : WP (mL_46 S p1 p2) (Inv (c + 1)) := by
  have rx := h.1.x hc
  unfold mL_46 mX0_test
  by_cases hq : isCh S p1
  · have hx := chipIn_t hq; obtain ⟨k, C, hk, rfl, w, r, m, wx, rX, mX⟩ := InvC.get h hq; rw [Int.toNat_natCast] at hx; have hn := w.nums; have eg := r.1.2.2.2.1; have em := m.1.2.2.2.1; rw [w.g] at eg em; have ei := r.1.1; have mi := m.1.1; rw [w.i] at ei mi; have er := r.1.2.1; have mr := m.1.2.1; rw [w.r] at er mr; have eo := r.1.2.2.1; have mo := m.1.2.2.1; rw [w.o] at eo mo; have el := r.1.2.2.2.2.1; have ml := m.1.2.2.2.2.1; rw [w.l] at el ml
    have h2' := h2
    unfold i32 at h2
    have fa := kFa_le w
    by_cases q1 : 0 ≤ p2 ∧ p2 < (kFa C : Int)
    · obtain ⟨f, rfl⟩ : ∃ n : Nat, p2 = (n : Int) := ⟨p2.toNat, by omega⟩
      have hf : f < kFa C := by omega
      have lr := kLeast_rng w (f := f)
      refine L_tst (m1 := fun S1 => mX23_test S1 _ _) (kLeast C f) (C 28 0) (C 29) (C 30) h hc hk w r m wx rX mX (WFT_same wx.2.2.2.2) ?_ (fun S1 g => ?_)
      · unfold mX1_test mX19_test
        rw [k_faultIn_t hk hx r w hf, bT_inl, gkc_chip hk]
        refine WP_call (R := fun x => x.1 = kLeast C f ∧ ChQ k S x.2 ∧ RepT x.2 (344 + 22 * k) (teC C (C 28 0) (C 29) (C 30))) ?_ (fun x hx' => WP_some.2 hx')
        refine WP_call (k_all hk r w rX.2.2.2.2) (fun x1 hx1 => ?_)
        obtain ⟨x1a, x1b, x1c, x1d⟩ := hx1
        rw [rdI_e (by omega), Int.toNat_natCast, (x1a.2 f hf).1]
        exact WP_some.2 ⟨rfl, x1b, k_sameT rX.2.2.2.2 x1a x1c x1d⟩
      · have m1 := g.M hk m
        have ch := g.chip hk h h1 hq
        have t1 := g.T hk w wx.2.2.2.2 mX.2.2.2.2
        unfold mX23_test
        rw [ch, bX_some, if_pos (by decide), w32_id (by omega), if_pos (by omega), m_faultCount m1 w hk, bX_some, w32_id (by omega), if_neg (by omega), bX_some, if_neg (by decide), bX_some, wf_eq, gI_set, if_neg (by decide)]
        have s0 : Sc S1 (sI S1 2000 0 0) := Sc.refl.sI rfl
        have m2 := s0.M m1
        have hM : MLeast (sI S1 2000 0 0) k C := fun f hf => by rw [hI_sI_a (by omega)]; exact t1.2.2.2 f hf
        refine WP_call (R := fun y => y.1 = kLeast C f ∧ gI y.2 2000 0 = 0 ∧ MhQ k S1 y.2 ∧ RefT y.2 k (teC C (C 28 0) (C 29) (C 30))) ?_ (fun y hy => WP_some.2 hy)
        refine WP_callF (m_leastPattern m2 w hk hf hM) fr_mX23_leastPattern (fun x hx' hg => ?_)
        obtain ⟨a1, a2, a3⟩ := hx'
        refine WP_some.2 ⟨a1, (hg.ei rfl).trans gI_set, s0.H.tr (MhQ.least hg a3), m_sameT t1 a2 (fun a i q => ?_) (fun i => (hg.el rfl).trans rfl)⟩
        rcases q with rfl | rfl | rfl
        · exact (hg.ei rfl).trans (hI_sI_a (by omega))
        · exact (hg.ei rfl).trans (hI_sI_a (by omega))
        · exact (hg.ei rfl).trans (hI_sI_a (by omega))
    · refine L_modF (m1 := fun S1 => mX23_test S1 _ _) 1 1 h hc ?_ rfl (by omega) (fun S1 eS => ?_)
      · unfold mX1_test; rw [k_faultIn_f hk hx r w rx h2' q1]; rfl
      · have m1 : RefK S1 k C := m.cg (fun a i _ _ => eS a i)
        have ch := m_isChip_t h eS h1 hq
        unfold mX23_test
        rw [ch, bX_some, if_pos (by decide), w32_id h2]
        by_cases q2 : 0 ≤ p2
        · rw [if_pos q2, m_faultCount m1 w hk, bX_some, w32_id (by omega), if_pos (by omega), bX_some, if_pos rfl, bX_some, wf_eq]
          rw [gI_set, if_pos (by decide)]; rfl
        · rw [if_neg q2, bX_some, if_pos rfl, bX_some, wf_eq]
          rw [gI_set, if_pos (by decide)]; rfl
  · refine L_modF (m1 := fun S1 => mX23_test S1 _ _) 1 1 h hc ?_ rfl (by omega) (fun S1 eS => ?_)
    · unfold mX1_test mX1_faultIn; rw [chipIn_f hq rx h1]; rfl
    · unfold mX23_test; rw [m_isChip_f h eS h1 hq]; rfl
end KALL
