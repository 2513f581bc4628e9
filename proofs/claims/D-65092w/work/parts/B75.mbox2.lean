/-! the box around each net's pins -/
def MBox (S : Sto) (C : Chp) (m : Nat) : Prop := ∀ n, n < kN C → (gI S 2129 n) = (pMany (kPf C) n m : Int) ∧ (C 16 0 ≠ 0 → pMany (kPf C) n m ≠ 0 → (gI S 2130 n) = pLo (pvX C) (kPf C) n m ∧ (gI S 2131 n) = pHi (pvX C) (kPf C) n m ∧ (gI S 2132 n) = pLo (pvY C) (kPf C) n m ∧ (gI S 2133 n) = pHi (pvY C) (kPf C) n m)
theorem box_val {S : Sto} {a b : Nat} {j n : Nat} {v8 : Int} {τ : Type} {K : Int → Option τ} (hj : j < 700) (hn : n < 256) (h8 : -2147483648 ≤ v8 ∧ v8 < 2147483648) :
    (bX (bX (if w32 (if w32 v8 = 0 then 1 else 0) = 0 then rdI 700 S a (j : Int) fun v9 => rdI 256 S b (n : Int) fun v10 => if w32 v9 < w32 v10 then some true else some false else some true) fun b' => if b' = true then rdI 700 S a (j : Int) fun v11 => some v11 else rdI 256 S b (n : Int) fun v12 => some v12) K) = K (if v8 = 0 ∨ gI S a j < gI S b n then gI S a j else gI S b n) := by
  rw [w32_id h8, rdI_e (by omega), rdI_e (by omega), rdI_e (by omega), rdI_e (by omega), Int.toNat_natCast, Int.toNat_natCast, w32_gI, w32_gI]
  by_cases q : v8 = 0
  · rw [if_pos q, if_pos (Or.inl q)]; rfl
  · rw [if_neg q, if_pos w32_0]
    by_cases z : gI S a j < gI S b n
    · rw [if_pos z, if_pos (Or.inr z)]; rfl
    · rw [if_neg z, if_neg (by omega)]; rfl
theorem box_val2 {S : Sto} {a b : Nat} {j n : Nat} {v8 : Int} {τ : Type} {K : Int → Option τ} (hj : j < 700) (hn : n < 256) (h8 : -2147483648 ≤ v8 ∧ v8 < 2147483648) :
    (bX (bX (if w32 (if w32 v8 = 0 then 1 else 0) = 0 then rdI 700 S a (j : Int) fun v9 => rdI 256 S b (n : Int) fun v10 => if w32 v10 < w32 v9 then some true else some false else some true) fun b' => if b' = true then rdI 700 S a (j : Int) fun v11 => some v11 else rdI 256 S b (n : Int) fun v12 => some v12) K) = K (if v8 = 0 ∨ gI S b n < gI S a j then gI S a j else gI S b n) := by
  rw [w32_id h8, rdI_e (by omega), rdI_e (by omega), rdI_e (by omega), rdI_e (by omega), Int.toNat_natCast, Int.toNat_natCast, w32_gI, w32_gI]
  by_cases q : v8 = 0
  · rw [if_pos q, if_pos (Or.inl q)]; rfl
  · rw [if_neg q, if_pos w32_0]
    by_cases z : gI S b n < gI S a j
    · rw [if_pos z, if_pos (Or.inr z)]; rfl
    · rw [if_neg z, if_neg (by omega)]; rfl
theorem MPins.fr {S S' : Sto} {C : Chp} {s : Pst} (h : MPins S C s) (e : ∀ a i, (a = 2000 ∧ i = 159) ∨ (2126 ≤ a ∧ a ≤ 2128) → gI S' a i = gI S a i) : MPins S' C s := by
  obtain ⟨h1, h2⟩ := h
  refine ⟨(e _ _ (by omega)).trans h1, fun p hp => ?_⟩
  rw [e _ _ (by omega), e _ _ (by omega), e _ _ (by omega)]; exact h2 p hp
theorem MBox.fr {S S' : Sto} {C : Chp} {m : Nat} (h : MBox S C m) (e : ∀ a i, (2129 ≤ a ∧ a ≤ 2133) → gI S' a i = gI S a i) : MBox S' C m := by
  intro n hn
  rw [e _ _ (by omega), e _ _ (by omega), e _ _ (by omega), e _ _ (by omega), e _ _ (by omega)]; exact h n hn
section MBX
variable {S : Sto} {C : Chp} {k : Nat}
theorem m_bp7 (r : RefK S k C) (w : WFC C) (hk : k < 4) (h : MPins S C (kPins C)) : WP (lpF (mX23_boxPins_L7 (k : Int)) (0, S)) (fun z => MPins z C (kPins C) ∧ MBox z C 0) := by
  have hn := w.nums
  refine WP_cnt (kN C) (fun i z => z.1 = (i : Int) ∧ KeM S z.2 ∧ MPins z.2 C (kPins C) ∧ ∀ n, n < i → (gI z.2 2129 n) = 0) (by unfold cFU; omega) ⟨rfl, KeM.refl, h, fun n hn => absurd hn (Nat.not_lt_zero _)⟩ (fun i z hi hI => ?_) (fun z hI => ?_)
  · obtain ⟨b1, b2, b3, b4⟩ := hI
    unfold mX23_boxPins_L7
    rw [m_netCount (b2.K r) w hk, bX_some, b1, w32_id (by omega), w32_id (by omega), if_pos (by omega), wrI_e (by omega), Int.toNat_natCast]
    refine WP_some.2 ⟨by show (i : Int) + 1 = _; omega, b2.sI (by omega), b3.fr (fun a j q => hI_sI_a (by omega)), fun n hn' => ?_⟩
    show gI (sI z.2 2129 i 0) 2129 n = 0
    by_cases q : n = i
    · rw [q, gI_set]; rfl
    · rw [hI_sI_i q]; exact b4 n (by omega)
  · obtain ⟨b1, b2, b3, b4⟩ := hI
    unfold mX23_boxPins_L7
    rw [m_netCount (b2.K r) w hk, bX_some, b1, if_neg (by omega)]
    exact WP_some.2 ⟨b3, fun n hn => ⟨b4 n hn, fun _ g => absurd rfl g⟩⟩
theorem m_bp31 (w : WFC C) (wp : WFP C) (h : MPins S C (kPins C)) (hb : MBox S C 0) : WP (lpF mX23_boxPins_L31 (0, S)) (fun z => MPins z C (kPins C) ∧ MBox z C (kPn C)) := by
  have hn := w.nums
  have hc : kPn C ≤ 640 := (kPins_ok w).2
  have hs := kS_le wp
  have hh := kH_le w wp
  refine WP_cnt (kPn C) (fun i z => z.1 = (i : Int) ∧ MPins z.2 C (kPins C) ∧ MBox z.2 C i) (by unfold cFU; omega) ⟨rfl, h, hb⟩ (fun i z hi hI => ?_) (fun z hI => ?_)
  · obtain ⟨b1, b2, b3⟩ := hI
    obtain ⟨z1, z2⟩ := z
    have b1 : z1 = (i : Int) := b1
    subst b1
    have e0 : gI z2 2000 159 = (kPn C : Int) := b2.1
    have e1 := b2.2 i hi
    have nl := ((kPins_ok w).1 i hi).1
    obtain ⟨n, hnn⟩ : ∃ n, (kPf C i).1 = n := ⟨_, rfl⟩
    have hnn' : ((kPins C).2 i).1 = n := hnn
    rw [hnn'] at e1 nl
    have bn := b3 n nl
    have pm := pMany_le (f := kPf C) (n := n) (m := i)
    unfold mX23_boxPins_L31
    dsimp only at bn ⊢
    rw [e0, w32_id (by omega), w32_id (by omega), if_pos (by omega), rdI_e (by omega), Int.toNat_natCast, e1.1, rdI_e (by omega), Int.toNat_natCast, bn.1]
    rw [box_val (by omega) (by omega) (by omega), wrI_e (by omega), Int.toNat_natCast]
    rw [box_val2 (by omega) (by omega) (by omega), wrI_e (by omega), Int.toNat_natCast]
    rw [box_val (by omega) (by omega) (by omega), wrI_e (by omega), Int.toNat_natCast]
    rw [box_val2 (by omega) (by omega) (by omega), wrI_e (by omega), Int.toNat_natCast]
    simp (disch := omega) only [gI_sIn]
    obtain ⟨x1, hx1⟩ : ∃ x1, (if (pMany (kPf C) n i : Int) = 0 ∨ gI z2 2127 i < gI z2 2130 n then gI z2 2127 i else gI z2 2130 n) = x1 := ⟨_, rfl⟩
    obtain ⟨x2, hx2⟩ : ∃ x1, (if (pMany (kPf C) n i : Int) = 0 ∨ gI z2 2131 n < gI z2 2127 i then gI z2 2127 i else gI z2 2131 n) = x1 := ⟨_, rfl⟩
    obtain ⟨x3, hx3⟩ : ∃ x1, (if (pMany (kPf C) n i : Int) = 0 ∨ gI z2 2128 i < gI z2 2132 n then gI z2 2128 i else gI z2 2132 n) = x1 := ⟨_, rfl⟩
    obtain ⟨x4, hx4⟩ : ∃ x1, (if (pMany (kPf C) n i : Int) = 0 ∨ gI z2 2133 n < gI z2 2128 i then gI z2 2128 i else gI z2 2133 n) = x1 := ⟨_, rfl⟩
    rw [hx1, hx2, hx3, hx4, rdI_e (by omega), Int.toNat_natCast]
    simp (disch := omega) only [gI_sIn]
    rw [bn.1, wrI_e (by omega), Int.toNat_natCast]
    refine WP_some.2 ⟨by show (i : Int) + 1 = _; omega, b2.fr (fun a j q => by simp (disch := omega) only [gI_sIn]), fun m hm => ?_⟩
    have ep : pMany (kPf C) m (i + 1) = pMany (kPf C) m i + (if n = m then 1 else 0) := by
      show pMany (kPf C) m i + (if (kPf C i).1 = m then 1 else 0) = _
      rw [hnn]
    have el : ∀ v : Nat → Int, pLo v (kPf C) m (i + 1) = (if n = m then min (pLo v (kPf C) m i) (v i) else pLo v (kPf C) m i) := fun v => by
      show (if (kPf C i).1 = m then _ else _) = _
      rw [hnn]
    have eh : ∀ v : Nat → Int, pHi v (kPf C) m (i + 1) = (if n = m then max (pHi v (kPf C) m i) (v i) else pHi v (kPf C) m i) := fun v => by
      show (if (kPf C i).1 = m then _ else _) = _
      rw [hnn]
    dsimp only
    rw [ep, el, eh, el, eh]
    have bm := b3 m hm
    dsimp only at bm
    by_cases q : n = m
    · subst q
      simp (disch := omega) only [gI_sIn, gI_sIe]
      simp only [if_true, true_and, and_self]
      refine ⟨by rw [w32_id (by omega)]; omega, fun g _ => ?_⟩
      have ee := e1.2 g
      have xr := pXY_rng w wp g hi
      have ex : gI z2 2127 i = pvX C i := ee.1
      have ey : gI z2 2128 i = pvY C i := ee.2
      rw [ex] at hx1 hx2
      rw [ey] at hx3 hx4
      by_cases z0 : pMany (kPf C) n i = 0
      · have pz : ∀ v, pLo v (kPf C) n i = 1000000 ∧ pHi v (kPf C) n i = -1000000 := fun v => by
          have : ∀ m', pMany (kPf C) n m' = 0 → pLo v (kPf C) n m' = 1000000 ∧ pHi v (kPf C) n m' = -1000000 := by
            intro m'
            induction m' with
            | zero => exact fun _ => ⟨rfl, rfl⟩
            | succ m' ih =>
              intro g'
              have g' : pMany (kPf C) n m' + (if (kPf C m').1 = n then 1 else 0) = 0 := g'
              by_cases y : (kPf C m').1 = n
              · rw [if_pos y] at g'; omega
              · rw [if_neg y] at g'
                show (if _ then _ else _) = _ ∧ (if _ then _ else _) = _
                rw [if_neg y, if_neg y]; exact ih (by omega)
          exact this i z0
        rw [if_pos (by omega)] at hx1 hx2 hx3 hx4
        rw [(pz _).1, (pz _).1, (pz _).2, (pz _).2, ← hx1, ← hx2, ← hx3, ← hx4, w32_id (by omega), w32_id (by omega), Int.min_eq_right (by omega), Int.min_eq_right (by omega), Int.max_eq_right (by omega), Int.max_eq_right (by omega)]
        exact ⟨rfl, rfl, rfl, rfl⟩
      · have bb := bm.2 g z0
        have lr := (pLo_rng (v := pvX C) (f := kPf C) (n := n) (m := i) (a := 0) (b := 61) (fun p hp => by have := pXY_rng w wp g (p := p) (by omega); omega) (by omega) (by omega))
        have hr := (pLo_rng (v := pvY C) (f := kPf C) (n := n) (m := i) (a := 0) (b := 37) (fun p hp => by have := pXY_rng w wp g (p := p) (by omega); omega) (by omega) (by omega))
        rw [bb.1] at hx1
        rw [bb.2.1] at hx2
        rw [bb.2.2.1] at hx3
        rw [bb.2.2.2] at hx4
        have m1 : ∀ {x a b : Int}, (if (pMany (kPf C) n i : Int) = 0 ∨ a < b then a else b) = x → x = min b a := fun {x a b} e => by
          rw [← e]
          by_cases y : a < b
          · rw [if_pos (.inr y), Int.min_eq_right (by omega)]
          · rw [if_neg (by omega), Int.min_eq_left (by omega)]
        have m2 : ∀ {x a b : Int}, (if (pMany (kPf C) n i : Int) = 0 ∨ b < a then a else b) = x → x = max b a := fun {x a b} e => by
          rw [← e]
          by_cases y : b < a
          · rw [if_pos (.inr y), Int.max_eq_right (by omega)]
          · rw [if_neg (by omega), Int.max_eq_left (by omega)]
        have lr2 := lr.2.2.2.2 z0
        have hr2 := hr.2.2.2.2 z0
        rw [← m1 hx1, ← m2 hx2, ← m1 hx3, ← m2 hx4]
        have y1 := min_facts (pLo (pvX C) (kPf C) n i) (pvX C i)
        have y2 := max_facts (pHi (pvX C) (kPf C) n i) (pvX C i)
        have y3 := min_facts (pLo (pvY C) (kPf C) n i) (pvY C i)
        have y4 := max_facts (pHi (pvY C) (kPf C) n i) (pvY C i)
        rw [← m1 hx1] at y1
        rw [← m2 hx2] at y2
        rw [← m1 hx3] at y3
        rw [← m2 hx4] at y4
        clear m1 m2 hx1 hx2 hx3 hx4
        exact ⟨w32_id (by omega), w32_id (by omega), w32_id (by omega), w32_id (by omega)⟩
    · simp (disch := omega) only [gI_sIn]
      simp only [if_neg q, Nat.add_zero]
      exact bm
  · obtain ⟨b1, b2, b3⟩ := hI
    have e0 : gI z.2 2000 159 = (kPn C : Int) := b2.1
    unfold mX23_boxPins_L31
    rw [e0, b1, if_neg (by omega)]
    exact WP_some.2 ⟨b2, b3⟩
theorem m_boxPins (r : RefK S k C) (rP : RefP S k C) (w : WFC C) (wp : WFP C) (hk : k < 4) : WP (mX23_boxPins S (k : Int)) (fun z => MPins z C (kPins C) ∧ MBox z C (kPn C) ∧ KeM S z) := by
  refine WP.mono (WP.pc (P := fun z => MPins z C (kPins C) ∧ MBox z C (kPn C)) ?_ fr_mX23_boxPins) (fun z hz => ⟨hz.1.1, hz.1.2, KeM.fr hz.2 rfl⟩)
  unfold mX23_boxPins
  refine WP_callF (m_gather r rP w wp hk) fr_mX23_gatherPins (fun x hx hf => ?_)
  have c1 : KeM S x := KeM.fr hf rfl
  refine WP_call (m_bp7 (c1.K r) w hk hx) (fun y hy => ?_)
  exact WP_call (m_bp31 w wp hy.1 hy.2) (fun z hz => WP_some.2 hz)
theorem m_wireOf (w : WFC C) (h0 : C 16 0 ≠ 0) (h : MBox S C (kPn C)) {n : Nat} (hn : n < kN C) : mX23_wireOf S (n : Int) = some (kWire C n) := by
  have hnn := w.nums
  have b := (h n hn).2 h0 (kMany_pos w hn)
  unfold mX23_wireOf
  rw [rdI_e (by omega), rdI_e (by omega), rdI_e (by omega), rdI_e (by omega), Int.toNat_natCast, b.1, b.2.1, b.2.2.1, b.2.2.2]
  rfl
theorem m_wholeWire (r : RefK S k C) (rP : RefP S k C) (w : WFC C) (wp : WFP C) (h0 : C 16 0 ≠ 0) (hk : k < 4) : WP (mX23_wholeWire S (k : Int)) (fun z => z.1 = kTot C (kN C) ∧ MBox z.2 C (kPn C) ∧ KeM S z.2) := by
  have hn := w.nums
  unfold mX23_wholeWire
  refine WP_call (m_boxPins r rP w wp hk) (fun x hx => ?_)
  obtain ⟨x1, x2, x3⟩ := hx
  have key : WP (lpF (mX23_wholeWire_L9 x (k : Int)) (0, 0)) (fun z => z = kTot C (kN C)) := by
    refine WP_cnt (kN C) (fun i z => z.1 = kTot C i ∧ z.2 = (i : Int)) (by unfold cFU; omega) ⟨rfl, rfl⟩ (fun i z hi hI => ?_) (fun z hI => ?_)
    · obtain ⟨b1, b2⟩ := hI
      unfold mX23_wholeWire_L9
      rw [m_netCount (x3.K r) w hk, bX_some, b2, w32_id (by omega), w32_id (by omega), if_pos (by omega), m_wireOf w h0 x2 hi, bX_some, b1]
      exact WP_some.2 ⟨rfl, by show (i : Int) + 1 = _; omega⟩
    · obtain ⟨b1, b2⟩ := hI
      unfold mX23_wholeWire_L9
      rw [m_netCount (x3.K r) w hk, bX_some, b2, if_neg (by omega)]
      exact WP_some.2 b1
  rw [key.of, bX_some]
  exact WP_some.2 ⟨rfl, x2, x3⟩
end MBX
