/-! waves: the reference's gates and nets -/
def MFr (S z : Sto) : Prop := ∀ a i, a ≠ 2168 → a ≠ 2170 → a ≠ 2171 → ¬ (a = 2000 ∧ i = 214) → gI z a i = gI S a i
theorem MFr.refl {S : Sto} : MFr S S := fun _ _ _ _ _ _ => rfl
theorem MFr.tr {S S' S'' : Sto} (h : MFr S S') (g : MFr S' S'') : MFr S S'' := fun a i q1 q2 q3 q4 => (g a i q1 q2 q3 q4).trans (h a i q1 q2 q3 q4)
theorem MFr.ch {S S' : Sto} (h : Ch 2170 2171 S S') : MFr S S' := fun a i q1 q2 q3 q4 => h.1 a i (by omega)
section MWAVE2
variable {S : Sto} {k : Nat} {C : Chp} {a b : Nat}
theorem kVal_g0 (w : WFC C) {g : Nat} (hg : g < kG C) : kVal C a (kB C + g) = wgVal (kFn C g) (fun j => kVal C a (kP C g j)) (fun _ => 0) (kAr C g) := by
  unfold kVal
  rw [kValF_gate w hg, if_neg (by omega)]
  unfold kStep kIdx wgVal wvS
  congr 1
  refine bitsN_congr (fun j hj => ?_)
  rw [if_neg (by omega)]
  show _ = (_ ^^ decide (0 % 2 = 1))
  rw [show decide ((0 : Nat) % 2 = 1) = false from rfl, Bool.xor_false]
theorem MWc.mf {S' : Sto} (h : MWc S k C a) (e : MFr S S') : MWc S' k C a := h.ch (fun a i q => e a i (by omega) (by omega) (by omega) (by omega))
theorem MWs.rise {n : Nat} {l : List Int} (h : MWs S C a b n l) {S' : Sto} (e : Ch 2170 2171 S S') : MWs S' C a b n l := h.ch (fun a i q => e.1 a i (by omega))
theorem gFuel_le (w : WFC C) (wp : WFP C) {g : Nat} (hg : g < kG C) : gFuel (fun j => kWv C a b (kP C g j)) (fun _ => 0) (kAr C g) ≤ 3 * 120002 := by
  have ar := w.ar hg
  have hn := w.nums
  have gf : ∀ m, m ≤ kAr C g → gFuel (fun j => kWv C a b (kP C g j)) (fun _ => 0) m ≤ 120002 * m := by
    intro m
    induction m with
    | zero => exact fun _ => Nat.le_refl _
    | succ m ih =>
      intro hm
      have i := ih (by omega)
      have pl := (w.p hg (k := m) (by omega)).2
      have len : (kWv C a b (kP C g m)).length ≤ 120001 := by
        have rs := kWv_rise' (a := a) (b := b) w wp (n := kP C g m) (by omega)
        have gr : ∀ (i : Nat) (t : Int), (kWv C a b (kP C g m))[i]? = some t → (i : Int) ≤ t := by
          intro i
          induction i with
          | zero => intro t ht; exact (rs.1 0 t ht).1
          | succ i ihi =>
            intro t ht
            have hi : i < (kWv C a b (kP C g m)).length := by
              rcases Nat.lt_or_ge i (kWv C a b (kP C g m)).length with h | h
              · exact h
              · rw [List.getElem?_eq_none (by omega)] at ht; exact (nomatch ht)
            obtain ⟨s, hs⟩ : ∃ s, (kWv C a b (kP C g m))[i]? = some s := ⟨_, List.getElem?_eq_getElem hi⟩
            have := ihi s hs
            have := rs.2 i (i + 1) s t (Nat.lt_succ_self _) hs ht
            omega
        rcases Nat.lt_or_ge 120001 (kWv C a b (kP C g m)).length with h | h
        · obtain ⟨s, hs⟩ : ∃ s, (kWv C a b (kP C g m))[120001]? = some s := ⟨_, List.getElem?_eq_getElem h⟩
          have := gr _ _ hs
          have := (rs.1 _ _ hs).2
          omega
        · exact h
      show gFuel (fun j => kWv C a b (kP C g j)) (fun _ => 0) m + ((kWv C a b (kP C g m)).length - 0) ≤ _
      omega
  have := gf _ (Nat.le_refl _)
  omega
theorem m_fc80 (hc : MWc S k C a) (w : WFC C) (wp : WFP C) (hk : k < 4) {g : Nat} (hg : g < kG C) (ho : kWo C a b (kB C + g) ≤ 20000) (h : MWs S C a b (kB C + g) (kFl C a b (kB C + g))) (hA : MAt S C a b g (fun _ => 0)) :
    WP (lpF (mX23_findChanges_L80 (kAr C g : Int) (k : Int) (g : Int) ((kB C + g : Nat) : Int)) (b2i (wgVal (kFn C g) (fun j => kVal C a (kP C g j)) (fun _ => 0) (kAr C g)), 1, S))
      (fun z => MFr S z ∧ ((kWo C a b (kB C + g + 1) ≤ 20000 ∧ MWs z C a b (kB C + g) (kFl C a b (kB C + g + 1))) ∨ (20000 < kWo C a b (kB C + g + 1) ∧ (gI z 2000 214) = 20001))) := by
  have hn := w.nums
  have ar := w.ar hg
  have gfl := gFuel_le (a := a) (b := b) w wp hg
  have tr := kTime_rng w wp (n := kB C + g) (by omega)
  have gt := kWv_gate (a := a) (b := b) w hg
  obtain ⟨ini, hini⟩ : ∃ ini, (fun j => kVal C a (kP C g j)) = ini := ⟨_, rfl⟩
  obtain ⟨ls, hls⟩ : ∃ ls, (fun j => kWv C a b (kP C g j)) = ls := ⟨_, rfl⟩
  have eF : kFl C a b (kB C + g + 1) = kFl C a b (kB C + g) ++ kWv C a b (kB C + g) := rfl
  have eO : kWo C a b (kB C + g + 1) = kWo C a b (kB C + g) + (kWv C a b (kB C + g)).length := rfl
  have fl := kFl_len (C := C) (a := a) (b := b) (n := kB C + g)
  refine WP_lpX (fun (u : Nat) (z : Int × Int × Sto) => MFr S z.2.2 ∧ ∃ x e v, z.1 = b2i (wgVal (kFn C g) ini x (kAr C g)) ∧ MAt z.2.2 C a b g x ∧ MWs z.2.2 C a b (kB C + g) (kFl C a b (kB C + g) ++ e) ∧ (kFl C a b (kB C + g) ++ e).length ≤ 20001 ∧
      kWv C a b (kB C + g) = e ++ gLst (kFn C g) ini ls (kAr C g) (kTime C (kB C + g)) v x ∧ gFuel ls x (kAr C g) ≤ v ∧ ((z.2.1 = 0 ∧ gMin ls x (kAr C g) = 1000000) ∨ (z.2.1 = 1 ∧ gFuel ls x (kAr C g) < u))) (fun u z hI => ?_)
    (n := gFuel ls (fun _ => 0) (kAr C g) + 1) ⟨MFr.refl, fun _ => 0, [], gFuel ls (fun _ => 0) (kAr C g), by rw [hini], hA, by rw [List.append_nil]; exact h, by rw [List.append_nil, fl]; omega, by rw [List.nil_append, ← hini, ← hls]; exact gt, Nat.le_refl _, .inr ⟨rfl, Nat.lt_succ_self _⟩⟩ (by rw [← hls]; unfold cFU; omega)
  obtain ⟨z0, z1, z2⟩ := z
  obtain ⟨c1, x, e, v, d2, d3, d4, d4', d5, d6, d7⟩ := hI
  dsimp only at c1 d2 d3 d4 d7
  have cz := hc.mf c1
  have l2 : (kFl C a b (kB C + g) ++ e).length = kWo C a b (kB C + g) + e.length := by rw [List.length_append, fl]
  have l1 : e.length ≤ (kWv C a b (kB C + g)).length := by rw [d5, List.length_append]; omega
  unfold mX23_findChanges_L80
  dsimp only
  rw [d4.2.1, w32_id (show -2147483648 ≤ ((kFl C a b (kB C + g) ++ e).length : Int) ∧ _ by omega)]
  rcases d7 with ⟨rfl, d8⟩ | ⟨rfl, d9⟩
  · rw [if_neg (by decide), bX_some, if_neg (by decide)]
    have full : kWv C a b (kB C + g) = e := by rw [d5, gLst_end d8, List.append_nil]
    refine WP_some.2 ⟨c1, ?_⟩
    by_cases q : kWo C a b (kB C + g + 1) ≤ 20000
    · exact .inl ⟨q, by rw [eF, full]; exact d4⟩
    · refine .inr ⟨by omega, ?_⟩
      show gI z2 2000 214 = 20001
      rw [d4.2.1, l2]
      have : (kWv C a b (kB C + g)).length = e.length := by rw [full]
      omega
  · rw [if_pos (by decide)]
    by_cases big : (kFl C a b (kB C + g) ++ e).length ≤ 20000
    · rw [if_pos (by omega), bX_some, if_pos rfl]
      obtain ⟨y, gy, hy⟩ := m_fc103 (u1 := z0) (u2 := 1) cz w wp hk hg ho rfl d4 d3
      rw [hls] at hy
      rw [gy, bX_some]
      obtain ⟨t, ht⟩ : ∃ t, gMin ls x (kAr C g) = t := ⟨_, rfl⟩
      have tl := gMin_le (ls := ls) (at' := x) (m := kAr C g)
      rw [ht] at tl hy
      by_cases q : t = 1000000
      · rw [if_pos q] at hy
        subst hy
        have skip : lpF (mX23_findChanges_L207 (kAr C g : Int) 1000000000 (k : Int) (g : Int)) (0, z2) = some z2 := by
          refine WP.of (WP_cnt 0 (fun _ z => z = (0, z2)) (by unfold cFU; omega) rfl (fun i z hi => absurd hi (Nat.not_lt_zero _)) (fun z hI => ?_))
          subst hI
          unfold mX23_findChanges_L207
          dsimp only
          rw [if_pos (by rw [w32_id (by omega), w32_id (by omega)]; omega), if_neg (by decide), bX_some, if_neg (by decide)]
          exact WP_some.2 rfl
        rw [skip, bX_some, if_neg (by decide), bX_some, if_neg (by decide), bX_some]
        exact WP_some.2 ⟨gFuel ls x (kAr C g), by omega, c1, x, e, v, d2, d3, d4, d4', d5, d6, .inl ⟨rfl, by rw [ht]; exact q⟩⟩
      · rw [if_neg q] at hy
        subst hy
        have qn : gMin ls x (kAr C g) ≠ 1000000 := by rw [ht]; exact q
        obtain ⟨j, hj, ej⟩ := gMin_some qn
        have tr0 : 0 ≤ y := by
          have e' := ej
          rw [ht, ← hls] at e'
          exact ((kWv_rise' (a := a) (b := b) w wp (n := kP C g j) (by have := (w.p hg (k := j) (by omega)).2; omega)).1 _ _ e').1
        have k207 := m_fc207 (t := y) cz w wp hk hg ho rfl d4 d3 (by omega)
        rw [hls] at k207
        refine WP_call k207 (fun z' hz' => ?_)
        obtain ⟨f1, g2⟩ := hz'
        have c2' : MFr S z' := c1.tr (MFr.ch f1)
        have cz' := hc.mf c2'
        have W4 : MWs z' C a b (kB C + g) (kFl C a b (kB C + g) ++ e) := d4.rise f1
        obtain ⟨x', hx'⟩ : ∃ x', gAdv ls x y = x' := ⟨_, rfl⟩
        rw [hx'] at g2
        have kt := m_told cz' w hk hg g2
        rw [hini] at kt
        have st := gLst_step (f := kFn C g) (ini := ini) (d := kTime C (kB C + g)) qn d6
        rw [ht, hx'] at st
        have fu := gFuel_adv hj ej
        rw [ht, hx'] at fu
        rw [w32_id (show -2147483648 ≤ y ∧ _ by omega), if_pos (show y < 1000000000 by omega), if_pos (by decide), kt, bX_some, d2, w32_b2i, w32_b2i]
        by_cases same : wgVal (kFn C g) ini x' (kAr C g) = wgVal (kFn C g) ini x (kAr C g)
        · rw [if_neg (fun g' => g' (by rw [same])), bX_some, if_neg (by decide), bX_some]
          rw [if_pos same, List.nil_append] at st
          exact WP_some.2 ⟨u - 1, by omega, c2', x', e, v - 1, by rw [same], g2, W4, d4', by rw [d5, st], by omega, .inr ⟨rfl, by omega⟩⟩
        · rw [if_pos (fun g' => same (by cases h1 : wgVal (kFn C g) ini x' (kAr C g) <;> cases h2 : wgVal (kFn C g) ini x (kAr C g) <;> rw [h1, h2] at g' <;> first | rfl | exact absurd g' (by decide))), bX_some, if_pos rfl]
          rw [if_neg same] at st
          have full : kWv C a b (kB C + g) = (e ++ [y + kTime C (kB C + g)]) ++ gLst (kFn C g) ini ls (kAr C g) (kTime C (kB C + g)) (v - 1) x' := by rw [d5, st, List.append_assoc]
          have e3 := cz'.2.2 (kB C + g) (by omega)
          have flip : (if b2i (wgVal (kFn C g) ini x (kAr C g)) = 0 then (1 : Int) else 0) = b2i (wgVal (kFn C g) ini x' (kAr C g)) := by
            cases h1 : wgVal (kFn C g) ini x' (kAr C g) <;> cases h2 : wgVal (kFn C g) ini x (kAr C g) <;> rw [h1, h2] at same <;> first | rfl | exact absurd rfl same
          rw [rdI_e (by omega), Int.toNat_natCast, e3, W4.2.1, wrI_e (by omega), Int.toNat_natCast, wf_eq, hI_sI_a (by omega), W4.2.1, bX_some, flip]
          refine WP_some.2 ⟨u - 1, by omega, ?_, x', e ++ [y + kTime C (kB C + g)], v - 1, rfl, fun j hj => ?_, ⟨fun m hm => ?_, ?_, ?_⟩, by rw [← List.append_assoc, lenS]; omega, full, by omega, .inr ⟨rfl, by omega⟩⟩
          · intro a' i' q1 q2 q3 q4
            dsimp only
            rw [hI_sI, if_neg q4, hI_sI_a q1]; exact c2' a' i' q1 q2 q3 q4
          · dsimp only; rw [hI_sI_a (by omega), hI_sI_a (by omega), hI_sI_a (by omega), hI_sI_a (by omega)]; exact g2 j hj
          · dsimp only; rw [hI_sI_a (by omega), hI_sI_a (by omega), hI_sI_a (by omega), hI_sI_a (by omega)]; exact W4.1 m hm
          · dsimp only; rw [gI_set, w32_id (by omega), ← List.append_assoc, lenS]; rfl
          · dsimp only
            rw [← List.append_assoc]
            refine W4.2.2.snoc (fun i hi => ?_) ?_
            · rw [hI_sI_a (by omega), hI_sI_i (by omega)]
            · rw [hI_sI_a (by omega), gI_set, w32_id (by omega)]
    · rw [if_neg (by omega), bX_some, if_neg (by decide)]
      refine WP_some.2 ⟨c1, .inr ⟨by omega, ?_⟩⟩
      show gI z2 2000 214 = 20001
      rw [d4.2.1]; omega
theorem m_fc (hc : MWc S k C a) (w : WFC C) (wp : WFP C) (hk : k < 4) {g : Nat} (hg : g < kG C) (ho : kWo C a b (kB C + g) ≤ 20000) (h : MWs S C a b (kB C + g) (kFl C a b (kB C + g))) :
    WP (mX23_findChanges S (k : Int) (g : Int) ((kB C + g : Nat) : Int)) (fun z => MFr S z ∧ ((kWo C a b (kB C + g + 1) ≤ 20000 ∧ MWs z C a b (kB C + g) (kFl C a b (kB C + g + 1))) ∨ (20000 < kWo C a b (kB C + g + 1) ∧ (gI z 2000 214) = 20001))) := by
  have hn := w.nums
  have ar := w.ar hg
  have ci := w.c hg
  have li := w.li ci.2
  have co := m_cellOf hc.1 w hk (p := (g : Int)) (by omega)
  rw [Int.toNat_natCast] at co
  have i9 := (hc.1.2.2.2.2.2 (kC C g) ci.2).1
  rw [li.1] at i9
  unfold mX23_findChanges
  rw [co, bX_some, rdI_e (by omega), Int.toNat_natCast, i9]
  refine WP_call (m_fc16 hc w hk hg) (fun y hy => ?_)
  obtain ⟨y1, y2⟩ := hy
  have cy := hc.mf (MFr.ch y1)
  have er := cy.2.1 (kB C + g) (by omega)
  rw [kVal_g0 w hg] at er
  have A : MAt y C a b g (fun _ => 0) := fun j hj => by
    have pp := w.p hg hj
    have := y2 j hj
    rw [this.1, this.2, (h.1 _ pp.2).1]
    exact ⟨rfl, by cases kVal C a (kP C g j) <;> rfl, Nat.zero_le _⟩
  rw [rdZ_e (by omega), Int.toNat_natCast, er, bz_b2i]
  refine WP_bX.2 ((m_fc80 cy w wp hk hg ho (h.rise y1) A).mono (fun z hz => ?_))
  exact WP_some.2 ⟨(MFr.ch y1).tr hz.1, hz.2⟩
theorem m_fc_bad (hc : MWc S k C a) (w : WFC C) (hk : k < 4) {g : Nat} (hg : g < kG C) (h : (gI S 2000 214) = 20001) :
    WP (mX23_findChanges S (k : Int) (g : Int) ((kB C + g : Nat) : Int)) (fun z => MFr S z ∧ (gI z 2000 214) = 20001) := by
  have hn := w.nums
  have ci := w.c hg
  have li := w.li ci.2
  have co := m_cellOf hc.1 w hk (p := (g : Int)) (by omega)
  rw [Int.toNat_natCast] at co
  have i9 := (hc.1.2.2.2.2.2 (kC C g) ci.2).1
  rw [li.1] at i9
  unfold mX23_findChanges
  rw [co, bX_some, rdI_e (by omega), Int.toNat_natCast, i9]
  refine WP_call (m_fc16 hc w hk hg) (fun y hy => ?_)
  obtain ⟨y1, y2⟩ := hy
  have cnt : gI y 2000 214 = 20001 := (y1.1 _ _ (by omega)).trans h
  rw [rdZ_e (by omega), Int.toNat_natCast]
  have skip : ∀ v : Int, lpF (mX23_findChanges_L80 (kLi C (kC C g) : Int) (k : Int) (g : Int) ((kB C + g : Nat) : Int)) (v, 1, y) = some y := fun v => by
    refine WP.of (WP_cnt 0 (fun _ z => z = (v, 1, y)) (by unfold cFU; omega) rfl (fun i z hi => absurd hi (Nat.not_lt_zero _)) (fun z hI => ?_))
    subst hI
    unfold mX23_findChanges_L80
    dsimp only
    rw [cnt, if_pos (by decide), if_neg (by decide), bX_some, if_neg (by decide)]
    exact WP_some.2 rfl
  rw [skip, bX_some]
  exact WP_some.2 ⟨MFr.ch y1, cnt⟩
theorem m_iw90 (hc : MWc S k C a) (w : WFC C) (wp : WFP C) (hk : k < 4) (hb : b < 4096) (h0 : (gI S 2000 214) = 0) :
    WP (lpF (mX23_isWild_L90 (k : Int) (kI C : Int) (kR C : Int) (b : Int)) (0, S)) (fun z => MWc z k C a ∧ ((kWo C a b (kN C) ≤ 20000 ∧ MWs z C a b (kN C) (kFl C a b (kN C))) ∨ (20000 < kWo C a b (kN C) ∧ (gI z 2000 214) = 20001))) := by
  have hn := w.nums
  have wsum : w32 ((kI C : Int) + (kR C : Int)) = (kB C : Int) := by rw [w32_id (by omega)]; omega
  refine WP_cnt (kN C) (fun n z => z.1 = (n : Int) ∧ MWc z.2 k C a ∧ ((kWo C a b n ≤ 20000 ∧ MWs z.2 C a b n (kFl C a b n)) ∨ (kB C ≤ n ∧ 20000 < kWo C a b (kN C) ∧ (gI z.2 2000 214) = 20001))) (by unfold cFU; omega) ⟨rfl, hc, .inl ⟨Nat.zero_le _, fun m hm => absurd hm (Nat.not_lt_zero _), h0, fun i t ht => (nomatch ht)⟩⟩ (fun n z hn' hI => ?_) (fun z hI => ?_)
  · obtain ⟨z1, z2⟩ := z
    obtain ⟨b1, c1, c2⟩ := hI
    dsimp only at b1 c1 c2
    subst b1
    have zt : ((n : Int) + 1).toNat = n + 1 := by omega
    have eF : kFl C a b (n + 1) = kFl C a b n ++ kWv C a b n := rfl
    have eO : kWo C a b (n + 1) = kWo C a b n + (kWv C a b n).length := rfl
    have mo := kWo_mono (C := C) (a := a) (b := b) (n := n + 1) (m := kN C) (by omega)
    have fl := kFl_len (C := C) (a := a) (b := b) (n := n)
    have fl1 := kFl_len (C := C) (a := a) (b := b) (n := n + 1)
    have cnt : -2147483648 ≤ gI z2 2000 214 ∧ gI z2 2000 214 < 2147483648 := gI_rng _ _ _
    have fin : ∀ y : Sto, MWc y k C a → ((kWo C a b (n + 1) ≤ 20000 ∧ MWs y C a b n (kFl C a b (n + 1)) ∧ (gI y 2169 n) = (kWo C a b n : Int)) ∨ (kB C ≤ n + 1 ∧ 20000 < kWo C a b (kN C) ∧ (gI y 2000 214) = 20001)) → WP (wrI 257 y 2169 ((n : Int) + 1) (gI y 2000 214) fun S21 => (some (Sum.inl ((n : Int) + 1, S21)) : Option ((Int × Sto) ⊕ (Sto)))) (WE (fun z => z.1 = ((n + 1 : Nat) : Int) ∧ MWc z.2 k C a ∧ ((kWo C a b (n + 1) ≤ 20000 ∧ MWs z.2 C a b (n + 1) (kFl C a b (n + 1))) ∨ (kB C ≤ n + 1 ∧ 20000 < kWo C a b (kN C) ∧ (gI z.2 2000 214) = 20001))) (fun z => MWc z k C a ∧ ((kWo C a b (kN C) ≤ 20000 ∧ MWs z C a b (kN C) (kFl C a b (kN C))) ∨ (20000 < kWo C a b (kN C) ∧ (gI z 2000 214) = 20001)))) := by
      intro y hy hz
      rw [wrI_e (by omega), zt]
      refine WP_some.2 ⟨by show (n : Int) + 1 = _; omega, hy.ch (fun a i q => hI_sI_a (by omega)), ?_⟩
      rcases hz with ⟨q0, ⟨q1, q2, q3⟩, q4⟩ | ⟨q1, q2, q3⟩
      · refine .inl ⟨q0, fun m hm => ?_, ?_, fun i t ht => ?_⟩
        · dsimp only
          rw [q2]
          by_cases z' : m = n
          · subst z'
            rw [hI_sI_i (by omega), gI_set, w32_id (by omega), fl1]; exact ⟨q4, rfl⟩
          · rw [hI_sI_i (by omega), hI_sI_i (by omega)]; exact q1 m (by omega)
        · dsimp only; rw [hI_sI_a (by omega)]; exact q2
        · dsimp only; rw [hI_sI_a (by omega)]; exact q3 i t ht
      · exact .inr ⟨q1, q2, by dsimp only; rw [hI_sI_a (by omega)]; exact q3⟩
    unfold mX23_isWild_L90
    dsimp only
    rw [m_netCount c1.1 w hk, bX_some, w32_id (show -2147483648 ≤ (n : Int) ∧ _ by omega), w32_id (show -2147483648 ≤ (kN C : Int) ∧ _ by omega), if_pos (by omega), wrI_e (by omega), Int.toNat_natCast, wsum]
    obtain ⟨S13, hS⟩ : ∃ S13, sI z2 2169 n (gI z2 2000 214) = S13 := ⟨_, rfl⟩
    have c13 : MWc S13 k C a := by rw [← hS]; exact c1.ch (fun a i q => hI_sI_a (by omega))
    have n13 : gI S13 2000 214 = gI z2 2000 214 := by rw [← hS]; exact hI_sI_a (by omega)
    rw [hS]
    rcases c2 with ⟨ho, W⟩ | ⟨q1, q2, q3⟩
    · have W13 : MWs S13 C a b n (kFl C a b n) ∧ gI S13 2169 n = (kWo C a b n : Int) := by
        obtain ⟨h1, h2, h3⟩ := W
        rw [← hS, h2]
        refine ⟨⟨fun m hm => ?_, (hI_sI_a (by omega)).trans h2, fun i t ht => (hI_sI_a (by omega)).trans (h3 i t ht)⟩, by rw [gI_set, w32_id (by omega), fl]⟩
        rw [hI_sI_i (by omega), hI_sI]
        by_cases z : m + 1 = n
        · rw [if_pos ⟨rfl, z⟩, w32_id (by omega), fl, z]; exact ⟨(h1 m hm).1, rfl⟩
        · rw [if_neg (fun g => z g.2)]; exact h1 m hm
      obtain ⟨W13, e69⟩ := W13
      by_cases g : n < kB C
      · have bu := aBit (x := b) (k := n) (by omega) (by omega)
        have ws := kWv_src (a := a) (b := b) g
        have er := c13.2.1 n hn'
        have kv : kVal C a n = a.testBit n := by unfold kVal; rw [kValF_src g, if_neg (by omega)]
        rw [kv] at er
        have b01 : (if w32 (b2i (b.testBit n)) = 1 then (1 : Int) else 0) = b2i (b.testBit n) := by cases b.testBit n <;> rfl
        rw [if_pos (by omega), rdZ_e (by omega), Int.toNat_natCast, er, bz_b2i, bu, b01, w32_b2i, w32_b2i]
        by_cases s : a.testBit n = b.testBit n
        · rw [if_pos s] at ws
          rw [s, if_neg (fun g => g rfl), bX_some, wrI_e (by omega), zt, if_neg (show ¬ (kB C : Int) ≤ (n : Int) by omega), bX_some]
          refine fin _ (c13.ch (fun a i q => hI_sI_a (by omega))) (.inl ⟨by rw [eO, ws]; exact ho, ?_, ?_⟩)
          · rw [eF, ws, List.append_nil]
            obtain ⟨h1, h2, h3⟩ := W13
            exact ⟨fun m hm => by rw [hI_sI_i (by omega), hI_sI_i (by omega)]; exact h1 m hm, (hI_sI_a (by omega)).trans h2, fun i t ht => (hI_sI_a (by omega)).trans (h3 i t ht)⟩
          · rw [hI_sI_i (by omega)]; exact e69
        · rw [if_neg s] at ws
          have kol : kWo C a b n ≤ 12 := by
            have : ∀ m, m ≤ n → kWo C a b m ≤ m := by
              intro m
              induction m with
              | zero => exact fun _ => Nat.le_refl _
              | succ m ih =>
                intro hm
                have i := ih (by omega)
                have s1 := kWv_src (a := a) (b := b) (n := m) (show m < kB C by omega)
                have : (kWv C a b m).length ≤ 1 := by rw [s1]; split <;> (show _ ≤ 1) <;> (first | exact Nat.zero_le _ | exact Nat.le_refl _)
                show kWo C a b m + _ ≤ _
                omega
            have := this n (Nat.le_refl _)
            omega
          rw [if_pos (fun g' => s (by cases h1 : a.testBit n <;> cases h2 : b.testBit n <;> rw [h1, h2] at g' <;> first | rfl | exact absurd g' (by decide))), W13.2.1, wrI_e (by omega), Int.toNat_natCast, wf_eq, bX_some, hI_sI_a (by omega), W13.2.1, gI_set, wrI_e (by omega), zt, if_neg (show ¬ (kB C : Int) ≤ (n : Int) by omega), bX_some]
          have w1 : w32 (((kFl C a b n).length : Int) + 1) = ((kFl C a b n).length : Int) + 1 := w32_id (by omega)
          rw [w1]
          refine fin _ (c13.ch (fun a i q => by rw [hI_sI_a (by omega), hI_sI, if_neg (by omega), hI_sI_a (by omega)])) (.inl ⟨by rw [eO, ws]; show _ + 1 ≤ 20000; omega, ?_, ?_⟩)
          · rw [eF, ws]
            obtain ⟨h1, h2, h3⟩ := W13
            refine ⟨fun m hm => ?_, ?_, ?_⟩
            · simp (disch := omega) only [gI_sIn]; exact h1 m hm
            · rw [hI_sI_a (by omega), gI_set, w1, lenS]; rfl
            · refine h3.snoc (fun i hi => ?_) ?_
              · rw [hI_sI_a (by omega), hI_sI_a (by omega), hI_sI_i (by omega)]
              · rw [hI_sI_a (by omega), hI_sI_a (by omega), gI_set]; rfl
          · rw [hI_sI_i (by omega), hI_sI_a (by omega), hI_sI_a (by omega)]; exact e69
      · obtain ⟨g', rfl⟩ : ∃ g', n = kB C + g' := ⟨n - kB C, by omega⟩
        have zz : ((kB C + g' : Nat) : Int) - ((kI C : Int) + (kR C : Int)) = (g' : Int) := by omega
        rw [if_neg (by omega), bX_some, wrI_e (by omega), zt, if_pos (by omega), zz]
        have c18 : MWc (sI S13 2169 (kB C + g' + 1) (gI S13 2000 214)) k C a := c13.ch (fun a i q => hI_sI_a (by omega))
        have W18 : MWs (sI S13 2169 (kB C + g' + 1) (gI S13 2000 214)) C a b (kB C + g') (kFl C a b (kB C + g')) := by
          obtain ⟨h1, h2, h3⟩ := W13
          exact ⟨fun m hm => by rw [hI_sI_i (by omega), hI_sI_i (by omega)]; exact h1 m hm, (hI_sI_a (by omega)).trans h2, fun i t ht => (hI_sI_a (by omega)).trans (h3 i t ht)⟩
        refine WP_bX.2 (WP_bX.2 ((m_fc c18 w wp hk (by omega) ho W18).mono (fun y hy => ?_)))
        obtain ⟨y1, y2⟩ := hy
        refine WP_some.2 (fin y (c18.mf y1) ?_)
        rcases y2 with ⟨y2, y3⟩ | ⟨y2, y3⟩
        · exact .inl ⟨y2, y3, (y1 _ _ (by omega) (by omega) (by omega) (by omega)).trans ((hI_sI_i (by omega)).trans e69)⟩
        · exact .inr ⟨by omega, by omega, y3⟩
    · obtain ⟨g', rfl⟩ : ∃ g', n = kB C + g' := ⟨n - kB C, by omega⟩
      have zz : ((kB C + g' : Nat) : Int) - ((kI C : Int) + (kR C : Int)) = (g' : Int) := by omega
      rw [if_neg (by omega), bX_some, wrI_e (by omega), zt, if_pos (by omega), zz]
      have c18 : MWc (sI S13 2169 (kB C + g' + 1) (gI S13 2000 214)) k C a := c13.ch (fun a i q => hI_sI_a (by omega))
      refine WP_bX.2 (WP_bX.2 ((m_fc_bad c18 w hk (by omega) (by rw [hI_sI_a (by omega), n13]; exact q3)).mono (fun y hy => ?_)))
      exact WP_some.2 (fin y (c18.mf hy.1) (.inr ⟨by omega, q2, hy.2⟩))
  · obtain ⟨b1, c1, c2⟩ := hI
    unfold mX23_isWild_L90
    rw [m_netCount c1.1 w hk, bX_some, b1, if_neg (by omega)]
    refine WP_some.2 ⟨c1, ?_⟩
    rcases c2 with c2 | c2
    · exact .inl c2
    · exact .inr c2.2
end MWAVE2
