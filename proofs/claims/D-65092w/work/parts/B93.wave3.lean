/-! waves: a gate, all nets (class) -/
theorem WP_lpX {σ ρ : Type} {f : σ → Option (σ ⊕ ρ)} {P : ρ → Prop} (I : Nat → σ → Prop) (step : ∀ n s, I n s → WP (f s) (WE (fun s' => ∃ m, m < n ∧ I m s') P)) {n : Nat} {s : σ} (h : I n s) (hn : n < cFU) : WP (lpF f s) P := by
  have key : ∀ (N n : Nat) (s : σ), n ≤ N → I n s → WP (lp f (N + 1) s) P := by
    intro N
    induction N with
    | zero =>
      intro n s hn hI
      obtain ⟨x, h1, h2⟩ := step n s hI
      cases x with
      | inl s' => obtain ⟨m, h3, _⟩ := h2; omega
      | inr r => exact ⟨r, lp_out h1, h2⟩
    | succ N ih =>
      intro n s hn hI
      obtain ⟨x, h1, h2⟩ := step n s hI
      cases x with
      | inl s' =>
        obtain ⟨m, h3, h4⟩ := h2
        obtain ⟨y, g1, g2⟩ := ih m s' (by omega) h4
        exact ⟨y, by rw [lp_in h1]; exact g1, g2⟩
      | inr r => exact ⟨r, lp_out h1, h2⟩
  obtain ⟨x, h1, h2⟩ := key n n s (Nat.le_refl _) h
  exact ⟨x, lp_more _ _ _ _ h1 (by omega), h2⟩
section KWAVE3
variable {S : Sto} {L k : Nat} {C : Chp} {a b : Nat}
theorem mem_at {l : List Int} {t : Int} (h : t ∈ l) : ∃ i : Nat, l[i]? = some t := by
  obtain ⟨i, hi, e⟩ := List.getElem_of_mem h
  exact ⟨i, by rw [List.getElem?_eq_getElem hi, e]⟩
theorem kWv_mem (w : WFC C) (wp : WFP C) {n : Nat} (hn : n < kN C) {t : Int} (h : t ∈ kWv C a b n) : 0 ≤ t ∧ t ≤ 120000 := by
  obtain ⟨i, e⟩ := mem_at h
  exact (kWv_rise' w wp hn).1 i t e
theorem kFl_mem (w : WFC C) (wp : WFP C) {n : Nat} (hn : n ≤ kN C) {t : Int} (h : t ∈ kFl C a b n) : 0 ≤ t ∧ t ≤ 120000 := by
  induction n with
  | zero => exact (nomatch h)
  | succ n ih =>
    have h : t ∈ kFl C a b n ++ kWv C a b n := h
    rcases List.mem_append.1 h with h | h
    · exact ih (by omega) h
    · exact kWv_mem w wp (by omega) h
theorem KWs.fr {S' : Sto} {n : Nat} {l : List Int} (h : KWs S L C a b n l) (e : ∀ a i, 258 ≤ a → a ≤ 262 → gI S' a i = gI S a i) (eR : gR S' 258 1 = gR S 258 1) : KWs S' L C a b n l := by
  obtain ⟨h1, h2, h3, h4, h5, h6, h7⟩ := h
  refine ⟨eR.trans h1, fun m hm => ?_, (e _ _ (by omega) (by omega)).trans h3, (e _ _ (by omega) (by omega)).trans h4, h5, fun i t ht => (e _ _ (by omega) (by omega)).trans (h6 i t ht), fun m hm => (e _ _ (by omega) (by omega)).trans (h7 m hm)⟩
  rw [e _ _ (by omega) (by omega), e _ _ (by omega) (by omega)]; exact h2 m hm
theorem KAt.fr {S' : Sto} {g : Nat} {x : Nat → Nat} (h : KAt S C a b g x) (e : ∀ i, gI S' 263 i = gI S 263 i) : KAt S' C a b g x := fun j hj => by rw [e]; exact h j hj
theorem k_wg117 (hk : k < 4) (hL : L = 344 + 22 * k) (r : RepK S L C) (w : WFC C) (wp : WFP C) {g : Nat} (hg : g < kG C) (ho : kWo C a b (kB C + g) ≤ 20000) {d : Int} (hd : d = kTime C (kB C + g))
    (h : KWs S L C a b (kB C + g) (kFl C a b (kB C + g))) (hA : KAt S C a b g (fun _ => 0)) :
    WP (lpF (mX18_gate_L117 (kAr C g : Int) (g : Int) d) (((wvS (fun j => kVal C a (kP C g j)) (fun _ => 0) (kAr C g) : Nat) : Int), b2i (wgVal (kFn C g) (fun j => kVal C a (kP C g j)) (fun _ => 0) (kAr C g)), 1, 0, S))
      (fun z => Ch 258 263 S z.2 ∧ ((z.1 = 1 ∧ KWs z.2 L C a b (kB C + g) (kFl C a b (kB C + g + 1))) ∨ (z.1 = 0 ∧ 20000 < kWo C a b (kB C + g + 1)))) := by
  have hn := w.nums
  have ar := w.ar hg
  have ci := w.c hg
  have tr := kTime_rng w wp (n := kB C + g) (by omega)
  have gt := kWv_gate (a := a) (b := b) w hg
  obtain ⟨ini, hini⟩ : ∃ ini, (fun j => kVal C a (kP C g j)) = ini := ⟨_, rfl⟩
  obtain ⟨ls, hls⟩ : ∃ ls, (fun j => kWv C a b (kP C g j)) = ls := ⟨_, rfl⟩
  have eF : kFl C a b (kB C + g + 1) = kFl C a b (kB C + g) ++ kWv C a b (kB C + g) := rfl
  have eO : kWo C a b (kB C + g + 1) = kWo C a b (kB C + g) + (kWv C a b (kB C + g)).length := rfl
  refine WP_lpX (fun (u : Nat) (z : Int × Int × Int × Int × Sto) => Ch 258 263 S z.2.2.2.2 ∧ ((z.2.2.1 = 0 ∧ 20000 < kWo C a b (kB C + g + 1)) ∨ (z.2.2.1 = 1 ∧ ∃ x e v, z.1 = ((wvS ini x (kAr C g) : Nat) : Int) ∧ z.2.1 = b2i (wgVal (kFn C g) ini x (kAr C g)) ∧ KAt z.2.2.2.2 C a b g x ∧ KWs z.2.2.2.2 L C a b (kB C + g) (kFl C a b (kB C + g) ++ e) ∧
      kWv C a b (kB C + g) = e ++ gLst (kFn C g) ini ls (kAr C g) (kTime C (kB C + g)) v x ∧ gFuel ls x (kAr C g) ≤ v ∧ ((z.2.2.2.1 = 1000000 ∧ gMin ls x (kAr C g) = 1000000) ∨ (z.2.2.2.1 ≠ 1000000 ∧ -2147483648 ≤ z.2.2.2.1 ∧ z.2.2.2.1 ≤ 1000000 ∧ gFuel ls x (kAr C g) < u))))) (fun u z hI => ?_)
    (n := gFuel ls (fun _ => 0) (kAr C g) + 1) ⟨Ch.refl, .inr ⟨rfl, fun _ => 0, [], gFuel ls (fun _ => 0) (kAr C g), by rw [hini], by rw [hini], hA, by rw [List.append_nil]; exact h, by rw [List.nil_append, ← hini, ← hls]; exact gt, Nat.le_refl _, .inr ⟨by show (0 : Int) ≠ 1000000; decide, by show (-2147483648 : Int) ≤ 0; decide, by show (0 : Int) ≤ 1000000; decide, Nat.lt_succ_self _⟩⟩⟩ ?_
  · obtain ⟨z0, z1, z2, z3, z4⟩ := z
    obtain ⟨c1, c2⟩ := hI
    dsimp only at c1 c2
    unfold mX18_gate_L117
    dsimp only
    rcases c2 with ⟨rfl, c2⟩ | ⟨rfl, x, e, v, d1, d2, d3, d4, d5, d6, d7⟩
    · have fin : (if ¬ w32 z3 = 1000000 then (if ¬ w32 0 = 0 then some true else some false) else some false) = some false := by split <;> rfl
      rw [fin, bX_some, if_neg (by decide)]
      exact WP_some.2 ⟨c1, .inr ⟨rfl, c2⟩⟩
    · have rz := r.ch c1 (by omega)
      rcases d7 with ⟨rfl, d8⟩ | ⟨d7, d8, d8', d9⟩
      · rw [if_neg (by decide), bX_some, if_neg (by decide)]
        refine WP_some.2 ⟨c1, .inl ⟨rfl, ?_⟩⟩
        rw [eF, d5, gLst_end d8, List.append_nil]; exact d4
      · rw [w32_id ⟨d8, by omega⟩, if_pos d7, if_pos (by decide), bX_some, if_pos rfl]
        obtain ⟨y, gy, hy⟩ := k_wg136 (u1 := z0) (u2 := z1) (u3 := 1) (u4 := z3) rz w wp hk hL hg ho rfl d4 d3
        subst hy
        rw [hls] at gy
        rw [gy, bX_some]
        obtain ⟨t, ht⟩ : ∃ t, gMin ls x (kAr C g) = t := ⟨_, rfl⟩
        have tl := gMin_le (ls := ls) (at' := x) (m := kAr C g)
        have tlo : -2147483648 ≤ t := by
          rw [← ht]
          by_cases q : gMin ls x (kAr C g) = 1000000
          · omega
          · obtain ⟨j, hj, e⟩ := gMin_some q
            rw [← hls] at e
            have := (kWv_rise' (a := a) (b := b) w wp (n := kP C g j) (by have := (w.p hg (k := j) (by omega)).2; omega)).1 _ _ e
            rw [← hls]; omega
        rw [ht] at tl ⊢
        rw [d1]
        have k201 := k_wg201 (t := t) rz w wp hk hL hg ho rfl d4 d3 (by rw [hls]; exact ht.symm) tlo
        rw [hini, hls] at k201
        refine WP_call k201 (fun y hy => ?_)
        obtain ⟨f1, f2, f3⟩ := hy
        have c2' := c1.tr f1 (by omega) (by omega)
        have ry := r.ch c2' (by omega)
        have gy2 : gR y.2 258 1 = L := (f1.2.2.1 _ _).trans d4.1
        have W4 : KWs y.2 L C a b (kB C + g) (kFl C a b (kB C + g) ++ e) := d4.fr (fun a i l1 l2 => f1.1 a i (by omega)) (f1.2.2.1 _ _)
        have e6 := ry.2.1 g hg
        have p8 : 2 ^ kAr C g ≤ 8 := Nat.pow_le_pow_right (n := 2) (by omega) ar.2
        rw [gy2, hL]
        simp only [gk_chip hk]
        rw [← hL, rdI_e (by omega), Int.toNat_natCast, e6, ci.1]
        by_cases q : t = 1000000
        · obtain ⟨g1, g2⟩ := f2 q
          have kt := k_tells ry w (p := (kC C g : Int)) (s := wvS ini x (kAr C g)) (by omega) (by have := wvS_lt (ini := ini) (x := x) (m := kAr C g); omega)
          rw [g1, kt, bX_some, q, if_neg (by decide), bX_some, if_neg (by decide), bX_some]
          have ev : b2i ((kLf C ((kC C g : Int)).toNat).testBit (wvS ini x (kAr C g))) = b2i (wgVal (kFn C g) ini x (kAr C g)) := by rw [Int.toNat_natCast]; rfl
          exact WP_some.2 ⟨gFuel ls x (kAr C g), by omega, c2', .inr ⟨rfl, x, e, v, rfl, ev, g2, W4, d5, d6, .inl ⟨rfl, by rw [ht]; exact q⟩⟩⟩
        · obtain ⟨g1, g2⟩ := f3 q
          obtain ⟨x', hx'⟩ : ∃ x', gAdv ls x t = x' := ⟨_, rfl⟩
          rw [hx'] at g1 g2
          have kt := k_tells ry w (p := (kC C g : Int)) (s := wvS ini x' (kAr C g)) (by omega) (by have := wvS_lt (ini := ini) (x := x') (m := kAr C g); omega)
          have ev : b2i ((kLf C ((kC C g : Int)).toNat).testBit (wvS ini x' (kAr C g))) = b2i (wgVal (kFn C g) ini x' (kAr C g)) := by rw [Int.toNat_natCast]; rfl
          have qn : gMin ls x (kAr C g) ≠ 1000000 := by rw [ht]; exact q
          have st := gLst_step (f := kFn C g) (ini := ini) (d := kTime C (kB C + g)) qn d6
          rw [ht, hx'] at st
          obtain ⟨j, hj, ej⟩ := gMin_some qn
          have fu := gFuel_adv hj ej
          rw [ht, hx'] at fu
          rw [g1, kt, bX_some, w32_id ⟨tlo, by omega⟩, if_pos q, ev, d2, w32_b2i, w32_b2i]
          by_cases same : wgVal (kFn C g) ini x' (kAr C g) = wgVal (kFn C g) ini x (kAr C g)
          · rw [if_neg (fun g' => g' (by rw [same])), bX_some, if_neg (by decide), bX_some]
            rw [if_pos same, List.nil_append] at st
            exact WP_some.2 ⟨u - 1, by omega, c2', .inr ⟨rfl, x', e, v - 1, rfl, rfl, g2, W4, by rw [d5, st], by omega, .inr ⟨q, tlo, tl, by omega⟩⟩⟩
          · rw [if_pos (fun g' => same (by cases h1 : wgVal (kFn C g) ini x' (kAr C g) <;> cases h2 : wgVal (kFn C g) ini x (kAr C g) <;> rw [h1, h2] at g' <;> first | rfl | exact absurd g' (by decide))), bX_some, if_pos rfl]
            rw [if_neg same] at st
            have full : kWv C a b (kB C + g) = (e ++ [t + kTime C (kB C + g)]) ++ gLst (kFn C g) ini ls (kAr C g) (kTime C (kB C + g)) (v - 1) x' := by rw [d5, st, List.append_assoc]
            have tin : t + kTime C (kB C + g) ∈ kWv C a b (kB C + g) := by rw [full]; exact List.mem_append_left _ (List.mem_append_right _ (.head _))
            have tr2 := kWv_mem w wp (n := kB C + g) (by omega) tin
            have ra : ∀ s, s ∈ kFl C a b (kB C + g) ++ e → 0 ≤ s ∧ s ≤ 1000000 := fun s hs => by
              rcases List.mem_append.1 hs with hs | hs
              · have := kFl_mem w wp (n := kB C + g) (by omega) hs; omega
              · have := kWv_mem w wp (n := kB C + g) (a := a) (b := b) (t := s) (by omega) (by rw [d5]; exact List.mem_append_left _ hs); omega
            rw [hd]
            refine WP_bX.2 (WP_bX.2 ((k_wadd W4 (by omega) ra).mono (fun y' hy' => ?_)))
            obtain ⟨a1, a2, a3⟩ := hy'
            have len5 := W4.2.2.2.2.1
            refine WP_some.2 (WP_some.2 ⟨u - 1, by omega, c2'.tr a1 (by omega) (by omega), ?_⟩)
            by_cases lt : (kFl C a b (kB C + g) ++ e).length < 20000
            · obtain ⟨a4, a5⟩ := a2 lt
              rw [List.append_assoc] at a5
              exact .inr ⟨a4, x', e ++ [t + kTime C (kB C + g)], v - 1, rfl, rfl, g2.fr (fun i => a1.1 _ _ (by omega)), a5, full, by omega, .inr ⟨q, tlo, tl, by omega⟩⟩
            · refine .inl ⟨a3 (by omega), ?_⟩
              have l1 : (kWv C a b (kB C + g)).length = e.length + 1 + (gLst (kFn C g) ini ls (kAr C g) (kTime C (kB C + g)) (v - 1) x').length := by rw [full, List.length_append, List.length_append]; rfl
              have l2 : (kFl C a b (kB C + g) ++ e).length = kWo C a b (kB C + g) + e.length := by rw [List.length_append, kFl_len]
              rw [eO]; omega
  · have : gFuel ls (fun _ => 0) (kAr C g) ≤ 3 * 120002 := by
      have gf : ∀ m, m ≤ kAr C g → gFuel ls (fun _ => 0) m ≤ 120002 * m := by
        intro m
        induction m with
        | zero => exact fun _ => Nat.le_refl _
        | succ m ih =>
          intro hm
          have i := ih (by omega)
          have pl := (w.p hg (k := m) (by omega)).2
          have len : (kWv C a b (kP C g m)).length ≤ 120001 := by
            have rs := kWv_rise' (a := a) (b := b) w wp (n := kP C g m) (by omega)
            have gr : ∀ (i : Nat) (t : Int), (kWv C a b (kP C g m))[i]? = some t → (i : Int) ≤ t := by
              intro i
              induction i with
              | zero => intro t ht; exact (rs.1 0 t ht).1
              | succ i ihi =>
                intro t ht
                have hi : i < (kWv C a b (kP C g m)).length := by
                  rcases Nat.lt_or_ge i (kWv C a b (kP C g m)).length with h | h
                  · exact h
                  · rw [List.getElem?_eq_none (by omega)] at ht; exact (nomatch ht)
                obtain ⟨s, hs⟩ : ∃ s, (kWv C a b (kP C g m))[i]? = some s := ⟨_, List.getElem?_eq_getElem hi⟩
                have := ihi s hs
                have := rs.2 i (i + 1) s t (Nat.lt_succ_self _) hs ht
                omega
            rcases Nat.lt_or_ge 120001 (kWv C a b (kP C g m)).length with h | h
            · obtain ⟨s, hs⟩ : ∃ s, (kWv C a b (kP C g m))[120001]? = some s := ⟨_, List.getElem?_eq_getElem h⟩
              have := gr _ _ hs
              have := (rs.1 _ _ hs).2
              omega
            · exact h
          show gFuel ls (fun _ => 0) m + ((ls m).length - 0) ≤ _
          rw [← hls]
          rw [hls]
          have : (ls m).length ≤ 120001 := by rw [← hls]; exact len
          omega
      have := gf _ (Nat.le_refl _)
      omega
    unfold cFU; omega
theorem k_gate (hk : k < 4) (hL : L = 344 + 22 * k) (r : RepK S L C) (w : WFC C) (wp : WFP C) {g : Nat} (hg : g < kG C) (ho : kWo C a b (kB C + g) ≤ 20000) (h : KWs S L C a b (kB C + g) (kFl C a b (kB C + g))) :
    WP (mX18_gate S (g : Int) (kTime C (kB C + g))) (fun z => Ch 258 263 S z.2 ∧ ((z.1 = 1 ∧ KWs z.2 L C a b (kB C + g) (kFl C a b (kB C + g + 1))) ∨ (z.1 = 0 ∧ 20000 < kWo C a b (kB C + g + 1)))) := by
  have hn := w.nums
  have ar := w.ar hg
  have ci := w.c hg
  have io := k_inputsOf r w (p := (g : Int)) (by omega)
  rw [Int.toNat_natCast] at io
  have p8 : 2 ^ kAr C g ≤ 8 := Nat.pow_le_pow_right (n := 2) (by omega) ar.2
  unfold mX18_gate
  rw [h.1, hL, gk_chip hk, ← hL, io, bX_some]
  refine WP_call (k_wg15 r w hk hL hg ho h) (fun y hy => ?_)
  obtain ⟨y1, y2, y3⟩ := hy
  have ry := r.ch y3 (by omega)
  have W : KWs y.2 L C a b (kB C + g) (kFl C a b (kB C + g)) := h.fr (fun a i l1 l2 => y3.1 a i (by omega)) (y3.2.2.1 _ _)
  have kt := k_tells ry w (p := (kC C g : Int)) (s := wvS (fun j => kVal C a (kP C g j)) (fun _ => 0) (kAr C g)) (by omega) (by have := wvS_lt (ini := fun j => kVal C a (kP C g j)) (x := fun _ => 0) (m := kAr C g); omega)
  rw [W.1, hL]
  simp only [gk_chip hk]
  rw [← hL, rdI_e (by omega), Int.toNat_natCast, ry.2.1 g hg, ci.1, y1, kt, bX_some, Int.toNat_natCast]
  refine WP_call (k_wg117 hk hL ry w wp hg ho rfl W y2) (fun z hz => ?_)
  obtain ⟨z1, z2⟩ := hz
  rcases z2 with ⟨z2, z3⟩ | ⟨z2, z3⟩
  · rw [z2]; exact WP_some.2 ⟨(Ch.refl.tr y3 (by omega) (by omega)).tr z1 (by omega) (by omega), .inl ⟨rfl, z3⟩⟩
  · rw [z2]; exact WP_some.2 ⟨(Ch.refl.tr y3 (by omega) (by omega)).tr z1 (by omega) (by omega), .inr ⟨rfl, z3⟩⟩
end KWAVE3
