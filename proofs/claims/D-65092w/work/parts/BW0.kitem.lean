/-! the class reads items: which one, and all of them -/
section KIM
variable {S S0 x z y : Sto} {u : Nat → Int} {n N M : Nat} {fs : List Fin0} {ms : List Mdl} {cur m sub : Mdl} {gv mt : List Nat} {its its' : List Itm} {k k' : List Row3} {j b jn kl si own : Nat} {s w v fr : Int}
theorem oB_inl {α β γ : Type} {r : α ⊕ β} {f : α → γ ⊕ β} {c : γ} (h : .inl c = oB r f) : ∃ a, r = .inl a ∧ f a = .inl c := oB_inv h.symm
theorem GvD.lt {p : Nat} {t : Nat × List Row3} (hL : LstT u n N) (h : GvD u n ms cur s w p k (.inl t)) (hp : p ≤ N) : p < t.1 ∧ t.1 ≤ N := by
  obtain ⟨r, h1, h2⟩ := h
  obtain ⟨a, e1, e2⟩ := oB_inl h2
  subst e1
  obtain ⟨e, e3, e4⟩ := oB_inv e2
  injection e4 with e4; subst e4
  obtain ⟨t1, _, t3⟩ := tkT_ok e3
  rcases h1 with ⟨f, _, h1⟩ | ⟨c, h1, h3⟩
  · cases h1
  · obtain ⟨c1, c2, c3⟩ := tkT_ok h1
    have hlt := lt3 hL c3 hp
    rcases h3 with ⟨f, _, h3⟩ | ⟨d, k', w', h3, h4⟩
    · cases h3
    · split at h4
      · injection h4 with h4
        subst h4
        have hd := oGr.leD hL h3 trivial d (k', [w']) rfl (by omega)
        have h1 := hd.1
        have h2 := lt3 hL t3 hd.2.2.1
        have t1 : e = d + 1 := t1
        have h2 : d < N := h2
        exact ⟨by show p < e; omega, by show e ≤ N; omega⟩
      · cases h4
theorem ArR.le (hL : LstT u n N) : ∀ {m j i : Nat} {k : List Row3} {t : Nat × Nat × List Row3}, ArR u n ms cur sub own m j i k (.inl t) → j ≤ N → j ≤ t.1 ∧ t.1 ≤ N
  | 0, _, _, _, _, h, _ => h.elim
  | m + 1, j, i, k, t, h, hj => by
    rcases h with ⟨f, _, h⟩ | ⟨d, k', h, h2⟩ | ⟨j', k', h, h2⟩
    · cases h
    · injection h2 with h2; subst h2
      rcases h with ⟨f, _, h⟩ | ⟨d2, k2, w, h, h3⟩
      · cases h
      · have hd := oGr.leD hL h trivial d2 (k2, [w]) rfl hj
        split at h3
        · cases h3
        · split at h3
          · split at h3
            · cases h3
            · obtain ⟨a, _, a2⟩ := oB_inl h3
              cases a2
          · injection h3 with h3; injection h3 with h3 h4; subst h3
            exact ⟨hd.1, hd.2.2.1⟩
    · rcases h with ⟨f, _, h⟩ | ⟨d2, k2, w, h, h3⟩
      · cases h
      · have hd := oGr.leD hL h trivial d2 (k2, [w]) rfl hj
        split at h3
        · cases h3
        · split at h3
          · rename_i q
            split at h3
            · cases h3
            · obtain ⟨a, a1, a2⟩ := oB_inl h3
              injection a2 with a2; injection a2 with a2 a3; subst a2
              obtain ⟨n1, n2⟩ := nxT_ok a1
              have hlt := lt3 hL (isS_K q) hd.2.2.1
              have := ArR.le hL h2 (by omega)
              have := hd.1
              omega
          · cases h3
theorem AgR.le {t : Nat × Nat × List Row3} (hL : LstT u n N) (h : AgR u n ms cur sub own j k (.inl t)) (hj : j ≤ N) : j ≤ t.1 ∧ t.1 ≤ N := by
  rcases h with ⟨_, h⟩ | ⟨_, m, h⟩
  · injection h with h; subst h; exact ⟨Nat.le_refl _, hj⟩
  · exact h.le hL hj
theorem usH_ok {t : Nat × Nat} (hL : LstT u n N) (h : usH u n mt cur j = .inl t) (hj : j < N) : nxT u n j = .inl (j + 1) ∧ newT u n 40 (mTk cur) (.inl (j + 1)) = .inl (j + 2) ∧ tkK u n (j + 1) = 1 ∧ inNm u n (mTk cur) (j + 1) = false ∧ cur.length ≠ 40 ∧ tkK u n (j + 2) = 1 ∧ inNm u n mt (j + 2) = true ∧ t = (j + 4, fiN u n mt (j + 2)) ∧ j + 4 ≤ N ∧ nxT u n (j + 2) = .inl (j + 3) ∧ isS u n 40 (j + 3) = true := by
  unfold usH at h
  obtain ⟨b, h1, h2⟩ := oB_inv h
  obtain ⟨i, g1, g2, g3, g4, g5⟩ := newT_inl h1
  obtain ⟨n1, n2⟩ := nxT_ok g1
  subst n1
  subst g2
  rw [g1] at h1
  rw [mTk_len] at g5
  have l1 : j + 1 < N := lt1 hL g3 (by omega)
  split at h2
  · rename_i kb
    split at h2
    · rename_i hin
      obtain ⟨d, q1, q2⟩ := oB_inv h2
      injection q2 with q2
      obtain ⟨a, r1, r2, r3⟩ := tkT_inq q1
      obtain ⟨b1, b2⟩ := nxT_ok r1
      have l2 : j + 1 + 1 < N := lt1 hL kb (by omega)
      have l3 := lt3 hL (isS_K r2) (by omega)
      subst b1
      subst r3
      exact ⟨g1, h1, g3, g4, g5, kb, hin, q2.symm, by omega, r1, r2⟩
    · cases h2
  · cases h2
theorem usT_ok {e c g : Nat} (h : usT u n sub own e c = .inl g) : isS u n 41 e = true ∧ c = (insL sub).length ∧ nxT u n e = .inl (e + 1) ∧ isS u n 59 (e + 1) = true ∧ g = e + 2 ∧ tkT u n 59 (.inl (e + 1)) = .inl g := by
  unfold usT at h
  split at h
  · rename_i q
    split at h
    · rename_i q2
      obtain ⟨a, r1, r2, r3⟩ := tkT_inq h
      obtain ⟨b1, b2⟩ := nxT_ok r1
      subst b1
      rw [r1] at h
      exact ⟨q, q2, r1, r2, r3, h⟩
    · cases h
  · cases h
theorem vaR.lt {t : Nat × List Row3 × Int} (hL : LstT u n N) (h : vaR u n ms cur j k (.inl t)) (hj : j < N) : j < t.1 ∧ t.1 ≤ N := by
  rcases h with ⟨f, _, h⟩ | ⟨a, h1, r, h2, h3⟩
  · cases h
  · obtain ⟨b, e1, e2⟩ := oB_inl h3
    subst e1
    injection e2 with e2; subst e2
    obtain ⟨_, _, _, _, _, q1, q2, _⟩ := hdD_ok hL h1 hj
    have := h2.lt hL q2
    exact ⟨by show j < b.1; omega, this.2⟩
theorem rgD_ok {t : Nat × Int × Int} (hL : LstT u n N) (h : rgD u n cur j = .inl t) (hj : j < N) : ∃ a b, hdD u n cur j = .inl a ∧ rgV u n a.2 a.1 = .inl b ∧ tkT u n 59 (.inl b.1) = .inl t.1 ∧ t.2.1 = a.2 ∧ t.2.2 = b.2 ∧ a.1 ≤ b.1 ∧ b.1 ≤ N ∧ t.1 = b.1 + 1 ∧ 0 ≤ b.2 ∧ b.2 < 2 ^ a.2.toNat := by
  unfold rgD at h
  obtain ⟨a, h1, h⟩ := oB_inv h
  obtain ⟨b, h2, h⟩ := oB_inv h
  obtain ⟨c, h3, h⟩ := oB_inv h
  injection h with h; subst h
  obtain ⟨_, _, _, _, _, q1, q2, q3, q4, _⟩ := hdD_ok hL h1 hj
  have hb : a.1 ≤ b.1 ∧ b.1 ≤ N ∧ 0 ≤ b.2 ∧ b.2 < 2 ^ a.2.toNat := by
    have h2' := h2
    unfold rgV at h2'
    split at h2'
    · rename_i g
      obtain ⟨x, x1, x2⟩ := oB_inv h2'
      obtain ⟨y, y1, y2⟩ := oB_inv x2
      injection y2 with y2; subst y2
      obtain ⟨n1, n2⟩ := nxT_ok x1
      obtain ⟨d1, d2, d3, d4, d5⟩ := nuT_ok y1
      have := lt3 hL (isS_K g) q2
      have := lt2 hL d1 (by omega)
      exact ⟨by show a.1 ≤ y; omega, by show y ≤ N; omega, d4, by show tkV u n x < _; omega⟩
    · injection h2' with h2'; subst h2'
      have := (pw8 q4).2.2
      exact ⟨Nat.le_refl _, q2, Int.le_refl _, by show (0 : Int) < _; omega⟩
  exact ⟨a, b, h1, h2, h3, rfl, rfl, hb.1, hb.2.1, (tkT_ok h3).1, hb.2.2⟩
theorem inD_ok {t : Nat × Int} (hL : LstT u n N) (h : inD u n cur j = .inl t) (hj : j < N) : ∃ a, hdD u n cur j = .inl a ∧ tkT u n 59 (.inl a.1) = .inl t.1 ∧ t.2 = a.2 ∧ t.1 = a.1 + 1 := by
  unfold inD at h
  obtain ⟨a, h1, h⟩ := oB_inv h
  obtain ⟨c, h3, h⟩ := oB_inv h
  injection h with h; subst h
  exact ⟨a, h1, h3, rfl, (tkT_ok h3).1⟩
theorem isW_K {w : Int} (h : isW u n w j = true) : tkK u n j = 6 := (of_decide_eq_true h).1
theorem lt6 (hL : LstT u n N) (k : tkK u n j = 6) (h : j ≤ N) : j < N := hL.le (by rw [k]; decide) h
theorem neH_ok (h : neH u n cur gv j = .inl b) : tkK u n j = 1 ∧ nkD u n cur gv j = true ∧ nxT u n j = .inl b := by
  unfold neH at h
  split at h
  · rename_i k1
    split at h
    · rename_i g; exact ⟨k1, g, h⟩
    · cases h
  · cases h
/-- every item has a token -/
theorem ItR.lt {r : RIt} (hL : LstT u n N) (h : ItR u n mt ms cur gv j k (.inl r)) (hj : j ≤ N) : j < r.1 ∧ r.1 ≤ N := by
  unfold ItR at h
  split at h
  · rename_i g
    have hlt := lt6 hL (isW_K g) hj
    obtain ⟨t, h1, h2⟩ := oB_inl h
    injection h2 with h2; subst h2
    obtain ⟨a, a1, a2, a3, a4⟩ := inD_ok hL h1 hlt
    obtain ⟨_, _, _, _, _, q1, q2, _⟩ := hdD_ok hL a1 hlt
    have := lt3 hL (tkT_ok a2).2.2 q2
    exact ⟨by show j < t.1; omega, by show t.1 ≤ N; omega⟩
  · split at h
    · rename_i g
      have hlt := lt6 hL (isW_K g) hj
      obtain ⟨r', h1, h2⟩ := h
      obtain ⟨t, h3, h4⟩ := oB_inl h2
      injection h4 with h4; subst h4
      subst h3
      exact h1.lt hL hlt
    · split at h
      · rename_i g
        have hlt := lt6 hL (isW_K g) hj
        obtain ⟨r', h1, h2⟩ := h
        obtain ⟨t, h3, h4⟩ := oB_inl h2
        injection h4 with h4; subst h4
        subst h3
        exact h1.lt hL hlt
      · split at h
        · rename_i g
          have hlt := lt6 hL (isW_K g) hj
          obtain ⟨t, h1, h2⟩ := oB_inl h
          injection h2 with h2; subst h2
          obtain ⟨a, b, a1, _, b1, _, _, a2, b2, a3, _⟩ := rgD_ok hL h1 hlt
          obtain ⟨_, _, _, _, _, q1, q2, _⟩ := hdD_ok hL a1 hlt
          have := lt3 hL (tkT_ok b1).2.2 b2
          exact ⟨by show j < t.1; omega, by show t.1 ≤ N; omega⟩
        · split at h
          · rename_i g
            have hlt := lt6 hL (isW_K g) hj
            obtain ⟨r', h1, h2⟩ := h
            obtain ⟨t, h3, h4⟩ := oB_inl h2
            injection h4 with h4; subst h4
            subst h3
            rcases h1 with ⟨f, _, h1⟩ | ⟨a, h1, r2, h3, h4⟩
            · cases h1
            · obtain ⟨b, e1, e2⟩ := oB_inl h4
              subst e1
              obtain ⟨g, e3, e4⟩ := oB_inv e2
              injection e4 with e4; subst e4
              obtain ⟨_, _, _, _, _, _, _, q1, q2, _⟩ := usH_ok hL h1 hlt
              subst q1
              have h5 := h3.le hL q2
              obtain ⟨u0, _, u3, u2, u1, _⟩ := usT_ok e3
              have : j + 4 ≤ b.1 := h5.1
              have := lt3 hL (isS_K u0) h5.2
              have := lt3 hL (isS_K u2) (by omega)
              exact ⟨by show j < g; omega, by show g ≤ N; omega⟩
          · obtain ⟨r', h1, h2⟩ := h
            obtain ⟨t, h3, h4⟩ := oB_inl h2
            injection h4 with h4; subst h4
            subst h3
            rcases h1 with ⟨f, _, h1⟩ | ⟨b, h1, h3⟩
            · cases h1
            · obtain ⟨k1, _, n1⟩ := neH_ok h1
              obtain ⟨n2, _⟩ := nxT_ok n1
              have := lt1 hL k1 hj
              have := h3.lt hL (by omega)
              exact ⟨by show j < t.1; omega, this.2⟩
theorem Chs.le (hL : LstT u n N) : ∀ {m : Nat} {a b : StM}, Chs (IStp u n mt ms) m a b → a.1 ≤ N → a.1 ≤ b.1 ∧ b.1 ≤ N
  | 0, a, b, h, g => by
    have h : a = b := h
    subst h; exact ⟨Nat.le_refl _, g⟩
  | m + 1, a, b, h, g => by
    obtain ⟨c, ⟨_, r, h1, h2⟩, h3⟩ := h
    have l1 := h1.lt hL g
    subst h2
    have l2 := Chs.le hL h3 l1.2
    have l3 : r.1 ≤ b.1 := l2.1
    exact ⟨by omega, l2.2⟩
theorem moH_ok (hL : LstT u n N) (h : moH u n mt j = .inl b) (hj : j ≤ N) : isW u n 1 j = true ∧ nxT u n j = .inl (j + 1) ∧ newT u n 16 mt (.inl (j + 1)) = .inl (j + 2) ∧ tkK u n (j + 1) = 1 ∧ inNm u n mt (j + 1) = false ∧ mt.length ≠ 16 ∧ b = j + 3 ∧ b ≤ N ∧ isS u n 123 (j + 2) = true := by
  unfold moH at h
  obtain ⟨a, r1, r2, r3⟩ := tkT_inq h
  obtain ⟨i, g1, g2, g3, g4, g5⟩ := newT_inl r1
  obtain ⟨w, w1, w2, w3, w4⟩ := wT_inl g1
  injection w1 with w1; subst w1
  subst w2
  subst g2
  have l0 := lt6 hL w3 hj
  have l1 := lt1 hL g3 (by omega)
  have l2 := lt3 hL (isS_K r2) (by omega)
  rw [g1] at r1
  have en : nxT u n j = .inl (j + 1) := by
    have : wT u n 1 (.inl j) = nxT u n j := by unfold wT bq; dsimp only; rw [if_pos ⟨w3, w4⟩]
    rw [← this]; exact g1
  exact ⟨decide_eq_true ⟨w3, w4⟩, en, r1, g3, g4, g5, r3, by omega, r2⟩
theorem MoR.lt {r : Nat × List Row3 × Fin0} (hL : LstT u n N) (h : MoR u n fs j k (.inl r)) (hj : j ≤ N) : j < r.1 := by
  rcases h with ⟨f, _, h⟩ | ⟨b, h1, m, a, h2, h3⟩
  · cases h
  · obtain ⟨_, _, _, _, _, _, q1, q2, _⟩ := moH_ok hL h1 hj
    have l1 := h2.le hL q2
    have l1 : b ≤ a.1 := l1.1
    rcases h3 with ⟨_, h3⟩ | ⟨_, f, _, h3⟩
    · obtain ⟨e, e1, e2⟩ := oB_inl h3
      injection e2 with e2; subst e2
      have := (nxT_ok e1).1
      show j < e
      omega
    · cases h3
theorem k_isWd (h : ScQ u n S 4 (.inl j)) {w : Int} (hw : 1 ≤ w ∧ w ≤ 100) : mX3_isWord S 4 w = some (b2i (isW u n w j)) := k_isWord h hw
/-- an item -/
theorem k_item9 (hC : CtI u n N fs cur gv its S0 S) (hq : ScQ u n S 4 (.inl j)) (hj : j ≤ N) (hR : RwK S 170 (flat3 k)) (hl : k.length ≤ j) (h10 : gI S 4 10 = 0) (hN : N ≤ 1500) :
    WP (mX2_item S) (fun y => ChIt (9 + 10 * fs.length) S y ∧ ∃ res, ItR u n (fMt fs) (fMs fs) cur gv j k res ∧ IOut u n N fs its S0 k.length res y) := by
  have hL := hC.d.l
  unfold mX2_item ItR
  rw [k_isWd hq (by decide), bX_some, bIf]
  by_cases g2 : isW u n 2 j = true
  · have hlt := lt6 hL (isW_K g2) hj
    rw [if_pos g2]
    refine WP_bX.2 (WP_bX.2 ((k_plainI hC hq hlt hR hl h10 hN).mono (fun y hy => WP_some.2 (WP_some.2 ⟨hy.1, _, ?_, hy.2⟩))))
    rw [if_pos g2]
  rw [if_neg g2, k_isWd hq (by decide), bX_some, bIf]
  by_cases g3 : isW u n 3 j = true
  · have hlt := lt6 hL (isW_K g3) hj
    rw [if_pos g3]
    refine WP_bX.2 (WP_bX.2 ((k_plainV (s := 1) (Or.inl rfl) hC hq hlt hR hl h10 hN).mono (fun y hy => WP_some.2 (WP_some.2 ?_))))
    obtain ⟨y1, r, y2, y3⟩ := hy
    refine ⟨y1, _, ?_, y3⟩
    rw [if_neg g2, if_pos g3]
    exact ⟨r, y2, rfl⟩
  rw [if_neg g3, k_isWd hq (by decide), bX_some, bIf]
  by_cases g4 : isW u n 4 j = true
  · have hlt := lt6 hL (isW_K g4) hj
    rw [if_pos g4]
    refine WP_bX.2 (WP_bX.2 ((k_plainV (s := 2) (Or.inr rfl) hC hq hlt hR hl h10 hN).mono (fun y hy => WP_some.2 (WP_some.2 ?_))))
    obtain ⟨y1, r, y2, y3⟩ := hy
    refine ⟨y1, _, ?_, y3⟩
    rw [if_neg g2, if_neg g3, if_pos g4]
    exact ⟨r, y2, rfl⟩
  rw [if_neg g4, k_isWd hq (by decide), bX_some, bIf]
  by_cases g5 : isW u n 5 j = true
  · have hlt := lt6 hL (isW_K g5) hj
    rw [if_pos g5]
    refine WP_bX.2 (WP_bX.2 ((k_plainR hC hq hlt hR hl h10 hN).mono (fun y hy => WP_some.2 (WP_some.2 ⟨hy.1, _, ?_, hy.2⟩))))
    rw [if_neg g2, if_neg g3, if_neg g4, if_pos g5]
  rw [if_neg g5, k_isWd hq (by decide), bX_some, bIf]
  by_cases g6 : isW u n 6 j = true
  · have hlt := lt6 hL (isW_K g6) hj
    rw [if_pos g6]
    refine WP_bX.2 (WP_bX.2 ((k_inst7 hC hq hlt hR hl h10 hN).mono (fun y hy => WP_some.2 (WP_some.2 ?_))))
    obtain ⟨y1, r, y2, y3⟩ := hy
    refine ⟨y1, _, ?_, y3⟩
    rw [if_neg g2, if_neg g3, if_neg g4, if_neg g5, if_pos g6]
    exact ⟨r, y2, rfl⟩
  rw [if_neg g6, k_isName hq, bX_some, bIf]
  by_cases g1 : tkK u n j = 1
  · have hlt := lt1 hL g1 hj
    have e1 : isK u n 1 (.inl j) = true := decide_eq_true g1
    rw [e1, if_pos rfl]
    refine WP_bX.2 (WP_bX.2 ((k_next7 hC hq g1 hlt hR hl h10 hN).mono (fun y hy => WP_some.2 (WP_some.2 ?_))))
    obtain ⟨y1, r, y2, y3⟩ := hy
    refine ⟨y1, _, ?_, y3⟩
    rw [if_neg g2, if_neg g3, if_neg g4, if_neg g5, if_neg g6]
    exact ⟨r, y2, rfl⟩
  · have e1 : isK u n 1 (.inl j) = false := decide_eq_false g1
    rw [e1, if_neg (by decide)]
    refine WP_bX.2 (WP_bX.2 ((k_must hq hC.d.t.b (b := false)).mono (fun y hy => WP_some.2 (WP_some.2 ?_))))
    obtain ⟨y1, y2⟩ := hy
    have y1 : ScQ u n y 4 (.inr (2, (tkB u n j : Int))) := y1
    refine ⟨(ChXd.refl.f y2).i, .inr (2, (tkB u n j : Int)), ?_, y1, (hR.f y2).2.2.1⟩
    rw [if_neg g2, if_neg g3, if_neg g4, if_neg g5, if_neg g6]
    refine ⟨.inr (2, (tkB u n j : Int)), Or.inl ⟨_, ?_, rfl⟩, rfl⟩
    unfold neH
    rw [if_neg g1]; rfl
/-- a state between items -/
def StIt (u : Nat → Int) (n N : Nat) (fs : List Fin0) (S0 : Sto) (a : StM) (s : Sto) : Prop := CtI u n N fs a.2.2.1 a.2.2.2.1 a.2.2.2.2 S0 s ∧ ScQ u n s 4 (.inl a.1) ∧ RwK s 170 (flat3 a.2.1) ∧ gI s 4 10 = 0 ∧ a.1 ≤ N ∧ a.2.1.length ≤ a.1
/-- all items -/
theorem k_items (hN : N ≤ 1500) {a0 : StM} (h : StIt u n N fs S0 a0 S) : WP (lpF mX2_module_L181 S) (fun y => ChIt (9 + 10 * fs.length) S y ∧ ∃ m a, Chs (IStp u n (fMt fs) (fMs fs)) m a0 a ∧
      ((isS u n 125 a.1 = true ∧ StIt u n N fs S0 a y) ∨ (isS u n 125 a.1 = false ∧ ∃ f, ItR u n (fMt fs) (fMs fs) a.2.2.1 a.2.2.2.1 a.1 a.2.1 (.inr f) ∧ ScQ u n y 4 (.inr f) ∧ okCap (gI y 170 2)))) := by
  have hn := h.1.d.t.b
  have hu := h.1.d.t.u
  refine WP_lpF (fun s => ChIt (9 + 10 * fs.length) S s ∧ ∃ m a, Chs (IStp u n (fMt fs) (fMs fs)) m a0 a ∧ (StIt u n N fs S0 a s ∨ (isS u n 125 a.1 = false ∧ ∃ f, ItR u n (fMt fs) (fMs fs) a.2.2.1 a.2.2.2.1 a.1 a.2.1 (.inr f) ∧ ScQ u n s 4 (.inr f) ∧ okCap (gI s 170 2)))) (fun s => if gI s 4 8 = 0 then 1 + (n - (gI s 4 4).toNat) else 0) ⟨ChIt.refl, 0, a0, rfl, Or.inl h⟩ ?_ (fun s hs => ?_)
  · exact ite_lt (show 1 + (n - _) < 1000000000000 by omega) (show 0 < 1000000000000 by omega)
  obtain ⟨s1, m, a, s2, s3⟩ := hs
  unfold mX2_module_L181
  rcases s3 with s3 | ⟨s3, f, s4, s5, s6⟩
  · obtain ⟨c1, c2, c3, c4, c5, c6⟩ := s3
    have hL := c1.d.l
    have m8 : gI s 4 8 = 0 := c2.1
    have m4 : gI s 4 4 = (tkB u n a.1 : Nat) := c2.2.2.1
    rw [k_ok c2, bX_some, bIf, show okQ (.inl a.1) = true from rfl, if_pos rfl, k_is c2 hu (by decide), bX_some, bIf2]
    show WP (bX (if isS u n 125 a.1 = true then some false else some true) _) _
    by_cases g : isS u n 125 a.1 = true
    · rw [if_pos g, bX_some, if_neg (by decide)]
      exact WP_some.2 ⟨s1, m, a, s2, Or.inl ⟨g, c1, c2, c3, c4, c5, c6⟩⟩
    · rw [if_neg g, bX_some, if_pos rfl]
      refine WP_bX.2 ((k_item9 c1 c2 c5 c3 c6 c4 hN).mono (fun y hy => WP_some.2 ?_))
      obtain ⟨y1, res, y2, y3⟩ := hy
      cases res with
      | inr f =>
        obtain ⟨y4, y5⟩ := y3
        refine ⟨⟨s1.tr y1, m, a, s2, Or.inr ⟨bool_f g, f, y2, y4, y5⟩⟩, ?_⟩
        show (if gI y 4 8 = 0 then 1 + (n - (gI y 4 4).toNat) else 0) < (if gI s 4 8 = 0 then 1 + (n - (gI s 4 4).toNat) else 0)
        rw [if_neg (by rw [y4.1]; exact y4.2.1), if_pos m8]; omega
      | inl r =>
        obtain ⟨y4, y5, y6, y7, y8, y9⟩ := y3
        have hlt := (y2.lt hL c5).1
        have haN : a.1 < N := by omega
        have hBl := hL.lt haN
        have hsl := tkB_slt hBl hlt
        have y8' : gI y 4 8 = 0 := y5.1
        have y4' : gI y 4 4 = (tkB u n r.1 : Nat) := y5.2.2.1
        refine ⟨⟨s1.tr y1, m + 1, (r.1, r.2.1, r.2.2.1, r.2.2.2.1, a.2.2.2.2 ++ r.2.2.2.2.map (fun x => (x, a.2.1.length, r.2.1.length))), s2.snoc ⟨bool_f g, r, y2, rfl⟩, Or.inl ⟨y4, y5, y6, y7, y8, y9⟩⟩, ?_⟩
        show (if gI y 4 8 = 0 then 1 + (n - (gI y 4 4).toNat) else 0) < (if gI s 4 8 = 0 then 1 + (n - (gI s 4 4).toNat) else 0)
        rw [if_pos y8', if_pos m8, y4', m4, Int.toNat_natCast, Int.toNat_natCast]; omega
  · rw [k_ok s5, bX_some, bIf, okQ_f, if_neg (by decide), bX_some, if_neg (by decide)]
    exact WP_some.2 ⟨s1, m, a, s2, Or.inr ⟨s3, f, s4, s5, s6⟩⟩
end KIM
