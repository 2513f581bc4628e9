/-! the class: the most that can come behind a net -/
def Tg (C : Chp) (s a : Nat) (t : List Nat) : Prop := ∃ e, e < kO C + kR C ∧ kFls C (s : Int) (e : Int) = false ∧ Tl C e a t
def MxP (C : Chp) (P : List Nat → Prop) (v : Int) : Prop := (v = -1 ∧ ∀ t, ¬ P t) ∨ (0 ≤ v ∧ (∃ t, P t ∧ tLen C t = v) ∧ ∀ t, P t → tLen C t ≤ v)
def Pe (C : Chp) (s m a : Nat) (t : List Nat) : Prop := ∃ e, e < m ∧ kFls C (s : Int) (e : Int) = false ∧ kEnd C e = (a : Int) ∧ t = [10000 + e]
def Pb (C : Chp) (s lo a : Nat) (t : List Nat) : Prop := Pe C s (kO C + kR C) a t ∨ ∃ x u, t = x :: u ∧ lo ≤ x ∧ rdN C a x ∧ Tg C s x u
def KTx (S : Sto) (k : Nat) (C : Chp) : Prop := gR S 244 1 = 344 + 22 * k ∧ RepK S (344 + 22 * k) C ∧ RepF S (344 + 22 * k) C
section RESTS
variable {C : Chp} {s a k lo g : Nat} {P Q : List Nat → Prop} {u v : Int} {S z : Sto} {t : List Nat}
theorem MxP.cg (h : MxP C P v) (e : ∀ t, Q t ↔ P t) : MxP C Q v := by
  have : Q = P := funext fun t => propext (e t)
  rw [this]; exact h
theorem MxP.or (h : MxP C P v) (g : MxP C Q u) : MxP C (fun t => P t ∨ Q t) (max v u) := by
  rcases h with ⟨h0, h⟩ | ⟨h1, ⟨t, h2, h3⟩, h4⟩ <;> rcases g with ⟨g0, g⟩ | ⟨g1, ⟨t', g2, g3⟩, g4⟩
  · exact .inl ⟨by omega, fun t k => k.elim (h t) (g t)⟩
  · exact .inr ⟨by omega, ⟨t', .inr g2, by omega⟩, fun t k => k.elim (fun k => absurd k (h t)) (fun k => by have := g4 t k; omega)⟩
  · exact .inr ⟨by omega, ⟨t, .inl h2, by omega⟩, fun t k => k.elim (fun k => by have := h4 t k; omega) (fun k => absurd k (g t))⟩
  · refine .inr ⟨by omega, ?_, fun t k => k.elim (fun k => by have := h4 t k; omega) (fun k => by have := g4 t k; omega)⟩
    by_cases q : u ≤ v
    · exact ⟨t, .inl h2, by omega⟩
    · exact ⟨t', .inr g2, by omega⟩
theorem MxP.none (h : ∀ t, ¬ P t) : MxP C P (-1) := .inl ⟨rfl, h⟩
theorem MxP.end (e : Nat) : MxP C (fun t => t = [10000 + e]) (moF C e) := .inr ⟨moF_rng.1, ⟨_, rfl, tLen_e⟩, fun t h => by rw [h, tLen_e]; exact Int.le_refl _⟩
theorem MxP.cons {x : Nat} (hx : x < 10000) (h0 : 0 ≤ kTime C x) (h : MxP C P v) (hv : v ≠ -1) : MxP C (fun t => ∃ u, t = x :: u ∧ P u) (kTime C x + v) := by
  rcases h with ⟨h, _⟩ | ⟨h1, ⟨t, h2, h3⟩, h4⟩
  · exact absurd h hv
  · refine .inr ⟨by omega, ⟨x :: t, ⟨t, rfl, h2⟩, by rw [tLen_n hx, h3]⟩, fun t' ⟨u, e, h⟩ => ?_⟩
    rw [e, tLen_n hx]; have := h4 u h; omega
theorem Tg_rng (w : WFC C) (wp : WFP C) (ha : a < kN C) (h : Tg C s a t) : 0 ≤ tLen C t ∧ tLen C t ≤ 130000 := by
  obtain ⟨e, _, _, h⟩ := h
  have l := Tl_len w _ _ h ha
  have r := Tl_rng w wp _ _ h ha
  have := kN_le w
  omega
theorem Pb_Tg (w : WFC C) (h : Pb C s lo a t) : Tg C s a t := by
  rcases h with ⟨e, h1, h2, h3, rfl⟩ | ⟨x, u, rfl, _, h1, e, h2, h3, h4⟩
  · exact ⟨e, h1, h2, Tl_fin h3⟩
  · exact ⟨e, h2, h3, Tl_go h1 h4⟩
theorem Tg_Pb (w : WFC C) (hl : ∀ x, rdN C a x → lo ≤ x) (h : Tg C s a t) : Pb C s lo a t := by
  obtain ⟨e, h1, h2, h3⟩ := h
  obtain ⟨x, u, rfl⟩ := Tl_ne h3
  rcases Tl_inv h3 with ⟨rfl, rfl, g⟩ | ⟨g1, g2⟩
  · exact .inl ⟨e, h1, h2, g, rfl⟩
  · exact .inr ⟨x, u, rfl, hl x g1, g1, e, h1, h2, g2⟩
theorem Pb_rng (w : WFC C) (wp : WFP C) (ha : a < kN C) (h : MxP C (Pb C s lo a) v) : -1 ≤ v ∧ v ≤ 130000 := by
  rcases h with ⟨h, _⟩ | ⟨h1, ⟨t, h2, h3⟩, _⟩
  · omega
  · have := Tg_rng w wp ha (Pb_Tg w h2); omega
theorem KTx.mv (h : KTx S k C) (e : ∀ a i, 344 + 22 * k ≤ a → a ≤ 344 + 22 * k + 21 → gI z a i = gI S a i) (eR : gR z 244 1 = gR S 244 1) : KTx z k C := by
  refine ⟨eR.trans h.1, h.2.1.cg e, ?_⟩
  have h3 := h.2.2
  unfold RepF at h3 ⊢
  simp (disch := omega) only [e]
  exact h3
theorem KTx.ch {lo hi : Nat} (h : KTx S k C) (g : Ch lo hi S z) (q : hi < 344) : KTx z k C := h.mv (fun a i l1 l2 => g.1 a i (by omega)) (g.2.2.1 _ _)
theorem k_more (h : KTx S k C) (w : WFC C) (hk : k < 4) {e : Nat} (he : e < 1000) : mX17_more S (e : Int) = some (moF C e) := by
  have hn := w.nums
  have e3 := h.2.1.1.2.2.1
  rw [w.o] at e3
  unfold mX17_more
  rw [h.1, gk_chip hk, e3, w32_id (by omega), w32_id (by omega)]
  unfold moF
  by_cases q : e < kO C
  · rw [if_pos (by omega), if_pos q]
  · rw [if_neg (by omega), if_neg q]
theorem k_ro2 (h : KTx S k C) (w : WFC C) (hk : k < 4) : WP (lpF mX17_restsOf_L2 (0, S)) (fun z => Ch 248 248 S z ∧ ∀ a, a < kN C → gI z 248 a = -1) := by
  have hn := w.nums
  refine WP_cnt (kN C) (fun i z => z.1 = (i : Int) ∧ Ch 248 248 S z.2 ∧ ∀ a, a < i → gI z.2 248 a = -1) (by unfold cFU; omega) ⟨rfl, Ch.refl, fun a h => absurd h (Nat.not_lt_zero _)⟩ (fun i z hi hI => ?_) (fun z hI => ?_)
  · obtain ⟨z1, z2⟩ := z
    obtain ⟨b1, b2, b3⟩ := hI
    dsimp only at b1 b2 b3
    subst b1
    have hz := h.ch b2 (by omega)
    unfold mX17_restsOf_L2
    dsimp only
    rw [hz.1, gk_chip hk, k_nets hz.2.1 w, bX_some, w32_id (by omega), w32_id (by omega), if_pos (by omega), wrI_e (by omega), Int.toNat_natCast]
    refine WP_some.2 ⟨by show (i : Int) + 1 = _; omega, b2.sI (by omega), fun a ha => ?_⟩
    dsimp only
    by_cases q : a = i
    · rw [q, gI_set]; rfl
    · rw [hI_sI_i q]; exact b3 a (by omega)
  · obtain ⟨z1, z2⟩ := z
    obtain ⟨b1, b2, b3⟩ := hI
    dsimp only at b1 b2 b3
    subst b1
    have hz := h.ch b2 (by omega)
    unfold mX17_restsOf_L2
    dsimp only
    rw [hz.1, gk_chip hk, k_nets hz.2.1 w, bX_some, if_neg (by omega)]
    exact WP_some.2 ⟨b2, b3⟩
theorem k_ro28 (h : KTx S k C) (w : WFC C) (wF : WFF C) (hk : k < 4) (hs : s < kB C) (h0 : ∀ a, a < kN C → gI S 248 a = -1) : WP (lpF (mX17_restsOf_L28 (s : Int)) (0, S)) (fun z => Ch 248 248 S z ∧ ∀ a, a < kN C → MxP C (Pe C s (kO C + kR C) a) (gI z 248 a)) := by
  have hn := w.nums
  refine WP_cnt (kO C + kR C) (fun i z => z.1 = (i : Int) ∧ Ch 248 248 S z.2 ∧ ∀ a, a < kN C → MxP C (Pe C s i a) (gI z.2 248 a)) (by unfold cFU; omega) ⟨rfl, Ch.refl, fun a ha => ?_⟩ (fun i z hi hI => ?_) (fun z hI => ?_)
  · show MxP C _ (gI S 248 a)
    rw [h0 a ha]
    exact MxP.none (fun t ⟨e, g, _⟩ => absurd g (Nat.not_lt_zero _))
  · obtain ⟨z1, z2⟩ := z
    obtain ⟨b1, b2, b3⟩ := hI
    dsimp only at b1 b2 b3
    subst b1
    have hz := h.ch b2 (by omega)
    have kr := kEnd_rng w hi
    have same : ∀ a : Nat, (∀ t, ¬ (kFls C (s : Int) (i : Int) = false ∧ kEnd C i = (a : Int) ∧ t = [10000 + i])) → ∀ t, Pe C s (i + 1) a t ↔ Pe C s i a t := fun a no t =>
      ⟨fun ⟨e, e1, e2, e3, e4⟩ => by
        by_cases q : e = i
        · subst q; exact absurd ⟨e2, e3, e4⟩ (no t)
        · exact ⟨e, by omega, e2, e3, e4⟩, fun ⟨e, e1, e2⟩ => ⟨e, by omega, e2⟩⟩
    have skip : (∀ (a : Nat) (t : List Nat), a < kN C → ¬ (kFls C (s : Int) (i : Int) = false ∧ kEnd C i = (a : Int) ∧ t = [10000 + i])) → WP (some (Sum.inl ((i : Int) + 1, z2)) : Option ((Int × Sto) ⊕ Sto)) (WE (fun z => z.1 = ((i + 1 : Nat) : Int) ∧ Ch 248 248 S z.2 ∧ ∀ a, a < kN C → MxP C (Pe C s (i + 1) a) (gI z.2 248 a)) (fun z => Ch 248 248 S z ∧ ∀ a, a < kN C → MxP C (Pe C s (kO C + kR C) a) (gI z 248 a))) := fun no =>
      WP_some.2 ⟨by show (i : Int) + 1 = _; omega, b2, fun a ha => (b3 a ha).cg (same a (fun t => no a t ha))⟩
    unfold mX17_restsOf_L28
    dsimp only
    rw [k_ends hk rfl hz.1 hz.2.1 w, bX_some, w32_id (x := (i : Int)) (by omega), w32_id (x := ((kO C + kR C : Nat) : Int)) (by omega), if_pos (by omega), k_netOfEnd hk rfl hz.1 hz.2.1 w hi, bX_some, w32_id (x := kEnd C i) (by omega)]
    by_cases q : 0 ≤ kEnd C i
    · rw [if_pos q, k_isFalse hk rfl hz.1 hz.2.2 wF ⟨by omega, by omega⟩ ⟨by omega, by omega⟩, bX_some]
      by_cases f : kFls C (s : Int) (i : Int) = true
      · rw [f, if_neg (by decide), bX_some, if_neg (by decide), bX_some]
        exact skip (fun a t _ g => by rw [f] at g; exact absurd g.1 (by decide))
      · have f := Bool.eq_false_iff.2 f
        obtain ⟨n, hn'⟩ : ∃ n : Nat, kEnd C i = (n : Int) := ⟨(kEnd C i).toNat, by omega⟩
        have hnn : n < kN C := by omega
        have m := b3 n hnn
        have vr := gI_rng z2 248 n
        have mr := moF_rng (C := C) (e := i)
        rw [f, if_pos (by decide), bX_some, if_pos rfl, hn', rdI_e (by omega), Int.toNat_natCast, k_more hz w hk (by omega), bX_some, max_e vr (by omega), bX_some, wrI_e (by omega), Int.toNat_natCast, bX_some]
        refine WP_some.2 ⟨by show (i : Int) + 1 = _; omega, b2.sI (by omega), fun a ha => ?_⟩
        dsimp only
        by_cases e : a = n
        · subst e
          rw [gI_set, w32_id (by omega)]
          refine (m.or (MxP.end (C := C) i)).cg (fun t => ⟨fun ⟨e, e1, e2, e3, e4⟩ => ?_, fun g => ?_⟩)
          · by_cases q : e = i
            · subst q; exact .inr e4
            · exact .inl ⟨e, by omega, e2, e3, e4⟩
          · rcases g with ⟨e, e1, e2⟩ | g
            · exact ⟨e, by omega, e2⟩
            · exact ⟨i, by omega, f, hn', g⟩
        · rw [hI_sI_i e]
          exact (b3 a ha).cg (same a (fun t g => by rw [hn'] at g; have := g.2.1; omega))
    · rw [if_neg q, bX_some, if_neg (by decide), bX_some]
      exact skip (fun a t _ g => by have := g.2.1; omega)
  · obtain ⟨z1, z2⟩ := z
    obtain ⟨b1, b2, b3⟩ := hI
    dsimp only at b1 b2 b3
    subst b1
    have hz := h.ch b2 (by omega)
    unfold mX17_restsOf_L28
    dsimp only
    rw [k_ends hk rfl hz.1 hz.2.1 w, bX_some, if_neg (by omega)]
    exact WP_some.2 ⟨b2, b3⟩
theorem k_ro120 (h : KTx S k C) (w : WFC C) (wp : WFP C) (hk : k < 4) (hg : g < kG C) (ht : ∀ n, n < kN C → gI S 245 n = kTime C n) {T : Sto}
    (hM : ∀ a, a < kN C → MxP C (Pb C s (kB C + g + 1) a) (gI S 248 a)) (hne : gI S 248 (kB C + g) ≠ -1) :
    WP (lpF (mX17_restsOf_L120 ((g : Int), T) ((kB C : Int) + (g : Int))) (0, S)) (fun z => Ch 248 248 S z ∧ ∀ a, a < kN C → MxP C (Pb C s (kB C + g) a) (gI z 248 a)) := by
  have hn := w.nums
  have xN : kB C + g < kN C := by omega
  have hx : ∀ t, Tg C s (kB C + g) t ↔ Pb C s (kB C + g + 1) (kB C + g) t := fun t => ⟨Tg_Pb w (fun x hx => (rdN_lt w hx).1), Pb_Tg w⟩
  have Mx : MxP C (Tg C s (kB C + g)) (gI S 248 (kB C + g)) := (hM _ xN).cg hx
  have tr := kTime_rng w wp xN
  have Mc := Mx.cons (x := kB C + g) (by omega) tr.1 hne
  have vx := Pb_rng w wp xN (hM _ xN)
  refine WP_cnt (kAr C g) (fun i z => z.1 = (i : Int) ∧ Ch 248 248 S z.2 ∧ gI z.2 248 (kB C + g) = gI S 248 (kB C + g) ∧ ∀ a, a < kN C → MxP C (fun t => Pb C s (kB C + g + 1) a t ∨ ((∃ j, j < i ∧ kP C g j = a) ∧ ∃ u, t = (kB C + g) :: u ∧ Tg C s (kB C + g) u)) (gI z.2 248 a)) (by have := w.ar hg; unfold cFU; omega) ⟨rfl, Ch.refl, rfl, fun a ha => ?_⟩ (fun i z hi hI => ?_) (fun z hI => ?_)
  · exact (hM a ha).cg (fun t => ⟨fun g => g.elim id (fun ⟨⟨j, j1, _⟩, _⟩ => absurd j1 (Nat.not_lt_zero _)), .inl⟩)
  · obtain ⟨z1, z2⟩ := z
    obtain ⟨b1, b2, b3, b4⟩ := hI
    dsimp only at b1 b2 b3 b4
    subst b1
    have hz := h.ch b2 (by omega)
    have p := w.p hg hi
    have ar := w.ar hg
    have p5 := hz.2.1.2.2.1 (3 * g + i) (by omega)
    rw [p.1] at p5
    have zt : (3 * (g : Int) + (i : Int)).toNat = 3 * g + i := by omega
    have zx : ((kB C : Int) + (g : Int)).toNat = kB C + g := by omega
    have vr := gI_rng z2 248 (kP C g i)
    unfold mX17_restsOf_L120
    dsimp only
    rw [hz.1, gk_chip hk, k_inputsOf hz.2.1 w (by omega), bX_some, Int.toNat_natCast, w32_id (x := (i : Int)) (by omega), w32_id (x := ((kAr C g : Nat) : Int)) (by omega), if_pos (by omega), gk_chip hk, rdI_e (by omega), zt, p5, rdI_e (by omega), Int.toNat_natCast, rdI_e (by omega), zx, (b2.1 245 _ (by omega)).trans (ht _ xN), rdI_e (by omega), zx, b3, max_e vr (by omega), bX_some, wrI_e (by omega), Int.toNat_natCast]
    refine WP_some.2 ⟨by show (i : Int) + 1 = _; omega, b2.sI (by omega), ?_, fun a ha => ?_⟩
    · dsimp only; rw [hI_sI_i (by omega)]; exact b3
    · dsimp only
      by_cases q : a = kP C g i
      · subst q
        rw [gI_set, w32_id (by omega)]
        refine ((b4 _ ha).or Mc).cg (fun t => ⟨fun g' => ?_, fun g' => ?_⟩)
        · rcases g' with g' | ⟨_, g'⟩
          · exact .inl (.inl g')
          · exact .inr g'
        · rcases g' with (g' | ⟨⟨j, j1, j2⟩, g'⟩) | g'
          · exact .inl g'
          · exact .inr ⟨⟨j, by omega, j2⟩, g'⟩
          · exact .inr ⟨⟨i, by omega, rfl⟩, g'⟩
      · rw [hI_sI_i q]
        refine (b4 a ha).cg (fun t => ⟨fun g' => ?_, fun g' => ?_⟩)
        · rcases g' with g' | ⟨⟨j, j1, j2⟩, g'⟩
          · exact .inl g'
          · by_cases e : j = i
            · subst e; exact absurd j2.symm q
            · exact .inr ⟨⟨j, by omega, j2⟩, g'⟩
        · rcases g' with g' | ⟨⟨j, j1, j2⟩, g'⟩
          · exact .inl g'
          · exact .inr ⟨⟨j, by omega, j2⟩, g'⟩
  · obtain ⟨z1, z2⟩ := z
    obtain ⟨b1, b2, b3, b4⟩ := hI
    dsimp only at b1 b2 b3 b4
    subst b1
    have hz := h.ch b2 (by omega)
    unfold mX17_restsOf_L120
    dsimp only
    rw [hz.1, gk_chip hk, k_inputsOf hz.2.1 w (by omega), bX_some, Int.toNat_natCast, if_neg (by omega)]
    refine WP_some.2 ⟨b2, fun a ha => (b4 a ha).cg (fun t => ⟨fun g' => ?_, fun g' => ?_⟩)⟩
    · rcases g' with g' | ⟨x, u, e1, e2, e3, e4⟩
      · exact .inl (.inl g')
      · by_cases e : x = kB C + g
        · subst e
          obtain ⟨g2, j, j1, j2, j3, j4⟩ := e3
          have : g2 = g := by omega
          subst this
          exact .inr ⟨⟨j, j2, j3⟩, u, e1, e4⟩
        · exact .inl (.inr ⟨x, u, e1, by omega, e3, e4⟩)
    · rcases g' with (g' | ⟨x, u, e1, e2, e3, e4⟩) | ⟨⟨j, j1, j2⟩, u, e1, e4⟩
      · exact .inl g'
      · exact .inr ⟨x, u, e1, by omega, e3, e4⟩
      · exact .inr ⟨_, u, e1, Nat.le_refl _, ⟨g, j, hg, j1, j2, rfl⟩, e4⟩
theorem k_ro91 (h : KTx S k C) (w : WFC C) (wp : WFP C) (hk : k < 4) (ht : ∀ n, n < kN C → gI S 245 n = kTime C n)
    (hM : ∀ a, a < kN C → MxP C (Pb C s (kN C) a) (gI S 248 a)) :
    WP (lpF mX17_restsOf_L91 ((kG C : Int) - 1, S)) (fun z => Ch 248 248 S z ∧ ∀ a, a < kN C → MxP C (Tg C s a) (gI z 248 a)) := by
  have hn := w.nums
  refine WP_cnt (kG C) (fun i z => z.1 = (kG C : Int) - 1 - (i : Int) ∧ Ch 248 248 S z.2 ∧ ∀ a, a < kN C → MxP C (Pb C s (kN C - i) a) (gI z.2 248 a)) (by unfold cFU; omega) ⟨by dsimp only; omega, Ch.refl, hM⟩ (fun i z hi hI => ?_) (fun z hI => ?_)
  · obtain ⟨z1, z2⟩ := z
    obtain ⟨b1, b2, b3⟩ := hI
    dsimp only at b1 b2 b3
    obtain ⟨g, hg⟩ : ∃ g : Nat, g = kG C - 1 - i := ⟨_, rfl⟩
    have ez : z1 = (g : Int) := by omega
    subst ez
    have gg : g < kG C := by omega
    have xN : kB C + g < kN C := by omega
    have hz := h.ch b2 (by omega)
    have zx : ((kB C : Int) + (g : Int)).toNat = kB C + g := by omega
    have b3' : ∀ a, a < kN C → MxP C (Pb C s (kB C + g + 1) a) (gI z2 248 a) := fun a ha => by
      have := b3 a ha
      rw [show kN C - i = kB C + g + 1 by omega] at this; exact this
    unfold mX17_restsOf_L91
    dsimp only
    rw [w32_id (x := (g : Int)) (by omega), if_pos (by omega), hz.1, gk_chip hk, k_netOfGate hz.2.1 w, bX_some, rdI_e (by omega), zx, w32_gI]
    by_cases q : gI z2 248 (kB C + g) = -1
    · rw [if_pos q, bX_some]
      refine WP_some.2 ⟨by show (g : Int) + -1 = _; omega, b2, fun a ha => ?_⟩
      rw [show kN C - (i + 1) = kB C + g by omega]
      refine (b3' a ha).cg (fun t => ⟨fun g' => ?_, fun g' => ?_⟩)
      · rcases g' with g' | ⟨x, u, e1, e2, e3, e4⟩
        · exact .inl g'
        · by_cases e : x = kB C + g
          · subst e
            exfalso
            rcases b3' _ xN with ⟨_, no⟩ | ⟨ge, _⟩
            · exact no u (Tg_Pb w (fun x hx => (rdN_lt w hx).1) e4)
            · omega
          · exact .inr ⟨x, u, e1, by omega, e3, e4⟩
      · rcases g' with g' | ⟨x, u, e1, e2, e3, e4⟩
        · exact .inl g'
        · exact .inr ⟨x, u, e1, by omega, e3, e4⟩
    · rw [if_neg q]
      refine WP_call (R := fun y => Ch 248 248 z2 y ∧ ∀ a, a < kN C → MxP C (Pb C s (kB C + g) a) (gI y 248 a)) (WP_call (k_ro120 hz w wp hk gg (fun n hn' => (b2.1 _ _ (by omega)).trans (ht n hn')) b3' q) (fun y hy => WP_some.2 hy)) (fun y hy => ?_)
      refine WP_some.2 ⟨by show (g : Int) + -1 = _; omega, b2.tr hy.1 (by omega) (by omega), fun a ha => ?_⟩
      rw [show kN C - (i + 1) = kB C + g by omega]
      exact hy.2 a ha
  · obtain ⟨z1, z2⟩ := z
    obtain ⟨b1, b2, b3⟩ := hI
    dsimp only at b1 b2 b3
    unfold mX17_restsOf_L91
    dsimp only
    rw [b1, w32_id (by omega), if_neg (by omega)]
    refine WP_some.2 ⟨b2, fun a ha => (b3 a ha).cg (fun t => ⟨Tg_Pb w (fun x hx => by have := (rdN_lt w hx).2.1; omega), Pb_Tg w⟩)⟩
theorem k_restsOf (h : KTx S k C) (w : WFC C) (wp : WFP C) (wF : WFF C) (hk : k < 4) (hs : s < kB C) (ht : ∀ n, n < kN C → gI S 245 n = kTime C n) :
    WP (mX17_restsOf S (s : Int)) (fun z => Ch 248 248 S z ∧ ∀ a, a < kN C → MxP C (Tg C s a) (gI z 248 a)) := by
  have hn := w.nums
  unfold mX17_restsOf
  refine WP_call (k_ro2 h w hk) (fun x1 h1 => ?_)
  have hx1 := h.ch h1.1 (by omega)
  refine WP_call (k_ro28 hx1 w wF hk hs h1.2) (fun x2 h2 => ?_)
  have c2 := h1.1.tr h2.1 (by omega) (by omega)
  have hx2 := h.ch c2 (by omega)
  have e6 := hx2.2.1.1.2.2.2.1
  rw [w.g] at e6
  rw [hx2.1, gk_chip hk, e6]
  refine WP_call (k_ro91 hx2 w wp hk (fun n hn' => (c2.1 _ _ (by omega)).trans (ht n hn')) (fun a ha => (h2.2 a ha).cg (fun t => ⟨fun g => ?_, .inl⟩))) (fun x3 h3 => WP_some.2 ⟨c2.tr h3.1 (by omega) (by omega), h3.2⟩)
  rcases g with g | ⟨x, u, _, e2, e3, _⟩
  · exact g
  · have := (rdN_lt w e3).2.2; omega
end RESTS
