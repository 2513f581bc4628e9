/-! the class: a search that may rob, level by level -/
def poL (B : Nat → List Nat) (r : Nat) (l : List Nat) : Nat → List Nat := fun s => if s = r then l else B s
theorem WP_lpM {σ ρ : Type} {f : σ → Option (σ ⊕ ρ)} {P : ρ → Prop} (I : σ → Nat → Prop) (step : ∀ s m, I s m → WP (f s) (WE (fun s' => ∃ m', m' < m ∧ I s' m') P)) {s : σ} {m : Nat} (h0 : I s m) (hm : m < cFU) : WP (lpF f s) P := by
  have key : ∀ (n : Nat) (s : σ) (m : Nat), I s m → m < n → WP (lp f n s) P := by
    intro n
    induction n with
    | zero => intro s m _ h; exact absurd h (Nat.not_lt_zero _)
    | succ n ih =>
      intro s m hI hμ
      obtain ⟨r, h1, h2⟩ := step s m hI
      cases r with
      | inl s' =>
        obtain ⟨m', g1, g2⟩ := h2
        obtain ⟨x, g3, g4⟩ := ih s' m' g2 (by omega)
        exact ⟨x, by show (match f s with | none => none | some (.inl s') => lp f n s' | some (.inr r) => some r) = _; rw [h1]; exact g3, g4⟩
      | inr r => exact ⟨r, by show (match f s with | none => none | some (.inl s') => lp f n s' | some (.inr r) => some r) = _; rw [h1], h2⟩
  exact key _ s m h0 hm
section KDEAR2
variable {S z : Sto} {k : Nat} {C R : Chp} {n t ct : Nat} {B : Nat → List Nat} {Cv Dn : Nat → Prop}
theorem Dl.pop {x e : Nat} {l : List Nat} (h : Dl C R n (oW R n) z t B Dn Dn ct) (hB : B (t % 12) = x :: l) (he : gI z 235 (t % 12) = (e : Int) ∧ e < ct ∧ Chn z ct (gI z 236 e) l) : Dl C R n (oW R n) (sI z 235 (t % 12) (gI z 236 e)) t (poL B (t % 12) l) (fun p => Dn p ∨ p = x) Dn ct := by
  obtain ⟨⟨h1, h2⟩, h3, h4, h5, h6, h7, h8⟩ := h
  have d' : ∀ y, gI (sI z 235 (t % 12) (gI z 236 e)) 231 y = gI z 231 y := fun y => hI_sI_a (by omega)
  have s' : ∀ y, gI (sI z 235 (t % 12) (gI z 236 e)) 232 y = gI z 232 y := fun y => hI_sI_a (by omega)
  have a' : ∀ i, gI (sI z 235 (t % 12) (gI z 236 e)) 236 i = gI z 236 i ∧ gI (sI z 235 (t % 12) (gI z 236 e)) 237 i = gI z 237 i := fun i => ⟨hI_sI_a (by omega), hI_sI_a (by omega)⟩
  have rg := gI_rng z 236 e
  refine ⟨⟨by rw [hI_sI_a (by omega)]; exact h1, by rw [h2]; exact congrArg (fun d => cnD d _) (funext (fun p => (d' p).symm))⟩, fun r hr => ?_, fun p hp => by rw [d']; exact h4 p hp, fun p hp g => ?_, fun r p hr hp => ?_, fun p hp => ?_, fun p hp => ?_⟩
  · unfold poL
    by_cases q : r = t % 12
    · rw [if_pos q, q, gI_set, w32_id (by omega)]
      exact he.2.2.mv (Nat.le_refl _) (fun i _ => a' i)
    · rw [if_neg q, hI_sI_i q]
      exact (h3 r hr).mv (Nat.le_refl _) (fun i _ => a' i)
  · rw [d'] at g ⊢
    rcases h5 p hp g with c | c
    · exact .inl (.inl c)
    · unfold poL
      by_cases q : (gI z 231 p).toNat % 12 = t % 12
      · rw [q, hB] at c
        rw [if_pos q]
        rcases List.mem_cons.1 c with e | e
        · exact .inl (.inr e)
        · exact .inr e
      · rw [if_neg q]; exact .inr c
  · rw [d']
    unfold poL at hp
    by_cases q : r = t % 12
    · rw [if_pos q] at hp
      exact h6 r p hr (by rw [q, hB]; exact .tail _ hp)
    · rw [if_neg q] at hp; exact h6 r p hr hp
  · rw [d', s']
    refine ⟨(h7 p hp).1, fun g1 g2 => ?_⟩
    obtain ⟨b1, b2, j, y, c1, c2, c3, c4, c5, c6⟩ := (h7 p hp).2 g1 g2
    exact ⟨b1, b2, j, y, c1, c2, c3, by rw [d']; exact c4, by rw [d']; exact c5, by rw [d']; exact c6⟩
  · obtain ⟨b1, b2, b3, b4⟩ := h8 p hp
    exact ⟨b1, by rw [d']; exact b2, by rw [d']; exact b3, b4.mv (d' p) (fun y _ => d' y)⟩
theorem Dl.done {x : Nat} (h : Dl C R n (oW R n) z t B (fun p => Dn p ∨ p = x) Dn ct) (hx : x < 2 * kLy C) (hd : gI z 231 x = (t : Int)) (hb : BFn C R n true z x 5) : Dl C R n (oW R n) z t B (fun p => Dn p ∨ p = x) (fun p => Dn p ∨ p = x) ct := by
  obtain ⟨h1, h3, h4, h5, h6, h7, h8⟩ := h
  refine ⟨h1, h3, h4, h5, h6, h7, fun p hp => ?_⟩
  rcases hp with g | g
  · exact h8 p g
  · subst g; exact ⟨hx, by omega, by omega, hb⟩
theorem Dl.next (h : Dl C R n (oW R n) z t B Dn Dn ct) (hB : B (t % 12) = []) : Dl C R n (oW R n) z (t + 1) B Dn Dn ct := by
  obtain ⟨h1, h3, h4, h5, h6, h7, h8⟩ := h
  refine ⟨h1, h3, h4, h5, fun r p hr hp => ?_, fun p hp => ⟨(h7 p hp).1, fun g1 g2 => ?_⟩, fun p hp => ?_⟩
  · have a := h6 r p hr hp
    have ne : r ≠ t % 12 := fun e => by rw [e, hB] at hp; exact absurd hp (List.not_mem_nil)
    refine ⟨a.1, a.2.1, a.2.2.1, ?_, by omega⟩
    by_cases q : gI z 231 p = (t : Int)
    · rw [q, Int.toNat_natCast] at a; exact absurd a.2.2.1.symm ne
    · omega
  · obtain ⟨b1, b2, j, y, c1, c2, c3, c4, c5, c6⟩ := (h7 p hp).2 g1 g2
    exact ⟨b1, b2, j, y, c1, c2, c3, c4, by omega, c6⟩
  · obtain ⟨b1, b2, b3, b4⟩ := h8 p hp
    exact ⟨b1, b2, by omega, b4⟩
theorem lenB_pop {r x : Nat} {l : List Nat} (hr : r < 12) (hB : B r = x :: l) : lenB B = lenB (poL B r l) + 1 := by
  refine smN_up hr ?_ (fun s _ ne => by unfold poL; rw [if_neg ne])
  rw [hB]
  unfold poL
  rw [if_pos rfl]; rfl
theorem k_sd106 (h : KRt S k C) (o : KOw S k C R) (rr : RRg C R) (hk : k < 4) (g : GSz C) (w : WFC C) (hn : n < kN C) (hd : Dl C R n (oW R n) S t B Dn Dn ct) (ht : t ≤ 60000) (hm : (B (t % 12)).length < cFU) {a : Int} {T : Sto} :
    WP (lpF (mX15_spreadDear_L106 (a, (t : Int), T) (n : Int)) S) (fun z' => ∃ B' Dn' ct', Dl C R n (oW R n) z' t B' Dn' Dn' ct' ∧ B' (t % 12) = [] ∧ ChD S z' ∧ (∀ p, gI z' 233 p = gI S 233 p) ∧ ct ≤ ct' ∧ lenB B' + (B (t % 12)).length + ct = lenB B + ct' ∧ (B (t % 12) = [] → B' = B)) := by
  have g5 := g.2.2.2.2.1
  have lt : t % 12 < 12 := Nat.mod_lt _ (by omega)
  have rm : aRem (t : Int) 12 = ((t % 12 : Nat) : Int) := by rw [aRem_nn (by omega) (by omega)]; omega
  have lb : ∀ (D : Nat → List Nat), (D (t % 12)).length ≤ lenB D := fun D => by
    have e : ∀ m, t % 12 < m → (D (t % 12)).length ≤ smN (fun r => (D r).length) m := fun m => by
      induction m with
      | zero => intro h; omega
      | succ m ih =>
        intro h
        show _ ≤ smN (fun r => (D r).length) m + (D m).length
        by_cases q : t % 12 = m
        · rw [q]; omega
        · have := ih (by omega); omega
    exact e 12 lt
  have ctP0 : ct ≤ 2 * kLy C := by rw [hd.1.2]; exact cnD_le
  refine WP_lpM (fun s m => ∃ B' Dn' ct', Dl C R n (oW R n) s t B' Dn' Dn' ct' ∧ (B' (t % 12)).length = m ∧ ChD S s ∧ (∀ p, gI s 233 p = gI S 233 p) ∧ ct ≤ ct' ∧ lenB B' + (B (t % 12)).length + ct = lenB B + (B' (t % 12)).length + ct' ∧ (B (t % 12) = [] → B' = B)) (fun s m hI => ?_) (m := (B (t % 12)).length) ⟨B, Dn, ct, hd, rfl, ChD.refl, fun _ => rfl, Nat.le_refl _, rfl, fun _ => rfl⟩ hm
  obtain ⟨B', Dn', ct', b1, b2, b3, b4, b5, b6, b7⟩ := hI
  have hz := h.chD b3
  have oz := o.chD b3
  have ctP : ct' ≤ 2 * kLy C := by rw [b1.1.2]; exact cnD_le
  have ch := b1.2.1 (t % 12) lt
  have rgh := ch.ge
  unfold mX15_spreadDear_L106
  dsimp only
  rw [rm, rdI_e (by omega), Int.toNat_natCast, w32_id (by omega)]
  cases hB : B' (t % 12) with
  | nil =>
    rw [hB] at ch b2 b6
    have ch : gI s 235 (t % 12) = -1 := ch
    rw [if_neg (fun g => g ch)]
    refine WP_some.2 ⟨B', Dn', ct', b1, hB, b3, b4, b5, ?_, b7⟩
    have b6 : lenB B' + (B (t % 12)).length + ct = lenB B + 0 + ct' := b6
    omega
  | cons x l =>
    rw [hB] at ch
    obtain ⟨e, e1, e2, e3, e4⟩ := ch
    have mem := b1.2.2.2.2.1 (t % 12) x lt (by rw [hB]; exact .head _)
    have dx : gI s 231 x = (t : Int) := by omega
    rw [if_pos (by omega), rdI_e (by omega), Int.toNat_natCast, e1, rdI_e (by omega), Int.toNat_natCast, e3, rdI_e (by omega), Int.toNat_natCast, e1, rdI_e (by omega), Int.toNat_natCast, wrI_e (by omega), Int.toNat_natCast, rdI_e (by omega), Int.toNat_natCast, hI_sI_a (by omega), dx, w32_id (by omega), if_pos rfl]
    have P := b1.pop hB ⟨e1, e2, e4⟩
    have c2 : ChD s (sI s 235 (t % 12) (gI s 236 e)) := ChD.refl.sI (by omega)
    have d2 : gI (sI s 235 (t % 12) (gI s 236 e)) 231 x = (t : Int) := by rw [hI_sI_a (by omega)]; exact dx
    have m2 : ∀ p, gI (sI s 235 (t % 12) (gI s 236 e)) 233 p = gI s 233 p := fun p => hI_sI_a (by omega)
    refine WP_call (WP_call (k_relax (hz.chD c2) (oz.chD c2) rr hk g w hn mem.1 P d2 ht) (fun y hy => WP_some.2 hy)) (fun y hy => WP_some.2 ?_)
    obtain ⟨B2, ct2, y1, y2, y3, y4, y5, y6, y7, y8⟩ := hy
    have lp := lenB_pop (B := B') lt hB
    have len2 : (B2 (t % 12)).length = l.length := by rw [y2]; unfold poL; rw [if_pos rfl]
    have b2' : l.length + 1 = m := by rw [← b2, hB]; rfl
    have lB : (B' (t % 12)).length = l.length + 1 := by rw [hB]; rfl
    refine ⟨l.length, by omega, B2, _, ct2, y1.done mem.1 y4 y3, len2, b3.tr (c2.tr y5), fun p => (y6 p).trans ((m2 p).trans (b4 p)), by omega, by omega, fun q => ?_⟩
    have e5 := b7 q
    rw [e5, q] at hB
    exact absurd hB.symm (List.cons_ne_nil _ _)
theorem k_sd11 : WP (lpF mX15_spreadDear_L11 (0, S)) (fun z => ChD S z ∧ (∀ a i, a ≠ 235 → gI z a i = gI S a i) ∧ ∀ r, r < 12 → gI z 235 r = -1) := by
  refine WP_cnt 12 (fun i z => z.1 = (i : Int) ∧ ChD S z.2 ∧ (∀ a i, a ≠ 235 → gI z.2 a i = gI S a i) ∧ ∀ r, r < i → gI z.2 235 r = -1) (by unfold cFU; omega) ⟨rfl, ChD.refl, fun _ _ _ => rfl, fun x hx => absurd hx (by omega)⟩ (fun i z hi hI => ?_) (fun z hI => ?_)
  · obtain ⟨z1, z2⟩ := z
    obtain ⟨b1, b2, b3, b4⟩ := hI
    dsimp only at b1 b2 b3 b4
    subst b1
    unfold mX15_spreadDear_L11
    dsimp only
    rw [w32_id (by omega), if_pos (by omega), wrI_e (by omega), Int.toNat_natCast]
    refine WP_some.2 ⟨by show (i : Int) + 1 = _; omega, b2.sI (by omega), fun a j ne => (hI_sI_a ne).trans (b3 a j ne), fun x hx => ?_⟩
    by_cases q : x = i
    · subst q
      show gI (sI z2 235 x (-1)) 235 x = _
      rw [gI_set, w32_id (by omega)]
    · show gI (sI z2 235 i (-1)) 235 x = _
      rw [hI_sI_i q]; exact b4 x (by omega)
  · obtain ⟨z1, z2⟩ := z
    obtain ⟨b1, b2, b3, b4⟩ := hI
    dsimp only at b1 b2 b3 b4
    subst b1
    unfold mX15_spreadDear_L11
    dsimp only
    rw [if_neg (by decide)]
    exact WP_some.2 ⟨b2, b3, b4⟩
theorem k_sd32 (h4 : gI S 229 4 = ((2 * kLy C : Nat) : Int)) (hl : kLy C ≤ 2356) (hm : KMk S C R n) (h0 : ∀ p, p < 2 * kLy C → gI S 231 p = -1) (h1 : ∀ r, r < 12 → gI S 235 r = -1) (h2 : gI S 229 13 = 0) :
    WP (lpF mX15_spreadDear_L32 (0, S)) (fun z => ∃ B ct, Dl C R n (oW R n) z 0 B (fun _ => False) (fun _ => False) ct ∧ ChD S z ∧ (∀ p, gI z 233 p = gI S 233 p) ∧ lenB B = ct) := by
  refine WP_cnt (2 * kLy C) (fun i z => z.1 = (i : Int) ∧ ∃ B ct, Dl C R n (fun p => p < i ∧ oW R n p) z.2 0 B (fun _ => False) (fun _ => False) ct ∧ ChD S z.2 ∧ (∀ p, gI z.2 233 p = gI S 233 p) ∧ lenB B = ct ∧ ∀ p, p < 2 * kLy C → gI z.2 231 p = if p < i ∧ R 20 p = (n : Int) then 0 else -1) (by unfold cFU; omega) ⟨rfl, fun _ => [], 0, ?_, ChD.refl, fun _ => rfl, rfl, fun p hp => by show gI S 231 p = _; rw [h0 p hp, if_neg (by omega)]⟩ (fun i z hi hI => ?_) (fun z hI => ?_)
  · refine ⟨⟨h2, (smN_0 (fun x hx => if_pos (h0 x hx))).symm⟩, fun r hr => h1 r hr, fun p hp => by show -1 ≤ gI S 231 p ∧ gI S 231 p ≤ _; rw [h0 p hp]; omega, fun p hp g => absurd (h0 p hp) g, fun r p hr hp => absurd hp List.not_mem_nil, fun p hp => ⟨fun g => absurd g.1 (by omega), fun _ g => absurd (h0 p hp) g⟩, fun p hp => hp.elim⟩
  · obtain ⟨z1, z2⟩ := z
    obtain ⟨b1, B, ct, b2, b3, b4, b5, b6⟩ := hI
    dsimp only at b1 b2 b3 b4 b6
    subst b1
    have e4 : gI z2 229 4 = ((2 * kLy C : Nat) : Int) := (b3.1 _ _ (by omega) (by omega)).trans h4
    have ctP : ct ≤ 2 * kLy C := by rw [b2.1.2]; exact cnD_le
    have em := hm i hi
    unfold mX15_spreadDear_L32
    dsimp only
    rw [e4, w32_id (by omega), w32_id (by omega), if_pos (by omega), rdZ_e (by omega), Int.toNat_natCast, b4, em]
    by_cases q : R 20 i = (n : Int)
    · have d0 : gI z2 231 i = -1 := by rw [b6 i hi, if_neg (by omega)]
      have t1 : ct < 2 * kLy C := by
        have e := cnD_up (d := fun p => gI z2 231 p) (d' := fun p => if p = i then 0 else gI z2 231 p) hi d0 (by show (if i = i then (0 : Int) else _) ≠ -1; rw [if_pos rfl]; decide) (fun y _ ne => if_neg ne)
        have l := cnD_le (d := fun p => if p = i then 0 else gI z2 231 p) (P := 2 * kLy C)
        rw [← b2.1.2] at e
        omega
      have c3 : gI (sI z2 231 i 0) 229 13 = (ct : Int) := by rw [hI_sI_a (by omega)]; exact b2.1.1
      rw [if_pos q, if_neg (by decide), wrI_e (by omega), Int.toNat_natCast]
      refine WP_call (WP_call (k_put15 (v := 0) c3 (by omega) (show i < 5000 by omega) (by omega)) (fun y hy => WP_some.2 hy)) (fun y hy => WP_some.2 ?_)
      obtain ⟨a1, a2, a3, a4, a5, a6⟩ := hy
      have e1 : ∀ b j, b ≠ 231 → gI (sI z2 231 i 0) b j = gI z2 b j := fun b j g1 => hI_sI_a g1
      have d1 : ∀ j, gI y 231 j = if j = i then ((0 : Nat) : Int) else gI z2 231 j := fun j => by
        rw [(a5 j).1]
        by_cases q : j = i
        · rw [q, gI_set, w32_id (by omega), if_pos rfl]; rfl
        · rw [hI_sI_i q, if_neg q]
      have D := b2.put (Ow' := fun p => p < i + 1 ∧ oW R n p) (z' := y) (x := i) (v := 0) (fun p ne => ⟨fun g => ⟨by omega, g.2⟩, fun g => ⟨by omega, g.2⟩⟩) hi d0 (by omega) a1 (fun r => by rw [a2, e1 _ _ (by omega)]) (fun i => by rw [a3, e1 _ _ (by omega), e1 _ _ (by omega)]) (fun i => by rw [a4, e1 _ _ (by omega)]) d1 (fun j _ => by rw [(a5 j).2.1, e1 _ _ (by omega)])
        ⟨fun _ => rfl, fun g => absurd ⟨Nat.lt_succ_self i, q⟩ g⟩
      refine ⟨by show (i : Int) + 1 = _; omega, _, ct + 1, D, (b3.sI (by omega)).tr a6, fun p => by rw [(a5 p).2.2, e1 _ _ (by omega)]; exact b4 p, by rw [lenB_up (by decide), b5], fun p hp => ?_⟩
      dsimp only
      rw [d1]
      by_cases e : p = i
      · rw [if_pos e, e, if_pos ⟨by omega, q⟩]; rfl
      · rw [if_neg e, b6 p hp]
        by_cases g : p < i ∧ R 20 p = (n : Int)
        · rw [if_pos g, if_pos ⟨by omega, g.2⟩]
        · rw [if_neg g, if_neg (fun x => g ⟨by omega, x.2⟩)]
    · have same : ∀ p, (p < i + 1 ∧ oW R n p) ↔ (p < i ∧ oW R n p) := fun p => ⟨fun g => ⟨by
          by_cases e : p = i
          · rw [e] at g; exact absurd g.2 q
          · omega, g.2⟩, fun g => ⟨by omega, g.2⟩⟩
      have eO : (fun p => p < i + 1 ∧ oW R n p) = (fun p => p < i ∧ oW R n p) := funext (fun p => propext (same p))
      rw [if_neg q, if_pos (by decide), bX_some]
      refine WP_some.2 ⟨by show (i : Int) + 1 = _; omega, B, ct, by rw [eO]; exact b2, b3, b4, b5, fun p hp => ?_⟩
      dsimp only
      rw [b6 p hp]
      by_cases g : p < i ∧ R 20 p = (n : Int)
      · rw [if_pos g, if_pos ((same p).2 g)]
      · rw [if_neg g, if_neg (fun x => g ((same p).1 x))]
  · obtain ⟨z1, z2⟩ := z
    obtain ⟨b1, B, ct, b2, b3, b4, b5, b6⟩ := hI
    dsimp only at b1 b2 b3 b4 b6
    subst b1
    have e4 : gI z2 229 4 = ((2 * kLy C : Nat) : Int) := (b3.1 _ _ (by omega) (by omega)).trans h4
    unfold mX15_spreadDear_L32
    dsimp only
    rw [e4, w32_id (by omega), if_neg (by omega)]
    refine WP_some.2 ⟨B, ct, ⟨b2.1, b2.2.1, b2.2.2.1, b2.2.2.2.1, b2.2.2.2.2.1, fun p hp => ⟨fun g => (b2.2.2.2.2.2.1 p hp).1 ⟨hp, g⟩, fun g => (b2.2.2.2.2.2.1 p hp).2 (fun x => g x.2)⟩, b2.2.2.2.2.2.2⟩, b3, b4, b5⟩
theorem k_dear (h : KRt S k C) (o : KOw S k C R) (rr : RRg C R) (hk : k < 4) (g : GSz C) (w : WFC C) (hn : n < kN C) (hm : KMk S C R n) :
    WP (mX15_spreadDear S (n : Int)) (fun z => ChD S z ∧ (∀ p, gI z 233 p = gI S 233 p) ∧ DOk C R n true (fun p => gI z 231 p) ∧ (∀ p, p < 2 * kLy C → gI z 231 p ≤ 60000) ∧ ∀ p, p < 2 * kLy C → R 20 p ≠ (n : Int) → gI z 231 p ≠ -1 → gI z 232 p = (prF C R n true p : Int)) := by
  have g5 := g.2.2.2.2.1
  unfold mX15_spreadDear
  refine WP_call (k_begin h.1.2.2.2.1 g5) (fun x1 h1 => ?_)
  obtain ⟨c1, d1⟩ := h1
  rw [wf_eq]
  have c2 : ChD S (sI x1 229 13 0) := (ChD.of c1 (by omega)).sI (by omega)
  refine WP_call k_sd11 (fun y5 h5 => ?_)
  obtain ⟨c3, e3, r3⟩ := h5
  have c4 := c2.tr c3
  have m5 : ∀ p, gI y5 233 p = gI S 233 p := fun p => (e3 _ _ (by omega)).trans ((hI_sI_a (by omega)).trans (c1.1 _ _ (by omega)))
  refine WP_call (k_sd32 (R := R) (n := n) ((c4.1 _ _ (by omega) (by omega)).trans h.1.2.2.2.1) g5 (fun p hp => (m5 p).trans (hm p hp)) (fun p hp => (e3 _ _ (by omega)).trans ((hI_sI_a (by omega)).trans (d1 p hp))) r3 ((e3 _ _ (by omega)).trans (by rw [gI_set]; rfl))) (fun y11 h11 => ?_)
  obtain ⟨B, ct, D, c5, m6, lb⟩ := h11
  have c6 := c4.tr c5
  have ctP : ct ≤ 2 * kLy C := by rw [D.1.2]; exact cnD_le
  refine WP_call (R := fun z => ChD S z ∧ (∀ p, gI z 233 p = gI S 233 p) ∧ DOk C R n true (fun p => gI z 231 p) ∧ (∀ p, p < 2 * kLy C → gI z 231 p ≤ 60000) ∧ ∀ p, p < 2 * kLy C → R 20 p ≠ (n : Int) → gI z 231 p ≠ -1 → gI z 232 p = (prF C R n true p : Int)) ?_ (fun z hz => WP_some.2 hz)
  refine WP_lpM (fun s m => ∃ (e t : Nat) (B : Nat → List Nat) (Dn : Nat → Prop) (ct : Nat), s.1 = (e : Int) ∧ s.2.1 = (t : Int) ∧ e ≤ 12 ∧ Dl C R n (oW R n) s.2.2 t B Dn Dn ct ∧ (∀ r, r < 12 → (∃ i, i < e ∧ (r + i + 1) % 12 = t % 12) → B r = []) ∧ t ≤ 11 * ct + 1 + e ∧ ChD S s.2.2 ∧ (∀ p, gI s.2.2 233 p = gI S 233 p) ∧ lenB B ≤ ct ∧ m + 13 * ct = 13 * (2 * kLy C + lenB B) + (12 - e)) (fun s m hI => ?_) (m := 13 * (2 * kLy C) + 12) ⟨0, 0, B, _, ct, rfl, rfl, by omega, D, fun r hr ⟨i, hi, _⟩ => by omega, by omega, c6, fun p => (m6 p).trans (m5 p), by omega, by omega⟩ (by unfold cFU; omega)
  obtain ⟨z0, z1, z2⟩ := s
  obtain ⟨e, t, B, Dn, ct, b0, b1, b2, b3, b4, b5, b6, b7, b8, b9⟩ := hI
  dsimp only at b0 b1 b3 b6 b7
  subst b0 b1
  have ctP : ct ≤ 2 * kLy C := by rw [b3.1.2]; exact cnD_le
  have lt : t % 12 < 12 := Nat.mod_lt _ (by omega)
  have rm : aRem (t : Int) 12 = ((t % 12 : Nat) : Int) := by rw [aRem_nn (by omega) (by omega)]; omega
  unfold mX15_spreadDear_L75
  dsimp only
  rw [w32_id (by omega)]
  by_cases q : e < 12
  · have ch := b3.2.1 (t % 12) lt
    have rgh := ch.ge
    have lb2 : (B (t % 12)).length ≤ lenB B := by
      have key : ∀ m, t % 12 < m → (B (t % 12)).length ≤ smN (fun r => (B r).length) m := fun m => by
        induction m with
        | zero => intro h; omega
        | succ m ih =>
          intro h
          show _ ≤ smN (fun r => (B r).length) m + (B m).length
          by_cases q : t % 12 = m
          · rw [q]; omega
          · have := ih (by omega); omega
      exact key 12 lt
    rw [if_pos (by omega), gnz_i (by omega), rm, rdI_e (by omega), Int.toNat_natCast, w32_id (by omega)]
    refine WP_call (k_sd106 (h.chD b6) (o.chD b6) rr hk g w hn b3 (by omega) (by unfold cFU; omega)) (fun y hy => WP_some.2 ?_)
    obtain ⟨B', Dn', ct', y1, y2, y3, y4, y5, y6, y7⟩ := hy
    have ctP' : ct' ≤ 2 * kLy C := by rw [y1.1.2]; exact cnD_le
    by_cases em : B (t % 12) = []
    · have hd : gI z2 235 (t % 12) = -1 := by rw [em] at ch; exact ch
      have eB := y7 em
      rw [em] at y6
      have y6 : lenB B' + 0 + ct = lenB B + ct' := y6
      rw [if_pos hd]
      refine ⟨m - 1 , by omega, e + 1, t + 1, B', Dn', ct', by show (e : Int) + 1 = _; omega, by show (t : Int) + 1 = _; omega, by omega, y1.next y2, fun r hr ⟨i, hi, hm⟩ => ?_, by omega, b6.tr y3, fun p => (y4 p).trans (b7 p), by rw [eB] at y6 ⊢; omega, by rw [eB] at y6 ⊢; omega⟩
      rw [eB]
      by_cases i0 : i = 0
      · have : r = t % 12 := by omega
        rw [this]; exact em
      · exact b4 r hr ⟨i - 1, by omega, by omega⟩
    · obtain ⟨x, l, hx⟩ : ∃ x l, B (t % 12) = x :: l := by
        cases hb : B (t % 12) with
        | nil => exact absurd hb em
        | cons x l => exact ⟨x, l, rfl⟩
      have mem := b3.2.2.2.2.1 (t % 12) x lt (by rw [hx]; exact .head _)
      have dx := b3.2.2.1 x mem.1
      have ll : (B (t % 12)).length = l.length + 1 := by rw [hx]; rfl
      have hd : gI z2 235 (t % 12) ≠ -1 := by
        rw [hx] at ch
        obtain ⟨e', e1, _⟩ := ch
        omega
      rw [if_neg hd]
      exact ⟨13 * (2 * kLy C + lenB B') + 12 - 13 * ct', by omega, 0, t + 1, B', Dn', ct', rfl, by show (t : Int) + 1 = _; omega, by omega, y1.next y2, fun r hr ⟨i, hi, _⟩ => by omega, by omega, b6.tr y3, fun p => (y4 p).trans (b7 p), by omega, by omega⟩
  · rw [if_neg (by omega)]
    have e12 : e = 12 := by omega
    subst e12
    have allE : ∀ r, r < 12 → B r = [] := fun r hr => b4 r hr ⟨(t + 11 - r) % 12, by omega, by omega⟩
    have dn : ∀ p, p < 2 * kLy C → gI z2 231 p ≠ -1 → Dn p := fun p hp g => by
      rcases b3.2.2.2.1 p hp g with c | c
      · exact c
      · rw [allE _ (Nat.mod_lt _ (by omega))] at c; exact absurd c List.not_mem_nil
    refine WP_some.2 ⟨b6, b7, fun p hp => ?_, fun p hp => by have := b3.2.2.1 p hp; omega, fun p hp h1 h2 => ((b3.2.2.2.2.2.1 p hp).2 h1 h2).2.1⟩
    refine ⟨(b3.2.2.1 p hp).1, (b3.2.2.2.2.2.1 p hp).1, fun h1 h2 => ?_, fun h1 j q l1 l2 l3 l4 => ?_⟩
    · obtain ⟨a1, a2, j, q, a3, a4, a5, a6, a7, a8⟩ := (b3.2.2.2.2.2.1 p hp).2 h1 h2
      exact ⟨a1, j, q, a3, a4, a5, a6, a8⟩
    · exact (b3.2.2.2.2.2.2 p (dn p hp h1)).2.2.2 j q l1 l2 l3 l4
end KDEAR2
