/-! the reference finds tails -/
abbrev tX (e w i : Nat) : Nat := 40 * (256 * e + w) + i
/-- how a tail is kept -/
def TN (z : Sto) (C : Chp) (e w i : Nat) (nT : Nat → Nat) (T : Nat → Nat → List Nat) : Prop :=
  (T w i = [10000 + e] ∧ gI z 2160 (tX e w i) = ((10000 + e : Nat) : Int)) ∨ ∃ x j : Nat, x < kN C ∧ w < x ∧ j < nT x ∧ T w i = x :: T x j ∧ gI z 2160 (tX e w i) = (x : Int) ∧ gI z 2161 (tX e w i) = (j : Int)
def TS (z : Sto) (C : Chp) (e lo : Nat) (nT : Nat → Nat) (T : Nat → Nat → List Nat) : Prop :=
  ∀ w, lo ≤ w → w < kN C → gI z 2158 (256 * e + w) = (nT w : Int) ∧ Top (Tl C e w) (befP C) (nT w) (T w) ∧ ∀ i, i < nT w → gI z 2159 (tX e w i) = tLen C (T w i) ∧ TN z C e w i nT T
section MTAILS
variable {S z : Sto} {k e a lo : Nat} {C : Chp} {nT : Nat → Nat} {T : Nat → Nat → List Nat}
theorem m_leads (r : RefK S k C) (w : WFC C) (hk : k < 4) {g : Nat} (hg : g < kG C) (ha : a < 256) : mX23_leads S (k : Int) (a : Int) (g : Int) = some (cI (rdN C a (kB C + g)) 1 0) := by
  have hn := w.nums
  have hc := w.c hg
  have hl := w.li hc.2
  have i9 := (r.2.2.2.2.2 (kC C g) hc.2).1
  rw [hl.1] at i9
  have rd : rdN C a (kB C + g) ↔ ∃ j, j < kAr C g ∧ kP C g j = a := ⟨fun ⟨g', j, h1, h2, h3, h4⟩ => by
    have : g' = g := by omega
    subst this; exact ⟨j, h2, h3⟩, fun ⟨j, h2, h3⟩ => ⟨g, j, hg, h2, h3, rfl⟩⟩
  have ar : kAr C g = kLi C (kC C g) := rfl
  unfold mX23_leads
  refine WP.of ?_
  refine WP_call (R := fun y => y = cI (rdN C a (kB C + g)) 1 0) ?_ (fun y hy => ?_)
  · refine WP_cnt (kAr C g) (fun i s => s.2 = (i : Int) ∧ ((s.1 = 0 ∧ ∀ j, j < i → kP C g j ≠ a) ∨ (s.1 = 1 ∧ ∃ j, j < kAr C g ∧ kP C g j = a))) (by unfold cFU; omega) ⟨rfl, .inl ⟨rfl, fun j hj => absurd hj (Nat.not_lt_zero _)⟩⟩ (fun i s hi hI => ?_) (fun s hI => ?_)
    · obtain ⟨z1, z2⟩ := s
      obtain ⟨b1, b2⟩ := hI
      dsimp only at b1 b2
      subst b1
      have p := w.p hg hi
      have p5 := r.2.2.1 (3 * g + i) (by omega)
      rw [p.1] at p5
      have zt : (3 * (150 * (k : Int) + (g : Int)) + (i : Int)).toNat = 450 * k + (3 * g + i) := by omega
      unfold mX23_leads_L6
      dsimp only
      rw [m_cellOf r w hk (by omega), bX_some, Int.toNat_natCast, rdI_e (by omega), Int.toNat_natCast, i9, w32_id (by omega), w32_id (by omega), if_pos (by omega)]
      rcases b2 with ⟨rfl, b2⟩ | ⟨rfl, b2⟩
      · rw [if_pos (by decide), rdI_e (by omega), zt, p5, w32_id (by omega), w32_id (by omega)]
        by_cases q : kP C g i = a
        · rw [if_pos (by omega), bX_some, if_pos rfl, bX_some]
          exact WP_some.2 ⟨by show (i : Int) + 1 = _; omega, .inr ⟨rfl, i, hi, q⟩⟩
        · rw [if_neg (by omega), bX_some, if_neg (by decide), bX_some]
          refine WP_some.2 ⟨by show (i : Int) + 1 = _; omega, .inl ⟨rfl, fun j hj => ?_⟩⟩
          by_cases ej : j = i
          · rw [ej]; exact q
          · exact b2 j (by omega)
      · rw [if_neg (by decide), bX_some, if_pos rfl, bX_some]
        exact WP_some.2 ⟨by show (i : Int) + 1 = _; omega, .inr ⟨rfl, b2⟩⟩
    · obtain ⟨z1, z2⟩ := s
      obtain ⟨b1, b2⟩ := hI
      dsimp only at b1 b2
      subst b1
      unfold mX23_leads_L6
      dsimp only
      rw [m_cellOf r w hk (by omega), bX_some, Int.toNat_natCast, rdI_e (by omega), Int.toNat_natCast, i9, w32_id (by omega), w32_id (by omega), if_neg (by omega)]
      refine WP_some.2 ?_
      show z1 = _
      rcases b2 with ⟨rfl, b2⟩ | ⟨rfl, b2⟩
      · rw [cI_f (fun h => by obtain ⟨j, h1, h2⟩ := rd.1 h; exact b2 j h1 h2)]
      · rw [cI_t (rd.2 b2)]
  · subst hy
    by_cases q : rdN C a (kB C + g)
    · rw [cI_t q]; exact WP_some.2 rfl
    · rw [cI_f q]; exact WP_some.2 rfl
/-- the sources of a net's tails: later nets, the end -/
noncomputable def srN (C : Chp) (e a : Nat) (nT : Nat → Nat) (h : Nat) : Nat := if h < kN C then cG (rdN C a h) (nT h) 0 else bo (kEnd C e = (a : Int))
def srF (C : Chp) (e : Nat) (T : Nat → Nat → List Nat) (h i : Nat) : List Nat := if h < kN C then h :: T h i else [10000 + e]
def srV (C : Chp) (e a h : Nat) (p : List Nat) : Prop := if h < kN C then rdN C a h ∧ ∃ t, p = h :: t ∧ Tl C e h t else p = [10000 + e] ∧ kEnd C e = (a : Int)
theorem sr_top (w : WFC C) (hT : ∀ x, a < x → x < kN C → Top (Tl C e x) (befP C) (nT x) (T x)) : ∀ u, u < kN C + 1 → Top (srV C e a u) (befP C) (srN C e a nT u) (srF C e T u) := fun u hu => by
  by_cases q : u < kN C
  · have eV : ∀ p, srV C e a u p ↔ rdN C a u ∧ ∃ t, p = u :: t ∧ Tl C e u t := fun p => by unfold srV; rw [if_pos q]
    have eF : ∀ i, srF C e T u i = u :: T u i := fun i => if_pos q
    have eN : srN C e a nT u = cG (rdN C a u) (nT u) 0 := if_pos q
    by_cases rd : rdN C a u
    · rw [cG_t rd] at eN
      obtain ⟨t1, t2, t3, t4⟩ := hT u (rdN_lt w rd).1 q
      rw [eN]
      refine ⟨t1, fun i hi => ?_, fun i j hij hj => ?_, fun p hp => ?_⟩
      · rw [eF, eV]; exact ⟨rd, _, rfl, t2 i hi⟩
      · rw [eF, eF]; exact befP_cons u (t3 i j hij hj)
      · obtain ⟨_, t, rfl, ht⟩ := (eV p).1 hp
        rcases t4 t ht with ⟨i, i1, i2⟩ | ⟨x1, x2⟩
        · exact .inl ⟨i, i1, by rw [eF, i2]⟩
        · exact .inr ⟨x1, fun i hi => by rw [eF]; exact befP_cons u (x2 i hi)⟩
    · rw [cG_f rd] at eN
      rw [eN]
      exact ⟨by omega, fun i hi => absurd hi (Nat.not_lt_zero _), fun i j _ hj => absurd hj (Nat.not_lt_zero _), fun p hp => absurd ((eV p).1 hp).1 rd⟩
  · have eV : ∀ p, srV C e a u p ↔ p = [10000 + e] ∧ kEnd C e = (a : Int) := fun p => by unfold srV; rw [if_neg q]
    have eF : ∀ i, srF C e T u i = [10000 + e] := fun i => if_neg q
    have eN : srN C e a nT u = bo (kEnd C e = (a : Int)) := if_neg q
    by_cases rd : kEnd C e = (a : Int)
    · rw [bo_t rd] at eN
      rw [eN]
      refine ⟨by omega, fun i hi => ?_, fun i j hij hj => by omega, fun p hp => ?_⟩
      · rw [eF, eV]; exact ⟨rfl, rd⟩
      · exact .inl ⟨0, by omega, by rw [eF]; exact ((eV p).1 hp).1.symm⟩
    · rw [bo_f rd] at eN
      rw [eN]
      exact ⟨by omega, fun i hi => absurd hi (Nat.not_lt_zero _), fun i j _ hj => absurd hj (Nat.not_lt_zero _), fun p hp => absurd ((eV p).1 hp).2 rd⟩
theorem sr_all (w : WFC C) {p : List Nat} : (∃ u, u < kN C + 1 ∧ srV C e a u p) ↔ Tl C e a p := by
  constructor
  · rintro ⟨u, hu, h⟩
    unfold srV at h
    by_cases q : u < kN C
    · rw [if_pos q] at h
      obtain ⟨h1, t, rfl, h2⟩ := h
      exact Tl_go h1 h2
    · rw [if_neg q] at h
      obtain ⟨rfl, h⟩ := h
      exact Tl_fin h
  · intro h
    obtain ⟨x, u, rfl⟩ := Tl_ne h
    rcases Tl_inv h with ⟨rfl, rfl, h3⟩ | ⟨h1, h2⟩
    · exact ⟨kN C, by omega, by unfold srV; rw [if_neg (by omega)]; exact ⟨rfl, h3⟩⟩
    · have := rdN_lt w h1
      exact ⟨x, by omega, by unfold srV; rw [if_pos this.2.2]; exact ⟨h1, u, rfl, h2⟩⟩
theorem m_ft48 (r : RefK S k C) (w : WFC C) (hk : k < 4) (ha : a < kN C) : WP (lpF (mX23_findTails_L48 (k : Int) (a : Int) (kI C : Int) (kR C : Int)) ((kI C : Int) + (kR C : Int), S)) (fun z => Ch 2162 2162 S z ∧ ∀ x, kB C ≤ x → x < kN C → gI z 2162 x = cI (rdN C a x) 0 40) := by
  have hn := w.nums
  refine WP_cnt (kG C) (fun i s => s.1 = ((kB C + i : Nat) : Int) ∧ Ch 2162 2162 S s.2 ∧ ∀ x, kB C ≤ x → x < kB C + i → gI s.2 2162 x = cI (rdN C a x) 0 40) (by unfold cFU; omega) ⟨by dsimp only; omega, Ch.refl, fun x h1 h2 => absurd h1 (by omega)⟩ (fun i s hi hI => ?_) (fun s hI => ?_)
  · obtain ⟨z1, z2⟩ := s
    obtain ⟨b1, b2, b3⟩ := hI
    dsimp only at b1 b2 b3
    subst b1
    have rz := r.ch b2 (by omega)
    have rd : rdN C a (kB C + i) → a < kB C + i := fun h => (rdN_lt w h).1
    unfold mX23_findTails_L48
    dsimp only
    rw [m_netCount rz w hk, bX_some, w32_id (by omega), w32_id (by omega), if_pos (by omega), w32_id (by omega)]
    have eg : ((kB C + i : Nat) : Int) - ((kI C : Int) + (kR C : Int)) = (i : Int) := by omega
    have fin : ∀ v, v = cI (rdN C a (kB C + i)) 0 40 → WP (wrI 256 z2 2162 ((kB C + i : Nat) : Int) v fun S8 => some (Sum.inl (((kB C + i : Nat) : Int) + 1, S8)) : Option ((Int × Sto) ⊕ Sto)) (WE (fun s => s.1 = ((kB C + (i + 1) : Nat) : Int) ∧ Ch 2162 2162 S s.2 ∧ ∀ x, kB C ≤ x → x < kB C + (i + 1) → gI s.2 2162 x = cI (rdN C a x) 0 40) (fun z => Ch 2162 2162 S z ∧ ∀ x, kB C ≤ x → x < kN C → gI z 2162 x = cI (rdN C a x) 0 40)) := fun v hv => by
      rw [wrI_e (by omega), Int.toNat_natCast]
      refine WP_some.2 ⟨by show ((kB C + i : Nat) : Int) + 1 = _; omega, b2.sI (by omega), fun x h1 h2 => ?_⟩
      dsimp only
      by_cases q : x = kB C + i
      · have r4 : v = 0 ∨ v = 40 := by
          rw [hv]
          by_cases t : rdN C a (kB C + i)
          · rw [cI_t t]; exact .inl rfl
          · rw [cI_f t]; exact .inr rfl
        rw [q, gI_set, w32_id (by omega)]; exact hv
      · rw [hI_sI_i q]; exact b3 x h1 (by omega)
    by_cases q : a < kB C + i
    · rw [if_pos (by omega), eg, m_leads rz w hk hi (by omega), bX_some]
      by_cases t : rdN C a (kB C + i)
      · rw [cI_t t, if_pos (by decide), bX_some, if_pos rfl, bX_some]
        exact fin 0 (by rw [cI_t t])
      · rw [cI_f t, if_neg (by decide), bX_some, if_neg (by decide), bX_some]
        exact fin 40 (by rw [cI_f t])
    · rw [if_neg (by omega), bX_some, if_neg (by decide), bX_some]
      exact fin 40 (by rw [cI_f (fun h => q (rd h))])
  · obtain ⟨z1, z2⟩ := s
    obtain ⟨b1, b2, b3⟩ := hI
    dsimp only at b1 b2 b3
    subst b1
    have rz := r.ch b2 (by omega)
    unfold mX23_findTails_L48
    dsimp only
    rw [m_netCount rz w hk, bX_some, w32_id (by omega), w32_id (by omega), if_neg (by omega)]
    exact WP_some.2 ⟨b2, fun x h1 h2 => b3 x h1 (by omega)⟩
/-- the best of the heads: by lengths, then by nets -/
theorem m_ft163 (w : WFC C) (wp : WFP C) (he : e < 22) (ha : a < kN C) (hT : TS S C e (a + 1) nT T) (ht : ∀ n, n < kN C → gI S 2153 n = kTime C n) {ptr : Nat → Nat} (hp : ∀ x, kB C ≤ x → x < kN C → gI S 2162 x = cI (rdN C a x) (ptr x : Int) 40 ∧ ptr x ≤ srN C e a nT x) {en : Int} (hen : (en = 1 ∧ ptr (kN C) < srN C e a nT (kN C)) ∨ (en = 0 ∧ ¬ ptr (kN C) < srN C e a nT (kN C))) {s1 s2 s3 : Int} :
    WP (lpF (mX23_findTails_L163 (kI C : Int) (kR C : Int) (s1, s2, s3, S) (e : Int)) ((if en = 1 then moF C e else -1), (if en = 1 then ((10000 + e : Nat) : Int) else -1), (kN C : Int) - 1)) (fun z => (z = (-1, -1) ∧ ∀ u, u < kN C + 1 → kB C ≤ u → ¬ ptr u < srN C e a nT u) ∨
      ∃ b, b < kN C + 1 ∧ kB C ≤ b ∧ ptr b < srN C e a nT b ∧ z.1 = tLen C (srF C e T b (ptr b)) ∧ z.2 = (if b < kN C then (b : Int) else ((10000 + e : Nat) : Int)) ∧ ∀ u, u < kN C + 1 → kB C ≤ u → u ≠ b → ptr u < srN C e a nT u → befP C (srF C e T b (ptr b)) (srF C e T u (ptr u))) := by
  have hn := w.nums
  have lf : ∀ i, srF C e T (kN C) i = [10000 + e] := fun i => if_neg (by omega)
  refine WP_cnt (kG C) (fun i s => s.2.2 = (kN C : Int) - 1 - (i : Int) ∧ ((s.1 = -1 ∧ s.2.1 = -1 ∧ ∀ u, u < kN C + 1 → kN C ≤ u + i → ¬ ptr u < srN C e a nT u) ∨
      ∃ b, b < kN C + 1 ∧ kN C ≤ b + i ∧ ptr b < srN C e a nT b ∧ s.1 = tLen C (srF C e T b (ptr b)) ∧ s.2.1 = (if b < kN C then (b : Int) else ((10000 + e : Nat) : Int)) ∧ ∀ u, u < kN C + 1 → kN C ≤ u + i → u ≠ b → ptr u < srN C e a nT u → befP C (srF C e T b (ptr b)) (srF C e T u (ptr u)))) (by unfold cFU; omega) ⟨by dsimp only; omega, ?_⟩ (fun i s hi hI => ?_) (fun s hI => ?_)
  · rcases hen with ⟨h1, h2⟩ | ⟨h1, h2⟩
    · right
      refine ⟨kN C, by omega, by omega, h2, ?_, ?_, fun u h3 h4 h5 => by omega⟩
      · dsimp only; rw [if_pos h1, lf, tLen_e]
      · dsimp only; rw [if_pos h1, if_neg (by omega)]
    · left
      refine ⟨by dsimp only; rw [if_neg (by omega)], by dsimp only; rw [if_neg (by omega)], fun u h3 h4 => ?_⟩
      have : u = kN C := by omega
      rw [this]; exact h2
  · obtain ⟨z1, z2, z3⟩ := s
    obtain ⟨b1, b2⟩ := hI
    dsimp only at b1 b2
    obtain ⟨x, hx⟩ : ∃ x : Nat, x = kN C - 1 - i := ⟨_, rfl⟩
    have ez : z3 = (x : Int) := by omega
    subst ez
    have xb : kB C ≤ x ∧ x < kN C := by omega
    obtain ⟨p1, p2⟩ := hp x xb.1 xb.2
    have zt : (256 * (e : Int) + (x : Int)).toNat = 256 * e + x := by omega
    have sx : srN C e a nT x = cG (rdN C a x) (nT x) 0 := if_pos xb.2
    have fx : ∀ i, srF C e T x i = x :: T x i := fun i => if_pos xb.2
    -- no new head
    have skip : ¬ ptr x < srN C e a nT x → WP (some (Sum.inl (z1, z2, (x : Int) + -1)) : Option ((Int × Int × Int) ⊕ (Int × Int))) (WE (fun s => s.2.2 = (kN C : Int) - 1 - ((i + 1 : Nat) : Int) ∧ ((s.1 = -1 ∧ s.2.1 = -1 ∧ ∀ u, u < kN C + 1 → kN C ≤ u + (i + 1) → ¬ ptr u < srN C e a nT u) ∨
      ∃ b, b < kN C + 1 ∧ kN C ≤ b + (i + 1) ∧ ptr b < srN C e a nT b ∧ s.1 = tLen C (srF C e T b (ptr b)) ∧ s.2.1 = (if b < kN C then (b : Int) else ((10000 + e : Nat) : Int)) ∧ ∀ u, u < kN C + 1 → kN C ≤ u + (i + 1) → u ≠ b → ptr u < srN C e a nT u → befP C (srF C e T b (ptr b)) (srF C e T u (ptr u)))) (fun z => (z = (-1, -1) ∧ ∀ u, u < kN C + 1 → kB C ≤ u → ¬ ptr u < srN C e a nT u) ∨
      ∃ b, b < kN C + 1 ∧ kB C ≤ b ∧ ptr b < srN C e a nT b ∧ z.1 = tLen C (srF C e T b (ptr b)) ∧ z.2 = (if b < kN C then (b : Int) else ((10000 + e : Nat) : Int)) ∧ ∀ u, u < kN C + 1 → kB C ≤ u → u ≠ b → ptr u < srN C e a nT u → befP C (srF C e T b (ptr b)) (srF C e T u (ptr u)))) := fun no => by
      refine WP_some.2 ⟨by show (x : Int) + -1 = _; omega, ?_⟩
      rcases b2 with ⟨c1, c2, c3⟩ | ⟨b, c1, c2, c3, c4, c5, c6⟩
      · refine .inl ⟨c1, c2, fun u h1 h2 => ?_⟩
        by_cases q : u = x
        · rw [q]; exact no
        · exact c3 u h1 (by omega)
      · refine .inr ⟨b, c1, by omega, c3, c4, c5, fun u h1 h2 h3 h4 => ?_⟩
        by_cases q : u = x
        · rw [q] at h4; exact absurd h4 no
        · exact c6 u h1 (by omega) h3 h4
    unfold mX23_findTails_L163
    dsimp only
    rw [w32_id (x := (x : Int)) (by omega), w32_id (x := (kI C : Int) + (kR C : Int)) (by omega), if_pos (by omega), rdI_e (by omega), Int.toNat_natCast, p1, rdI_e (by omega), zt]
    by_cases rd : rdN C a x
    · have lx' := rdN_lt w rd
      rw [cG_t rd] at sx
      obtain ⟨t1, t2, t3⟩ := hT x (by omega) xb.2
      have n40 := t2.1
      rw [sx] at p2
      rw [cI_t rd, t1, w32_id (by omega), w32_id (by omega)]
      by_cases q : ptr x < nT x
      · have hd : ptr x < srN C e a nT x := by rw [sx]; exact q
        have len := (t3 (ptr x) q).1
        have lr := Tl_rng w wp _ _ (t2.2.1 (ptr x) q) xb.2
        have ll := Tl_len w _ _ (t2.2.1 (ptr x) q) xb.2
        have tm := kTime_rng w wp xb.2
        have zt2 : (40 * (256 * (e : Int) + (x : Int)) + (ptr x : Int)).toNat = tX e x (ptr x) := by show _ = 40 * (256 * e + x) + ptr x; omega
        have ez : gI S 2159 (tX e x (ptr x)) + gI S 2153 x = tLen C (srF C e T x (ptr x)) := by
          rw [fx, tLen_n (by omega), len, ht x xb.2]; omega
        have lx2 : 0 ≤ tLen C (srF C e T x (ptr x)) ∧ tLen C (srF C e T x (ptr x)) ≤ 200000 := by
          rw [fx, tLen_n (by omega)]; omega
        rw [if_pos (by omega), rdI_e (by omega), Int.toNat_natCast, p1, cI_t rd, w32_id (by omega), if_pos (by omega), bX_some, if_pos rfl, rdI_e (by omega), Int.toNat_natCast, p1, cI_t rd, rdI_e (by omega), zt2, rdI_e (by omega), Int.toNat_natCast, ez, w32_id (x := tLen C (srF C e T x (ptr x))) (by omega), bX_some]
        dsimp only
        have take : z1 ≤ tLen C (srF C e T x (ptr x)) → (∀ u, u < kN C + 1 → kN C ≤ u + i → ptr u < srN C e a nT u → befP C (srF C e T x (ptr x)) (srF C e T u (ptr u))) → WP (some (Sum.inl (tLen C (srF C e T x (ptr x)), (x : Int), (x : Int) + -1)) : Option ((Int × Int × Int) ⊕ (Int × Int))) (WE (fun s => s.2.2 = (kN C : Int) - 1 - ((i + 1 : Nat) : Int) ∧ ((s.1 = -1 ∧ s.2.1 = -1 ∧ ∀ u, u < kN C + 1 → kN C ≤ u + (i + 1) → ¬ ptr u < srN C e a nT u) ∨
      ∃ b, b < kN C + 1 ∧ kN C ≤ b + (i + 1) ∧ ptr b < srN C e a nT b ∧ s.1 = tLen C (srF C e T b (ptr b)) ∧ s.2.1 = (if b < kN C then (b : Int) else ((10000 + e : Nat) : Int)) ∧ ∀ u, u < kN C + 1 → kN C ≤ u + (i + 1) → u ≠ b → ptr u < srN C e a nT u → befP C (srF C e T b (ptr b)) (srF C e T u (ptr u)))) (fun z => (z = (-1, -1) ∧ ∀ u, u < kN C + 1 → kB C ≤ u → ¬ ptr u < srN C e a nT u) ∨
      ∃ b, b < kN C + 1 ∧ kB C ≤ b ∧ ptr b < srN C e a nT b ∧ z.1 = tLen C (srF C e T b (ptr b)) ∧ z.2 = (if b < kN C then (b : Int) else ((10000 + e : Nat) : Int)) ∧ ∀ u, u < kN C + 1 → kB C ≤ u → u ≠ b → ptr u < srN C e a nT u → befP C (srF C e T b (ptr b)) (srF C e T u (ptr u)))) := fun _ all => by
          refine WP_some.2 ⟨by show (x : Int) + -1 = _; omega, .inr ⟨x, by omega, by omega, hd, rfl, by dsimp only; rw [if_pos xb.2], fun u h1 h2 h3 h4 => ?_⟩⟩
          exact all u h1 (by omega) h4
        rcases b2 with ⟨rfl, rfl, c3⟩ | ⟨b, c1, c2, c3, c4, c5, c6⟩
        · rw [if_pos (by rw [w32_id (by omega)]; omega), if_pos (by rw [w32_id (by omega)]; omega)]
          exact take (by omega) (fun u h1 h2 h3 => absurd h3 (c3 u h1 h2))
        · have zr : 0 ≤ z1 ∧ z1 ≤ 200000 := by
            rw [c4]
            by_cases qb : b < kN C
            · have fb : srF C e T b (ptr b) = b :: T b (ptr b) := if_pos qb
              have sb : srN C e a nT b = cG (rdN C a b) (nT b) 0 := if_pos qb
              by_cases rb : rdN C a b
              · rw [cG_t rb] at sb
                have tb := (hT b (by have := (rdN_lt w rb).1; omega) qb).2.1
                have lb := Tl_rng w wp _ _ (tb.2.1 (ptr b) (by omega)) qb
                have lb2 := Tl_len w _ _ (tb.2.1 (ptr b) (by omega)) qb
                have tmb := kTime_rng w wp qb
                rw [fb, tLen_n (by omega)]; omega
              · rw [cG_f rb] at sb; omega
            · have fb : srF C e T b (ptr b) = [10000 + e] := if_neg qb
              have m := moF_rng (C := C) (e := e)
              rw [fb, tLen_e]; omega
          rw [w32_id (x := z1) (by omega)]
          -- the head b against the head x
          have ltb : x < b := by omega
          have first : ∃ u v, srF C e T b (ptr b) = u :: v ∧ x < u := by
            by_cases qb : b < kN C
            · exact ⟨b, _, if_pos qb, ltb⟩
            · exact ⟨10000 + e, [], if_neg qb, by omega⟩
          by_cases q2 : z1 ≤ tLen C (srF C e T x (ptr x))
          · rw [if_pos q2, if_pos q2]
            have xb' : befP C (srF C e T x (ptr x)) (srF C e T b (ptr b)) := by
              rw [c4] at q2
              by_cases q3 : tLen C (srF C e T b (ptr b)) = tLen C (srF C e T x (ptr x))
              · refine .inr ⟨q3.symm, ?_⟩
                obtain ⟨u, v, e1, e2⟩ := first
                rw [e1, fx]; exact .inl e2
              · exact .inl (by omega)
            refine take q2 (fun u h1 h2 h3 => ?_)
            by_cases q4 : u = b
            · rw [q4]; exact xb'
            · exact befP_tr _ _ _ _ xb' (c6 u h1 h2 q4 h3)
          · rw [if_neg q2, if_neg q2]
            refine WP_some.2 ⟨by show (x : Int) + -1 = _; omega, .inr ⟨b, c1, by omega, c3, c4, c5, fun u h1 h2 h3 h4 => ?_⟩⟩
            by_cases q4 : u = x
            · rw [q4]; left; rw [← c4]; omega
            · exact c6 u h1 (by omega) h3 h4
      · rw [if_neg (by omega), bX_some, if_neg (by decide), bX_some]
        exact skip (by rw [sx]; exact q)
    · rw [cG_f rd] at sx
      rw [cI_f rd]
      by_cases q5 : w32 40 < w32 (gI S 2158 (256 * e + x))
      · rw [if_pos q5, rdI_e (by omega), Int.toNat_natCast, p1, cI_f rd, if_neg (by decide), bX_some, if_neg (by decide), bX_some]
        exact skip (by rw [sx]; omega)
      · rw [if_neg q5, bX_some, if_neg (by decide), bX_some]
        exact skip (by rw [sx]; omega)
  · obtain ⟨z1, z2, z3⟩ := s
    obtain ⟨b1, b2⟩ := hI
    dsimp only at b1 b2
    unfold mX23_findTails_L163
    dsimp only
    rw [b1, w32_id (x := (kN C : Int) - 1 - (kG C : Int)) (by omega), w32_id (x := (kI C : Int) + (kR C : Int)) (by omega), if_neg (by omega)]
    refine WP_some.2 ?_
    rcases b2 with ⟨c1, c2, c3⟩ | ⟨b, c1, c2, c3, c4, c5, c6⟩
    · exact .inl ⟨by show (z1, z2) = _; rw [c1, c2], fun u h1 h2 => c3 u h1 (by omega)⟩
    · exact .inr ⟨b, c1, by omega, c3, c4, c5, fun u h1 h2 => c6 u h1 (by omega)⟩
end MTAILS
