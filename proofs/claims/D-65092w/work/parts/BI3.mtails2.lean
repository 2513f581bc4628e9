/-! the reference finds a net's tails -/
def FT (e a : Nat) (S z : Sto) : Prop := (∀ b i, b ≠ 2162 → ¬ (b = 2158 ∧ i = 256 * e + a) → ¬ (2159 ≤ b ∧ b ≤ 2161 ∧ 40 * (256 * e + a) ≤ i ∧ i < 40 * (256 * e + a) + 40) → gI z b i = gI S b i)
section MTAILS2
variable {S z y : Sto} {k e a lo : Nat} {C : Chp} {nT : Nat → Nat} {T : Nat → Nat → List Nat}
theorem FT.refl : FT e a S S := fun _ _ _ _ _ => rfl
theorem FT.tr (h : FT e a S z) (g : FT e a z y) : FT e a S y := fun b i q1 q2 q3 => (g b i q1 q2 q3).trans (h b i q1 q2 q3)
theorem FT.sI (h : FT e a S z) {b i : Nat} {v : Int} (q : b = 2162 ∨ (b = 2158 ∧ i = 256 * e + a) ∨ (2159 ≤ b ∧ b ≤ 2161 ∧ 40 * (256 * e + a) ≤ i ∧ i < 40 * (256 * e + a) + 40)) : FT e a S (sI z b i v) := fun c j q1 q2 q3 => by
  rw [hI_sI, if_neg (by rintro ⟨rfl, rfl⟩; omega)]; exact h c j q1 q2 q3
theorem FT.ch (h : FT e a S z) (g : Ch 2162 2162 z y) : FT e a S y := fun b i q1 q2 q3 => (g.1 b i (by omega)).trans (h b i q1 q2 q3)
theorem TN.ft {w i : Nat} (h : TN S C e w i nT T) (g : FT e a S z) (hw : a < w) (hi : i < 40) : TN z C e w i nT T := by
  have e1 : gI z 2160 (tX e w i) = gI S 2160 (tX e w i) := g _ _ (by omega) (by omega) (by show ¬ (_ ∧ _ ∧ _ ≤ 40 * (256 * e + w) + i ∧ 40 * (256 * e + w) + i < _); omega)
  have e2 : gI z 2161 (tX e w i) = gI S 2161 (tX e w i) := g _ _ (by omega) (by omega) (by show ¬ (_ ∧ _ ∧ _ ≤ 40 * (256 * e + w) + i ∧ 40 * (256 * e + w) + i < _); omega)
  unfold TN at h ⊢
  rw [e1, e2]; exact h
theorem TS.ft (h : TS S C e (a + 1) nT T) (g : FT e a S z) : TS z C e (a + 1) nT T := fun w h1 h2 => by
  obtain ⟨t1, t2, t3⟩ := h w h1 h2
  have n40 := t2.1
  refine ⟨(g _ _ (by omega) (by omega) (by omega)).trans t1, t2, fun i hi => ⟨(g _ _ (by omega) (by omega) (by show ¬ (_ ∧ _ ∧ _ ≤ 40 * (256 * e + w) + i ∧ 40 * (256 * e + w) + i < _); omega)).trans (t3 i hi).1, (t3 i hi).2.ft g (by omega) (by omega)⟩⟩
theorem m_ft100 (r : RefK S k C) (w : WFC C) (wp : WFP C) (hk : k < 4) (he : e < kO C + kR C) (ha : a < kN C) (hT : TS S C e (a + 1) nT T) (ht : ∀ n, n < kN C → gI S 2153 n = kTime C n) (hp : ∀ x, kB C ≤ x → x < kN C → gI S 2162 x = cI (rdN C a x) 0 40) {en : Int} (hen : en = if kEnd C e = (a : Int) then 1 else 0) :
    WP (lpF (mX23_findTails_L100 (k : Int) (e : Int) (kI C : Int) (kR C : Int) (a : Int)) (en, 0, 1, S)) (fun z => ∃ (n : Nat) (out : Nat → List Nat), z.1 = (n : Int) ∧ Top (Tl C e a) (befP C) n out ∧ FT e a S z.2 ∧ ∀ i, i < n → gI z.2 2159 (tX e a i) = tLen C (out i) ∧ TN z.2 C e a i nT (fun x => if x = a then out else T x)) := by
  have hn := w.nums
  have he22 : e < 22 := by omega
  refine WP_lpM (fun s m => ∃ (n : Nat) (ptr : Nat → Nat) (out : Nat → List Nat), s.2.1 = (n : Int) ∧ Mrg (befP C) (kN C + 1) (srN C e a nT) (srF C e T) n out ptr ∧ (∀ x, kB C ≤ x → x < kN C → gI s.2.2.2 2162 x = cI (rdN C a x) (ptr x : Int) 40) ∧ ((s.1 = 1 ∧ ptr (kN C) < srN C e a nT (kN C)) ∨ (s.1 = 0 ∧ ¬ ptr (kN C) < srN C e a nT (kN C))) ∧
      (∀ i, i < n → gI s.2.2.2 2159 (tX e a i) = tLen C (out i) ∧ TN s.2.2.2 C e a i nT (fun x => if x = a then out else T x)) ∧ FT e a S s.2.2.2 ∧ ((s.2.2.1 = 1 ∧ 41 - n ≤ m) ∨ (s.2.2.1 = 0 ∧ ∀ u, u < kN C + 1 → ptr u = srN C e a nT u))) (fun s m hI => ?_) (m := 41) ⟨0, fun _ => 0, fun _ => [], rfl, Mrg.start, hp, ?_, fun i hi => absurd hi (Nat.not_lt_zero _), FT.refl, .inl ⟨rfl, by omega⟩⟩ (by unfold cFU; omega)
  · obtain ⟨s1, s2, s3, s4⟩ := s
    obtain ⟨n, ptr, out, b1, b2, b3, b4, b5, b6, b7⟩ := hI
    dsimp only at b1 b3 b4 b5 b6 b7
    subst b1
    have n40 := b2.1
    have rz : RefK s4 k C := r.cg (fun b i _ _ => b6 b i (by omega) (by omega) (by omega))
    have Tz := hT.ft b6
    have tz : ∀ n, n < kN C → gI s4 2153 n = kTime C n := fun n hn' => (b6 _ _ (by omega) (by omega) (by omega)).trans (ht n hn')
    have top := sr_top (e := e) (a := a) w (fun x h1 h2 => (Tz x (by omega) h2).2.1)
    have fin : ∀ st, (n = 40 ∨ ∀ u, u < kN C + 1 → ptr u = srN C e a nT u) → WP (some (Sum.inr ((n : Int), s4)) : Option ((Int × Int × Int × Sto) ⊕ (Int × Sto))) (WE st (fun z => ∃ (n : Nat) (out : Nat → List Nat), z.1 = (n : Int) ∧ Top (Tl C e a) (befP C) n out ∧ FT e a S z.2 ∧ ∀ i, i < n → gI z.2 2159 (tX e a i) = tLen C (out i) ∧ TN z.2 C e a i nT (fun x => if x = a then out else T x))) := fun st stop => by
      have t := b2.top (befP_tr C) top stop
      have eq : (fun p => ∃ u, u < kN C + 1 ∧ srV C e a u p) = Tl C e a := funext fun p => propext (sr_all w)
      rw [eq] at t
      exact WP_some.2 ⟨n, out, rfl, t, b6, b5⟩
    unfold mX23_findTails_L100
    dsimp only
    rw [w32_id (x := (n : Int)) (by omega)]
    by_cases q : n = 40
    · rw [if_neg (by omega), bX_some, if_neg (by decide)]
      exact fin _ (.inl q)
    · rw [if_pos (by omega)]
      rcases b7 with ⟨rfl, b7⟩ | ⟨rfl, b7⟩
      · rw [if_pos (by decide), bX_some, if_pos rfl, m_netCount rz w hk]
        have y12 : (if ¬ w32 s1 = 0 then rdI 4 s4 2108 (k : Int) fun v11 => if w32 (e : Int) < w32 v11 then some (0 : Int) else some 2 else some (-1)) = some (if s1 = 1 then moF C e else -1) := by
          rcases b4 with ⟨rfl, _⟩ | ⟨rfl, _⟩
          · have e8 := rz.1.2.2.1
            rw [w.o] at e8
            rw [if_pos (by decide), rdI_e (by omega), Int.toNat_natCast, e8, w32_id (by omega), w32_id (by omega), if_pos rfl]
            unfold moF
            by_cases t : e < kO C
            · rw [if_pos (by omega), if_pos t]
            · rw [if_neg (by omega), if_neg t]
          · rw [if_neg (by decide), if_neg (by decide)]
        have by0 : (if ¬ w32 s1 = 0 then (10000 : Int) + (e : Int) else -1) = (if s1 = 1 then ((10000 + e : Nat) : Int) else -1) := by
          rcases b4 with ⟨rfl, _⟩ | ⟨rfl, _⟩
          · rw [if_pos (by decide), if_pos rfl]; omega
          · rw [if_neg (by decide), if_neg (by decide)]
        rw [y12, bX_some, bX_some, by0]
        refine WP_call (m_ft163 w wp he22 ha Tz tz (fun x h1 h2 => ⟨b3 x h1 h2, b2.2.1 x (by omega)⟩) b4) (fun v hv => ?_)
        rcases hv with ⟨rfl, no⟩ | ⟨b, c1, c2, c3, c4, c5, c6⟩
        · rw [if_neg (by decide), bX_some]
          refine WP_some.2 ⟨m - 1, by omega, n, ptr, out, rfl, b2, b3, b4, b5, b6, .inr ⟨rfl, fun u hu => ?_⟩⟩
          have le := b2.2.1 u hu
          by_cases t : kB C ≤ u
          · have := no u hu t; omega
          · have z : srN C e a nT u = 0 := by
              have : srN C e a nT u = cG (rdN C a u) (nT u) 0 := if_pos (by omega)
              rw [this, cG_f (fun h => t (rdN_lt w h).2.1)]
            omega
        · obtain ⟨v1, v2⟩ := v
          dsimp only at c4 c5 ⊢
          have zt : (40 * (256 * (e : Int) + (a : Int)) + (n : Int)).toNat = tX e a n := by show _ = 40 * (256 * e + a) + n; omega
          have tl : tX e a n < 225280 := by show 40 * (256 * e + a) + n < _; omega
          have best : ∀ u, u < kN C + 1 → u ≠ b → ptr u < srN C e a nT u → befP C (srF C e T b (ptr b)) (srF C e T u (ptr u)) := fun u h1 h2 h3 => by
            by_cases t : kB C ≤ u
            · exact c6 u h1 t h2 h3
            · have z : srN C e a nT u = 0 := by
                have : srN C e a nT u = cG (rdN C a u) (nT u) 0 := if_pos (by omega)
                rw [this, cG_f (fun h => t (rdN_lt w h).2.1)]
              omega
          have vb : 0 ≤ v1 ∧ v1 ≤ 200000 := by
            rw [c4]
            by_cases qb : b < kN C
            · have fb : srF C e T b (ptr b) = b :: T b (ptr b) := if_pos qb
              have sb : srN C e a nT b = cG (rdN C a b) (nT b) 0 := if_pos qb
              by_cases rb : rdN C a b
              · rw [cG_t rb] at sb
                have tb := (hT b (by have := (rdN_lt w rb).1; omega) qb).2.1
                have lb := Tl_rng w wp _ _ (tb.2.1 (ptr b) (by omega)) qb
                have lb2 := Tl_len w _ _ (tb.2.1 (ptr b) (by omega)) qb
                have tmb := kTime_rng w wp qb
                rw [fb, tLen_n (by omega)]; omega
              · rw [cG_f rb] at sb; omega
            · have fb : srF C e T b (ptr b) = [10000 + e] := if_neg qb
              have m := moF_rng (C := C) (e := e)
              rw [fb, tLen_e]; omega
          have st := b2.step (befP_tr C) (fun u i j hu => (top u hu).2.2.1 i j) c1 (by omega) c3 best (out' := updN out n (srF C e T b (ptr b))) (ptr' := updN ptr b (ptr b + 1)) (fun j hj => updN_ne (by omega)) updN_eq (fun u _ => by
            by_cases t : u = b
            · rw [if_pos t, t, updN_eq]
            · rw [if_neg t, updN_ne t])
          by_cases qb : b < kN C
          · rw [if_pos qb] at c5
            subst c5
            have fb : srF C e T b (ptr b) = b :: T b (ptr b) := if_pos qb
            have sb : srN C e a nT b = cG (rdN C a b) (nT b) 0 := if_pos qb
            have rb : rdN C a b := Classical.byContradiction (fun rb => by rw [cG_f rb] at sb; omega)
            rw [cG_t rb] at sb
            have lb := rdN_lt w rb
            have nb40 := (hT b (by omega) qb).2.1.1
            have pb := b3 b c2 qb
            rw [cI_t rb] at pb
            have y28 : (bX (if ¬ w32 s1 = 0 then if w32 (b : Int) < 10000 then some true else some false else some false) fun b => if b = true then some (1 : Int) else some 0) = some s1 := by
              rw [w32_id (x := (b : Int)) (by omega)]
              rcases b4 with ⟨rfl, _⟩ | ⟨rfl, _⟩
              · rw [if_pos (by decide), if_pos (show (b : Int) < 10000 by omega)]; rfl
              · rw [if_neg (by decide)]; rfl
            rw [w32_id (x := (b : Int)) (by omega), if_pos (show ¬ (b : Int) = -1 by omega), if_pos (by decide), wrI_e (by omega), zt, wrI_e (by omega), zt, if_pos (by omega), rdI_e (by omega), Int.toNat_natCast, hI_sI_a (by omega), hI_sI_a (by omega), pb, bX_some, wrI_e (by omega), zt]
            rw [w32_id (x := (b : Int)) (by omega)] at y28
            rw [y28, bX_some, if_pos (by omega), rdI_e (by omega), Int.toNat_natCast, hI_sI_a (by omega), hI_sI_a (by omega), hI_sI_a (by omega), pb, wrI_e (by omega), Int.toNat_natCast, bX_some]
            obtain ⟨Z, hZ⟩ : ∃ Z, Z = sI (sI (sI (sI s4 2159 (tX e a n) v1) 2160 (tX e a n) (b : Int)) 2161 (tX e a n) (ptr b : Int)) 2162 b ((ptr b : Int) + 1) := ⟨_, rfl⟩
            rw [← hZ]
            have fZ : FT e a S Z := by
              rw [hZ]
              refine (((b6.sI ?_).sI ?_).sI ?_).sI (.inl rfl)
              · exact .inr (.inr ⟨by omega, by omega, by show _ ≤ 40 * (256 * e + a) + n; omega, by show 40 * (256 * e + a) + n < _; omega⟩)
              · exact .inr (.inr ⟨by omega, by omega, by show _ ≤ 40 * (256 * e + a) + n; omega, by show 40 * (256 * e + a) + n < _; omega⟩)
              · exact .inr (.inr ⟨by omega, by omega, by show _ ≤ 40 * (256 * e + a) + n; omega, by show 40 * (256 * e + a) + n < _; omega⟩)
            have z59 : ∀ i, gI Z 2159 (tX e a i) = if i = n then v1 else gI s4 2159 (tX e a i) := fun i => by
              rw [hZ, hI_sI_a (by omega), hI_sI_a (by omega), hI_sI_a (by omega)]
              by_cases t : i = n
              · rw [t, gI_set, if_pos rfl, w32_id (by omega)]
              · rw [hI_sI_i (by show 40 * (256 * e + a) + i ≠ 40 * (256 * e + a) + n; omega), if_neg t]
            have z60 : ∀ i, gI Z 2160 (tX e a i) = if i = n then (b : Int) else gI s4 2160 (tX e a i) := fun i => by
              rw [hZ, hI_sI_a (by omega), hI_sI_a (by omega)]
              by_cases t : i = n
              · rw [t, gI_set, if_pos rfl, w32_id (by omega)]
              · rw [hI_sI_i (by show 40 * (256 * e + a) + i ≠ 40 * (256 * e + a) + n; omega), hI_sI_a (by omega), if_neg t]
            have z61 : ∀ i, gI Z 2161 (tX e a i) = if i = n then (ptr b : Int) else gI s4 2161 (tX e a i) := fun i => by
              rw [hZ, hI_sI_a (by omega)]
              by_cases t : i = n
              · rw [t, gI_set, if_pos rfl, w32_id (by omega)]
              · rw [hI_sI_i (by show 40 * (256 * e + a) + i ≠ 40 * (256 * e + a) + n; omega), hI_sI_a (by omega), hI_sI_a (by omega), if_neg t]
            have z62 : ∀ x, gI Z 2162 x = if x = b then (ptr b : Int) + 1 else gI s4 2162 x := fun x => by
              rw [hZ]
              by_cases t : x = b
              · rw [t, gI_set, if_pos rfl, w32_id (by omega)]
              · rw [hI_sI_i t, hI_sI_a (by omega), hI_sI_a (by omega), hI_sI_a (by omega), if_neg t]
            refine WP_some.2 ⟨m - 1, by omega, n + 1, updN ptr b (ptr b + 1), updN out n (srF C e T b (ptr b)), by show (n : Int) + 1 = _; omega, st, fun x h1 h2 => ?_, ?_, fun i hi => ?_, fZ, .inl ⟨rfl, by omega⟩⟩
            · dsimp only
              rw [z62]
              by_cases t : x = b
              · rw [if_pos t, t, updN_eq, cI_t rb]; omega
              · rw [if_neg t, updN_ne t]; exact b3 x h1 h2
            · dsimp only
              rw [updN_ne (show kN C ≠ b by omega)]; exact b4
            · dsimp only
              rw [z59]
              unfold TN
              rw [z60, z61]
              dsimp only
              by_cases t : i = n
              · rw [if_pos t, t, updN_eq]
                refine ⟨c4, .inr ⟨b, ptr b, qb, lb.1, by omega, ?_, by rw [if_pos rfl], by rw [if_pos rfl]⟩⟩
                rw [if_pos rfl, updN_eq, fb, if_neg (by omega)]
              · have b5' := b5 i (by omega)
                unfold TN at b5'
                dsimp only at b5'
                rw [if_pos rfl] at b5'
                rw [if_neg t, updN_ne t, if_neg t, if_neg t, if_pos rfl, updN_ne t]
                refine ⟨b5'.1, b5'.2.elim .inl (fun ⟨x, j, y1, y2, y3, y4, y5, y6⟩ => .inr ⟨x, j, y1, y2, y3, ?_, y5, y6⟩)⟩
                rw [if_neg (by omega)] at y4 ⊢; exact y4
          · have eb : b = kN C := by omega
            rw [if_neg qb] at c5
            subst c5
            have fb : srF C e T b (ptr b) = [10000 + e] := if_neg qb
            have e1 : s1 = 1 := by
              rcases b4 with ⟨h, _⟩ | ⟨_, h⟩
              · exact h
              · rw [eb] at c3; exact absurd c3 h
            have sb1 : srN C e a nT (kN C) ≤ 1 := by
              have : srN C e a nT (kN C) = bo (kEnd C e = (a : Int)) := if_neg (by omega)
              rw [this]; exact bo_le
            subst e1
            rw [w32_id (x := ((10000 + e : Nat) : Int)) (by omega), if_pos (show ¬ ((10000 + e : Nat) : Int) = -1 by omega), if_pos (by decide), wrI_e (by omega), zt, wrI_e (by omega), zt, if_neg (by omega), bX_some, wrI_e (by omega), zt, if_pos (by decide), if_neg (by omega), bX_some, if_neg (by decide), bX_some, if_neg (by omega), bX_some]
            obtain ⟨Z, hZ⟩ : ∃ Z, Z = sI (sI (sI s4 2159 (tX e a n) v1) 2160 (tX e a n) ((10000 + e : Nat) : Int)) 2161 (tX e a n) 0 := ⟨_, rfl⟩
            rw [← hZ]
            have fZ : FT e a S Z := by
              rw [hZ]
              refine ((b6.sI ?_).sI ?_).sI ?_
              · exact .inr (.inr ⟨by omega, by omega, by show _ ≤ 40 * (256 * e + a) + n; omega, by show 40 * (256 * e + a) + n < _; omega⟩)
              · exact .inr (.inr ⟨by omega, by omega, by show _ ≤ 40 * (256 * e + a) + n; omega, by show 40 * (256 * e + a) + n < _; omega⟩)
              · exact .inr (.inr ⟨by omega, by omega, by show _ ≤ 40 * (256 * e + a) + n; omega, by show 40 * (256 * e + a) + n < _; omega⟩)
            have z59 : ∀ i, gI Z 2159 (tX e a i) = if i = n then v1 else gI s4 2159 (tX e a i) := fun i => by
              rw [hZ, hI_sI_a (by omega), hI_sI_a (by omega)]
              by_cases t : i = n
              · rw [t, gI_set, if_pos rfl, w32_id (by omega)]
              · rw [hI_sI_i (by show 40 * (256 * e + a) + i ≠ 40 * (256 * e + a) + n; omega), if_neg t]
            have z60 : ∀ i, gI Z 2160 (tX e a i) = if i = n then ((10000 + e : Nat) : Int) else gI s4 2160 (tX e a i) := fun i => by
              rw [hZ, hI_sI_a (by omega)]
              by_cases t : i = n
              · rw [t, gI_set, if_pos rfl, w32_id (by omega)]
              · rw [hI_sI_i (by show 40 * (256 * e + a) + i ≠ 40 * (256 * e + a) + n; omega), hI_sI_a (by omega), if_neg t]
            have z61 : ∀ i, gI Z 2161 (tX e a i) = if i = n then 0 else gI s4 2161 (tX e a i) := fun i => by
              rw [hZ]
              by_cases t : i = n
              · rw [t, gI_set, if_pos rfl]; rfl
              · rw [hI_sI_i (by show 40 * (256 * e + a) + i ≠ 40 * (256 * e + a) + n; omega), hI_sI_a (by omega), hI_sI_a (by omega), if_neg t]
            have z62 : ∀ x, gI Z 2162 x = gI s4 2162 x := fun x => by rw [hZ, hI_sI_a (by omega), hI_sI_a (by omega), hI_sI_a (by omega)]
            refine WP_some.2 ⟨m - 1, by omega, n + 1, updN ptr b (ptr b + 1), updN out n (srF C e T b (ptr b)), by show (n : Int) + 1 = _; omega, st, fun x h1 h2 => ?_, ?_, fun i hi => ?_, fZ, .inl ⟨rfl, by omega⟩⟩
            · dsimp only
              rw [z62, updN_ne (show x ≠ b by omega)]; exact b3 x h1 h2
            · refine .inr ⟨rfl, ?_⟩
              rw [eb, updN_eq]; omega
            · dsimp only
              rw [z59]
              unfold TN
              rw [z60, z61]
              dsimp only
              by_cases t : i = n
              · rw [if_pos t, t, updN_eq]
                refine ⟨c4, .inl ⟨?_, by rw [if_pos rfl]⟩⟩
                rw [if_pos rfl, updN_eq, fb]
              · have b5' := b5 i (by omega)
                unfold TN at b5'
                dsimp only at b5'
                rw [if_pos rfl] at b5'
                rw [if_neg t, updN_ne t, if_neg t, if_neg t, if_pos rfl, updN_ne t]
                refine ⟨b5'.1, b5'.2.elim .inl (fun ⟨x, j, y1, y2, y3, y4, y5, y6⟩ => .inr ⟨x, j, y1, y2, y3, ?_, y5, y6⟩)⟩
                rw [if_neg (by omega)] at y4 ⊢; exact y4
      · rw [if_neg (by decide), bX_some, if_neg (by decide)]
        exact fin _ (.inr b7)
  · dsimp only
    have sk : srN C e a nT (kN C) = bo (kEnd C e = (a : Int)) := if_neg (by omega)
    rw [sk, hen]
    by_cases t : kEnd C e = (a : Int)
    · rw [if_pos t, bo_t t]; exact .inl ⟨rfl, by omega⟩
    · rw [if_neg t, bo_f t]; exact .inr ⟨rfl, by omega⟩
theorem m_findTails (r : RefK S k C) (w : WFC C) (wp : WFP C) (hk : k < 4) (he : e < kO C + kR C) (ha : a < kN C) (hT : TS S C e (a + 1) nT T) (ht : ∀ n, n < kN C → gI S 2153 n = kTime C n) :
    WP (mX23_findTails S (k : Int) (e : Int) (a : Int)) (fun z => ∃ nT' T', TS z C e a nT' T' ∧ FT e a S z) := by
  have hn := w.nums
  have e1 := r.1.1
  have e2 := r.1.2.1
  rw [w.i] at e1
  rw [w.r] at e2
  have kr := kEnd_rng w he
  unfold mX23_findTails
  rw [rdI_e (by omega), Int.toNat_natCast, e1, rdI_e (by omega), Int.toNat_natCast, e2, m_endNet hk r w he, bX_some]
  refine WP_call (m_ft48 r w hk ha) (fun y hy => ?_)
  obtain ⟨c1, c2⟩ := hy
  have f1 : FT e a S y := FT.refl.ch c1
  have eq : (if w32 (kEnd C e) = w32 (a : Int) then (1 : Int) else 0) = if kEnd C e = (a : Int) then 1 else 0 := by rw [w32_id (by omega), w32_id (by omega)]
  rw [eq]
  refine WP_call (m_ft100 (r.ch c1 (by omega)) w wp hk he ha (hT.ft f1) (fun n hn' => (c1.1 _ _ (by omega)).trans (ht n hn')) c2 rfl) (fun v hv => ?_)
  obtain ⟨n, out, d1, d2, d3, d4⟩ := hv
  have n40 := d2.1
  have zt : (256 * (e : Int) + (a : Int)).toNat = 256 * e + a := by omega
  rw [wrI_e (by omega), zt, d1]
  have fz : FT e a S (sI v.2 2158 (256 * e + a) (n : Int)) := (f1.tr d3).sI (.inr (.inl ⟨rfl, rfl⟩))
  refine WP_some.2 ⟨updN nT a n, fun x => if x = a then out else T x, fun x h1 h2 => ?_, fz⟩
  by_cases t : x = a
  · subst t
    refine ⟨by rw [gI_set, updN_eq, w32_id (by omega)], by dsimp only; rw [updN_eq, if_pos rfl]; exact d2, fun i hi => ?_⟩
    rw [updN_eq] at hi
    have d := d4 i hi
    unfold TN at d ⊢
    rw [hI_sI_a (by omega), hI_sI_a (by omega), hI_sI_a (by omega)]
    dsimp only at d ⊢
    rw [if_pos rfl] at d ⊢
    refine ⟨d.1, d.2.elim .inl (fun ⟨x', j, y1, y2, y3, y4⟩ => .inr ⟨x', j, y1, y2, by rw [updN_ne (by omega)]; exact y3, y4⟩)⟩
  · have hs := (hT.ft fz) x (by omega) h2
    obtain ⟨t1, t2, t3⟩ := hs
    dsimp only
    rw [updN_ne t, if_neg t]
    refine ⟨t1, t2, fun i hi => ⟨(t3 i hi).1, ?_⟩⟩
    have t4 := (t3 i hi).2
    unfold TN at t4 ⊢
    dsimp only
    rw [if_neg t]
    refine t4.elim .inl (fun ⟨x', j, y1, y2, y3, y4, y5⟩ => .inr ⟨x', j, y1, y2, by rw [updN_ne (by omega)]; exact y3, by rw [if_neg (by omega)]; exact y4, y5⟩)
end MTAILS2
