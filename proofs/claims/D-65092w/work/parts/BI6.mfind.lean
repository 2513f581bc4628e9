/-! the reference finds paths, tells of one -/
theorem gnz_16 {τ : Type} {K : Option τ} : gnz 16 K = K := if_neg (by decide)
theorem d16 {h : Nat} (hh : h < 100000) : aRem (h : Int) 16 = ((h % 16 : Nat) : Int) ∧ aDiv (h : Int) 16 = ((h / 16 : Nat) : Int) := ⟨by rw [aRem_nn (by omega) (by omega)]; omega, by rw [aDiv_nn (by omega) (by omega)]; omega⟩
/-- what a path tells -/
def pO (C : Chp) (P : List Nat) (what : Int) : Int :=
  if what = -1 then tLen C P else if what = -2 then ((P.getD (P.length - 1) 0 : Nat) : Int) - 10000 else if what = -3 then ((P.length - 1 : Nat) : Int) else if what < ((P.length - 1 : Nat) : Int) then ((P.getD what.toNat 0 : Nat) : Int) else -1
section MFIND
variable {S z y : Sto} {k e a lo : Nat} {C : Chp} {N : Nat → Nat → Nat} {T : Nat → Nat → Nat → List Nat}
theorem TS.mv {nT : Nat → Nat} {T : Nat → Nat → List Nat} (h : TS S C e lo nT T) (g : ∀ b i, 2158 ≤ b → b ≤ 2161 → gI z b i = gI S b i) : TS z C e lo nT T := fun w h1 h2 => by
  obtain ⟨t1, t2, t3⟩ := h w h1 h2
  refine ⟨(g _ _ (by omega) (by omega)).trans t1, t2, fun i hi => ?_⟩
  obtain ⟨t4, t5⟩ := t3 i hi
  unfold TN at t5 ⊢
  rw [g 2159 _ (by omega) (by omega), g 2160 _ (by omega) (by omega), g 2161 _ (by omega) (by omega)]
  exact ⟨t4, t5⟩
/-- heads as they stand -/
def HPt (z : Sto) (C : Chp) (lo : Nat) (ptr : Nat → Nat) : Prop := ∀ h, h < 16 * lo → h % 16 < kB C → gI z 2166 h = if kFls C ((h % 16 : Nat) : Int) ((h / 16 : Nat) : Int) = true then 40 else (ptr h : Int)
theorem m_fp176 (w : WFC C) (wp : WFP C) (hl : lo = kO C + kR C) (hT : TAl S C lo N T) (ht : ∀ n, n < kN C → gI S 2153 n = kTime C n) {ptr : Nat → Nat} (hh : HPt S C lo ptr) (hp : ∀ u, u < 16 * lo → ptr u ≤ psN C N u) {mo : Int} :
    WP (lpF (mX23_findPaths_L176 (kO C : Int) (kR C : Int) (kI C : Int) (kR C : Int) (mo, S)) ((-1), 0)) (fun z => (z = -1 ∧ ∀ u, u < 16 * lo → ¬ ptr u < psN C N u) ∨ ∃ b : Nat, z = (b : Int) ∧ b < 16 * lo ∧ ptr b < psN C N b ∧ ∀ u, u < 16 * lo → u ≠ b → ptr u < psN C N u → befP C (psF T b (ptr b)) (psF T u (ptr u))) := by
  have hn := w.nums
  have hN := kN_le w
  refine WP_cnt (16 * lo) (fun i s => s.2 = (i : Int) ∧ ((s.1 = -1 ∧ ∀ u, u < i → ¬ ptr u < psN C N u) ∨ ∃ b : Nat, s.1 = (b : Int) ∧ b < i ∧ ptr b < psN C N b ∧ ∀ u, u < i → u ≠ b → ptr u < psN C N u → befP C (psF T b (ptr b)) (psF T u (ptr u)))) (by unfold cFU; omega) ⟨rfl, .inl ⟨rfl, fun u hu => absurd hu (Nat.not_lt_zero _)⟩⟩ (fun i s hi hI => ?_) (fun s hI => ?_)
  · obtain ⟨z1, z2⟩ := s
    obtain ⟨b1, b2⟩ := hI
    dsimp only at b1 b2
    subst b1
    obtain ⟨dr, dd⟩ := d16 (h := i) (by omega)
    have el : i / 16 < lo := by omega
    have e1 : w32 (16 * ((kO C : Int) + (kR C : Int))) = 16 * ((kO C : Int) + (kR C : Int)) := w32_id (by omega)
    have skip : ¬ ptr i < psN C N i → WP (some (Sum.inl (z1, (i : Int) + 1)) : Option ((Int × Int) ⊕ Int)) (WE (fun s => s.2 = ((i + 1 : Nat) : Int) ∧ ((s.1 = -1 ∧ ∀ u, u < i + 1 → ¬ ptr u < psN C N u) ∨ ∃ b : Nat, s.1 = (b : Int) ∧ b < i + 1 ∧ ptr b < psN C N b ∧ ∀ u, u < i + 1 → u ≠ b → ptr u < psN C N u → befP C (psF T b (ptr b)) (psF T u (ptr u)))) (fun z => (z = -1 ∧ ∀ u, u < 16 * lo → ¬ ptr u < psN C N u) ∨ ∃ b : Nat, z = (b : Int) ∧ b < 16 * lo ∧ ptr b < psN C N b ∧ ∀ u, u < 16 * lo → u ≠ b → ptr u < psN C N u → befP C (psF T b (ptr b)) (psF T u (ptr u)))) := fun no => by
      refine WP_some.2 ⟨by show (i : Int) + 1 = _; omega, ?_⟩
      rcases b2 with ⟨c1, c2⟩ | ⟨b, c1, c2, c3, c4⟩
      · refine .inl ⟨c1, fun u hu => ?_⟩
        by_cases q : u = i
        · rw [q]; exact no
        · exact c2 u (by omega)
      · refine .inr ⟨b, c1, by omega, c3, fun u hu ne hd => ?_⟩
        by_cases q : u = i
        · rw [q] at hd; exact absurd hd no
        · exact c4 u (by omega) ne hd
    have take : ptr i < psN C N i → (∀ u, u < i → ptr u < psN C N u → befP C (psF T i (ptr i)) (psF T u (ptr u))) → WP (some (Sum.inl ((i : Int), (i : Int) + 1)) : Option ((Int × Int) ⊕ Int)) (WE (fun s => s.2 = ((i + 1 : Nat) : Int) ∧ ((s.1 = -1 ∧ ∀ u, u < i + 1 → ¬ ptr u < psN C N u) ∨ ∃ b : Nat, s.1 = (b : Int) ∧ b < i + 1 ∧ ptr b < psN C N b ∧ ∀ u, u < i + 1 → u ≠ b → ptr u < psN C N u → befP C (psF T b (ptr b)) (psF T u (ptr u)))) (fun z => (z = -1 ∧ ∀ u, u < 16 * lo → ¬ ptr u < psN C N u) ∨ ∃ b : Nat, z = (b : Int) ∧ b < 16 * lo ∧ ptr b < psN C N b ∧ ∀ u, u < 16 * lo → u ≠ b → ptr u < psN C N u → befP C (psF T b (ptr b)) (psF T u (ptr u)))) := fun hd all => by
      refine WP_some.2 ⟨by show (i : Int) + 1 = _; omega, .inr ⟨i, rfl, by omega, hd, fun u hu ne hd' => all u (by omega) hd'⟩⟩
    unfold mX23_findPaths_L176
    dsimp only
    rw [w32_id (x := (i : Int)) (by omega), e1, if_pos (by omega), gnz_16, gnz_16, dr, dd, w32_id (x := ((i % 16 : Nat) : Int)) (by omega), w32_id (x := (kI C : Int) + (kR C : Int)) (by omega)]
    by_cases q : i % 16 < kB C
    · have zt : (256 * ((i / 16 : Nat) : Int) + ((i % 16 : Nat) : Int)).toNat = 256 * (i / 16) + i % 16 := by omega
      have tt := hT (i / 16) el (i % 16) (Nat.zero_le _) (by show _ < kB C + kG C; omega)
      have t1 := tt.1
      have n40 := tt.2.1.1
      have hi' := hh i hi q
      rw [if_pos (by omega), rdI_e (by omega), Int.toNat_natCast, hi', rdI_e (by omega), zt, t1, w32_id (x := (N (i / 16) (i % 16) : Int)) (by omega)]
      by_cases qf : kFls C ((i % 16 : Nat) : Int) ((i / 16 : Nat) : Int) = true
      · have en : psN C N i = 0 := if_neg (fun g => by rw [qf] at g; exact absurd g.2 (by decide))
        rw [if_pos qf, if_neg (by rw [w32_id (by omega)]; omega), bX_some, if_neg (by decide), bX_some]
        exact skip (by rw [en]; omega)
      · have qf' : kFls C ((i % 16 : Nat) : Int) ((i / 16 : Nat) : Int) = false := by cases h : kFls C ((i % 16 : Nat) : Int) ((i / 16 : Nat) : Int); rfl; exact absurd h qf
        have en : psN C N i = N (i / 16) (i % 16) := if_pos ⟨q, qf'⟩
        have pl := hp i hi
        rw [en] at pl
        rw [if_neg qf, w32_id (x := (ptr i : Int)) (by omega)]
        by_cases qd : ptr i < N (i / 16) (i % 16)
        · have hd : ptr i < psN C N i := by rw [en]; exact qd
          rw [if_pos (by omega)]
          rcases b2 with ⟨rfl, c2⟩ | ⟨b, rfl, c2, c3, c4⟩
          · rw [if_neg (by decide), bX_some, if_pos rfl, bX_some]
            exact take hd (fun u hu h => absurd h (c2 u hu))
          · obtain ⟨br, bd⟩ := d16 (h := b) (by omega)
            have cb := c3
            unfold psN at cb
            have qb : b % 16 < kB C ∧ kFls C ((b % 16 : Nat) : Int) ((b / 16 : Nat) : Int) = false := Classical.byContradiction (fun g => by rw [if_neg g] at cb; omega)
            rw [if_pos qb] at cb
            have hb' := hh b (by omega) qb.1
            rw [if_neg (by rw [qb.2]; decide)] at hb'
            have ip := m_ipb w wp hT (by omega) ht (e := i / 16) (s := i % 16) (i := ptr i) (f := b / 16) (t := b % 16) (j := ptr b) el (by show _ < kB C + kG C; omega) qd (by omega) (by show _ < kB C + kG C; omega) cb
            rw [w32_id (x := (b : Int)) (by omega), if_pos (by omega), rdI_e (by omega), Int.toNat_natCast, hi', if_neg qf, gnz_16, gnz_16, rdI_e (by omega), Int.toNat_natCast, hb', br, bd, ip, bX_some]
            have ne := ps_ne w hT hi (by omega) hd c3 (show i ≠ b by omega)
            by_cases qq : befP C (i % 16 :: T (i / 16) (i % 16) (ptr i)) (b % 16 :: T (b / 16) (b % 16) (ptr b))
            · rw [cI_t qq, if_pos (by decide), bX_some, if_pos rfl, bX_some]
              refine take hd (fun u hu h => ?_)
              by_cases e : u = b
              · rw [e]; exact qq
              · exact befP_tr C _ _ _ qq (c4 u hu e h)
            · rw [cI_f qq, if_neg (by decide), bX_some, if_neg (by decide), bX_some]
              refine WP_some.2 ⟨by show (i : Int) + 1 = _; omega, .inr ⟨b, rfl, by omega, c3, fun u hu ne' h => ?_⟩⟩
              by_cases e : u = i
              · rw [e]; exact (befP_tot ne).resolve_left qq
              · exact c4 u (by omega) ne' h
        · rw [if_neg (by omega), bX_some, if_neg (by decide), bX_some]
          exact skip (by rw [en]; exact qd)
    · have en : psN C N i = 0 := if_neg (fun g => q g.1)
      rw [if_neg (by omega), bX_some, if_neg (by decide), bX_some]
      exact skip (by rw [en]; omega)
  · obtain ⟨z1, z2⟩ := s
    obtain ⟨b1, b2⟩ := hI
    dsimp only at b1 b2
    subst b1
    unfold mX23_findPaths_L176
    dsimp only
    rw [w32_id (x := ((16 * lo : Nat) : Int)) (by omega), w32_id (x := 16 * ((kO C : Int) + (kR C : Int))) (by omega), if_neg (by omega)]
    exact WP_some.2 b2
/-- the paths that were chosen -/
def MPa (z : Sto) (C : Chp) (lo n : Nat) (out : Nat → List Nat) (N : Nat → Nat → Nat) (T : Nat → Nat → Nat → List Nat) : Prop :=
  gI z 2000 206 = (n : Int) ∧ TAl z C lo N T ∧ (∀ x, x < kN C → gI z 2153 x = kTime C x) ∧ ∀ i, i < n → ∃ h j, h < 16 * lo ∧ j < psN C N h ∧ gI z 2163 i = ((h % 16 : Nat) : Int) ∧ gI z 2164 i = ((h / 16 : Nat) : Int) ∧ gI z 2165 i = (j : Int) ∧ out i = psF T h j
theorem m_fp156 (w : WFC C) (wp : WFP C) (hl : lo = kO C + kR C) (hT : TAl S C lo N T) (ht : ∀ n, n < kN C → gI S 2153 n = kTime C n) (hh : HPt S C lo (fun _ => 0)) (h0 : gI S 2000 206 = 0) :
    WP (lpF (mX23_findPaths_L156 (kO C : Int) (kR C : Int) (kI C : Int) (kR C : Int)) (1, S)) (fun z => ∃ n out, MPa z C lo n out N T ∧ Top (Vp C) (befP C) n out ∧ FP S z) := by
  have hn := w.nums
  have hN := kN_le w
  refine WP_lpM (fun s m => ∃ (n : Nat) (ptr : Nat → Nat) (out : Nat → List Nat), MPa s.2 C lo n out N T ∧ Mrg (befP C) (16 * lo) (psN C N) (psF T) n out ptr ∧ HPt s.2 C lo ptr ∧ FP S s.2 ∧ ((s.1 = 1 ∧ 41 - n ≤ m) ∨ (s.1 = 0 ∧ ∀ u, u < 16 * lo → ptr u = psN C N u))) (fun s m hI => ?_) (m := 41) ⟨0, fun _ => 0, fun _ => [], ⟨h0, hT, ht, fun i hi => absurd hi (Nat.not_lt_zero _)⟩, Mrg.start, hh, FP.refl, .inl ⟨rfl, by omega⟩⟩ (by unfold cFU; omega)
  obtain ⟨s1, s2⟩ := s
  obtain ⟨n, ptr, out, b1, b2, b3, b4, b5⟩ := hI
  dsimp only at b1 b3 b4 b5
  obtain ⟨a1, a2, a3, a4⟩ := id b1
  have n40 := b2.1
  have top : ∀ u, u < 16 * lo → Top (psV C u) (befP C) (psN C N u) (psF T u) := fun u hu => ps_top a2 hu
  have fin : ∀ st, (n = 40 ∨ ∀ u, u < 16 * lo → ptr u = psN C N u) → WP (some (Sum.inr s2) : Option ((Int × Sto) ⊕ Sto)) (WE st (fun z => ∃ n out, MPa z C lo n out N T ∧ Top (Vp C) (befP C) n out ∧ FP S z)) := fun st stop => by
    have t := b2.top (befP_tr C) top stop
    have eq : (fun p => ∃ u, u < 16 * lo ∧ psV C u p) = Vp C := funext fun p => propext (ps_all w hl)
    rw [eq] at t
    exact WP_some.2 ⟨n, out, b1, t, b4⟩
  unfold mX23_findPaths_L156
  dsimp only
  rw [a1, w32_id (x := (n : Int)) (by omega)]
  by_cases q : n = 40
  · rw [if_neg (by omega), bX_some, if_neg (by decide)]
    exact fin _ (.inl q)
  · rw [if_pos (by omega)]
    rcases b5 with ⟨rfl, b5⟩ | ⟨rfl, b5⟩
    · rw [if_pos (by decide), bX_some, if_pos rfl]
      refine WP_call (m_fp176 w wp hl a2 a3 b3 b2.2.1) (fun v hv => ?_)
      rcases hv with ⟨rfl, no⟩ | ⟨b, rfl, c1, c2, c3⟩
      · rw [if_neg (by decide), bX_some]
        exact WP_some.2 ⟨m - 1, by omega, n, ptr, out, b1, b2, b3, b4, .inr ⟨rfl, fun u hu => by have := no u hu; have := b2.2.1 u hu; omega⟩⟩
      · obtain ⟨br, bd⟩ := d16 (h := b) (by omega)
        have cb := c2
        unfold psN at cb
        have qb : b % 16 < kB C ∧ kFls C ((b % 16 : Nat) : Int) ((b / 16 : Nat) : Int) = false := Classical.byContradiction (fun g => by rw [if_neg g] at cb; omega)
        rw [if_pos qb] at cb
        have nb40 := (a2 (b / 16) (by omega) (b % 16) (Nat.zero_le _) (by show _ < kB C + kG C; omega)).2.1.1
        have hb' := b3 b c1 qb.1
        rw [if_neg (by rw [qb.2]; decide)] at hb'
        have st := b2.step (befP_tr C) (fun u i j hu => (top u hu).2.2.1 i j) c1 (by omega) c2 c3 (out' := updN out n (psF T b (ptr b))) (ptr' := updN ptr b (ptr b + 1)) (fun j hj => updN_ne (by omega)) updN_eq (fun u _ => by
            by_cases t : u = b
            · rw [if_pos t, t, updN_eq]
            · rw [if_neg t, updN_ne t])
        have zn : ((n : Int)).toNat = n := Int.toNat_natCast n
        rw [w32_id (x := (b : Int)) (by omega), if_pos (show ¬ (b : Int) = -1 by omega), if_pos (by decide)]
        simp (disch := omega) only [gnz_16, br, bd, rdI_e, wrI_e, hI_sI_a, a1, hb', zn, Int.toNat_natCast, bX_some, wf_eq]
        obtain ⟨Z, hZ⟩ : ∃ Z, Z = sI (sI (sI (sI (sI s2 2163 n ((b % 16 : Nat) : Int)) 2164 n ((b / 16 : Nat) : Int)) 2165 n (ptr b : Int)) 2166 b ((ptr b : Int) + 1)) 2000 206 ((n : Int) + 1) := ⟨_, rfl⟩
        rw [← hZ]
        have zN : ∀ c i, ¬ (2163 ≤ c ∧ c ≤ 2166) → ¬ (c = 2000 ∧ i = 206) → gI Z c i = gI s2 c i := fun c i q1 q2 => by
          rw [hZ, hI_sI, if_neg q2, hI_sI_a (by omega), hI_sI_a (by omega), hI_sI_a (by omega), hI_sI_a (by omega)]
        have z63 : ∀ i, gI Z 2163 i = if i = n then ((b % 16 : Nat) : Int) else gI s2 2163 i := fun i => by
          rw [hZ, hI_sI_a (by omega), hI_sI_a (by omega), hI_sI_a (by omega), hI_sI_a (by omega)]
          by_cases t : i = n
          · rw [t, gI_set, if_pos rfl, w32_id (by omega)]
          · rw [hI_sI_i t, if_neg t]
        have z64 : ∀ i, gI Z 2164 i = if i = n then ((b / 16 : Nat) : Int) else gI s2 2164 i := fun i => by
          rw [hZ, hI_sI_a (by omega), hI_sI_a (by omega), hI_sI_a (by omega)]
          by_cases t : i = n
          · rw [t, gI_set, if_pos rfl, w32_id (by omega)]
          · rw [hI_sI_i t, hI_sI_a (by omega), if_neg t]
        have z65 : ∀ i, gI Z 2165 i = if i = n then (ptr b : Int) else gI s2 2165 i := fun i => by
          rw [hZ, hI_sI_a (by omega), hI_sI_a (by omega)]
          by_cases t : i = n
          · rw [t, gI_set, if_pos rfl, w32_id (by omega)]
          · rw [hI_sI_i t, hI_sI_a (by omega), hI_sI_a (by omega), if_neg t]
        have z66 : ∀ i, gI Z 2166 i = if i = b then (ptr b : Int) + 1 else gI s2 2166 i := fun i => by
          rw [hZ, hI_sI_a (by omega)]
          by_cases t : i = b
          · rw [t, gI_set, if_pos rfl, w32_id (by omega)]
          · rw [hI_sI_i t, hI_sI_a (by omega), hI_sI_a (by omega), hI_sI_a (by omega), if_neg t]
        refine WP_some.2 ⟨m - 1, by omega, n + 1, updN ptr b (ptr b + 1), updN out n (psF T b (ptr b)), ⟨?_, fun e he => (a2 e he).mv (fun c i l1 l2 => zN _ _ (by omega) (by omega)), fun x hx => (zN _ _ (by omega) (by omega)).trans (a3 x hx), fun i hi => ?_⟩, st, fun h h1 h2 => ?_, fun c i q1 q2 => (zN _ _ (by omega) q2).trans (b4 c i q1 q2), .inl ⟨rfl, by omega⟩⟩
        · dsimp only; rw [hZ, gI_set, w32_id (by omega)]; omega
        · dsimp only
          rw [z63, z64, z65]
          by_cases t : i = n
          · rw [if_pos t, if_pos t, if_pos t, t, updN_eq]
            exact ⟨b, ptr b, c1, c2, rfl, rfl, rfl, rfl⟩
          · rw [if_neg t, if_neg t, if_neg t, updN_ne t]
            exact a4 i (by omega)
        · dsimp only
          rw [z66]
          by_cases t : h = b
          · rw [if_pos t, t, updN_eq, if_neg (by rw [qb.2]; decide)]; omega
          · rw [if_neg t, updN_ne t]; exact b3 h h1 h2
    · rw [if_neg (by decide), bX_some, if_neg (by decide)]
      exact fin _ (.inr b5)
theorem m_findPaths (r : RefK S k C) (rP : RefP S k C) (mF : RefF S k C) (wF : WFF C) (w : WFC C) (wp : WFP C) (hk : k < 4) : WP (mX23_findPaths S (k : Int)) (fun z => ∃ n out N T, MPa z C (kO C + kR C) n out N T ∧ Top (Vp C) (befP C) n out) := by
  have hn := w.nums
  unfold mX23_findPaths
  refine WP_callF (m_findTimes r rP w wp hk) fr_mX23_findTimes (fun x1 h1 f1 => ?_)
  obtain ⟨t1, t2, t3, t4⟩ := h1
  have r1 := t4.K r
  have e1 := r1.1.1
  have e2 := r1.1.2.1
  have e3 := r1.1.2.2.1
  rw [w.i] at e1
  rw [w.r] at e2
  rw [w.o] at e3
  have mF1 : RefF x1 k C := mF.mv (fun a i l1 l2 => f1.gi (okP_lab (fun z hz e => by
    have h : ∀ z ∈ W_mX23_findTimes, ¬ (2155 ≤ z.1 ∧ z.1 ≤ 2157) := by decide
    exact h z hz ⟨by omega, by omega⟩)))
  rw [rdI_e (by omega), Int.toNat_natCast, e3, rdI_e (by omega), Int.toNat_natCast, e2, rdI_e (by omega), Int.toNat_natCast, e1, rdI_e (by omega), Int.toNat_natCast, e2]
  refine WP_call (m_fp36 r1 mF1 wF w wp hk t1) (fun y18 h18 => ?_)
  obtain ⟨N, T, a1, a2, a3⟩ := h18
  rw [wf_eq]
  have zN : ∀ c i, ¬ (c = 2000 ∧ i = 206) → gI (sI y18 2000 206 0) c i = gI y18 c i := fun c i q => by rw [hI_sI, if_neg q]
  refine WP_call (m_fp156 (S := sI y18 2000 206 0) w wp rfl (fun e he => (a1 e he).mv (fun c i l1 l2 => zN _ _ (by omega))) (fun n hn' => by rw [zN _ _ (by omega), a3 _ _ (by omega) (by omega)]; exact t1 n hn') (fun h h1 h2 => ?_) (by rw [gI_set]; rfl)) (fun v hv => WP_some.2 ?_)
  · rw [zN _ _ (by omega)]
    have := a2 (h / 16) (h % 16) (by omega) h2
    rw [show 16 * (h / 16) + h % 16 = h by omega] at this
    exact this
  · obtain ⟨n, out, v1, v2, v3⟩ := hv
    exact ⟨n, out, N, T, v1, v2⟩
theorem m_pa117 (w : WFC C) {lo : Nat} (hl : lo ≤ 22) (hT : TAl S C lo N T) {e : Nat} (he : e < lo) {s j : Nat} (hs : s < kN C) (hj : j < N e s) {what : Int} (hw : -3 ≤ what ∧ what < 2147483648 ∧ what ≠ -1 ∧ what ≠ -2) :
    WP (lpF (mX23_path_L117 what S (e : Int)) ((s : Int), (j : Int), 0)) (fun z => (if what = -3 then z.2 else if w32 z.1 < 10000 then z.1 else -1) = pO C (s :: T e s j) what) := by
  have hN := kN_le w
  have t0 := (hT e he s (Nat.zero_le _) hs).2.1.2.1 j hj
  have len : (s :: T e s j).length ≤ 163 := by
    have := Tl_len w _ _ t0 hs
    show (T e s j).length + 1 ≤ _; omega
  generalize hP : s :: T e s j = P at len
  refine WP_lpM (fun st m => ∃ n : Nat, st.2.2 = (n : Int) ∧ n < P.length ∧ P.length - n ≤ m ∧ Cur S C lo N T e st.1 st.2.1 (P.drop n) ∧ (0 ≤ what → (n : Int) ≤ what)) (fun st m hI => ?_) (m := 163) ⟨0, rfl, by rw [← hP]; show 0 < (T e s j).length + 1; omega, by omega, .inl ⟨s, j, rfl, rfl, hs, hj, by rw [← hP]; rfl⟩, fun h => h⟩ (by unfold cFU; omega)
  obtain ⟨z1, z2, z3⟩ := st
  obtain ⟨n, b1, b2, b3, b4, b5⟩ := hI
  dsimp only at b1 b4
  subst b1
  have dl : (P.drop n).length = P.length - n := List.length_drop
  have dg : ∀ x l, P.drop n = x :: l → P.getD n 0 = x := fun x l h => by
    have : (P.drop n)[0]? = P[n + 0]? := List.getElem?_drop
    rw [h, Nat.add_zero] at this
    rw [List.getD_eq_getElem?_getD, ← this]; rfl
  unfold mX23_path_L117
  dsimp only
  rcases b4 with ⟨w1, i1, rfl, rfl, d3, d4, d5⟩ | ⟨rfl, d5⟩
  · have tt := (hT e he w1 (Nat.zero_le _) d3).2.1.2.1 i1 d4
    have n40 := (hT e he w1 (Nat.zero_le _) d3).2.1.1
    obtain ⟨x, u, hx⟩ := Tl_ne tt
    have l2 : n + 1 < P.length := by rw [d5, hx] at dl; have dl : u.length + 1 + 1 = P.length - n := dl; omega
    rw [w32_id (x := (w1 : Int)) (by omega), if_pos (by omega), w32_id (x := (n : Int)) (by omega), w32_id (x := what) (by omega)]
    by_cases q : (n : Int) = what
    · rw [if_neg (fun g => g q), bX_some, if_neg (by decide)]
      refine WP_some.2 ?_
      show (if what = -3 then (n : Int) else if w32 (w1 : Int) < 10000 then (w1 : Int) else -1) = _
      rw [if_neg (by omega), w32_id (by omega), if_pos (by omega)]
      unfold pO
      rw [if_neg hw.2.2.1, if_neg hw.2.2.2, if_neg (by omega), if_pos (by omega), ← q, Int.toNat_natCast, dg w1 _ d5]
    · have z1 : (40 * (256 * (e : Int) + (w1 : Int)) + (i1 : Int)).toNat = tX e w1 i1 := by show _ = 40 * (256 * e + w1) + i1; omega
      rw [if_pos q, bX_some, if_pos rfl, rdI_e (by omega), z1, rdI_e (by omega), z1]
      refine WP_some.2 ⟨m - 1, by omega, n + 1, by show (n : Int) + 1 = _; omega, l2, by omega, ?_, fun h => by have := b5 h; omega⟩
      have : P.drop (n + 1) = T e w1 i1 := by rw [← List.drop_drop, d5]; rfl
      rw [this]
      exact cur_next hT he d3 d4
  · have l1 : n + 1 = P.length := by rw [d5] at dl; have dl : 1 = P.length - n := dl; omega
    rw [w32_id (x := ((10000 + e : Nat) : Int)) (by omega), if_neg (by omega), bX_some, if_neg (by decide)]
    refine WP_some.2 ?_
    show (if what = -3 then (n : Int) else if w32 ((10000 + e : Nat) : Int) < 10000 then ((10000 + e : Nat) : Int) else -1) = _
    unfold pO
    rw [if_neg hw.2.2.1, if_neg hw.2.2.2]
    by_cases q : what = -3
    · rw [if_pos q, if_pos q]; omega
    · rw [if_neg q, if_neg q, w32_id (by omega), if_neg (by omega), if_neg (by have := b5 (by omega); omega)]
/-- what the reference tells of the paths that it found -/
theorem m_tellP (w : WFC C) (wp : WFP C) {n : Nat} {out : Nat → List Nat} (h : MPa S C (kO C + kR C) n out N T) (hn40 : n ≤ 40) {kk : Nat} (hk : kk < 40) {what : Int} (hw : -3 ≤ what ∧ what < 2147483648) :
    WP (if w32 (gI S 2000 206) ≤ w32 (kk : Int) then some ((-1), S) else rdI 40 S 2164 (kk : Int) fun v6 => if w32 what = (-1) then rdI 40 S 2163 (kk : Int) fun v7 => rdI 40 S 2165 (kk : Int) fun v8 => bX (mX23_lengthOf S v7 v6 v8) fun x9 => some (x9, S) else if w32 what = (-2) then some (v6, S) else rdI 40 S 2163 (kk : Int) fun v10 => rdI 40 S 2165 (kk : Int) fun v11 => bX (lpF (mX23_path_L117 what S v6) (v10, v11, 0)) fun y15 => bX (if w32 what = (-3) then some y15.2 else if w32 y15.1 < 10000 then some y15.1 else some (-1)) fun y16 => some (y16, S)) (fun y => y.1 = (if n ≤ kk then -1 else pO C (out kk) what) ∧ y.2 = S) := by
  have hnn := w.nums
  obtain ⟨a1, a2, a3, a4⟩ := h
  rw [a1, w32_id (x := (n : Int)) (by omega), w32_id (x := (kk : Int)) (by omega), w32_id (x := what) (by omega)]
  by_cases q : n ≤ kk
  · rw [if_pos (by omega), if_pos q]; exact WP_some.2 ⟨rfl, rfl⟩
  · obtain ⟨h, j, c1, c2, c3, c4, c5, c6⟩ := a4 kk (by omega)
    have cb := c2
    unfold psN at cb
    have qb : h % 16 < kB C ∧ kFls C ((h % 16 : Nat) : Int) ((h / 16 : Nat) : Int) = false := Classical.byContradiction (fun g => by rw [if_neg g] at cb; omega)
    rw [if_pos qb] at cb
    have sN : h % 16 < kN C := by show _ < kB C + kG C; omega
    have eL : h / 16 < kO C + kR C := by omega
    have tt := (a2 (h / 16) eL (h % 16) (Nat.zero_le _) sN).2.1.2.1 j cb
    rw [if_neg (by omega), if_neg q, rdI_e (by omega), Int.toNat_natCast, c4, c6]
    by_cases q1 : what = -1
    · rw [if_pos q1, rdI_e (by omega), Int.toNat_natCast, c3, rdI_e (by omega), Int.toNat_natCast, c5, m_lengthOf w wp a2 (by omega) a3 eL sN cb, bX_some]
      refine WP_some.2 ⟨?_, rfl⟩
      unfold pO; rw [if_pos q1]; rfl
    · rw [if_neg q1]
      by_cases q2 : what = -2
      · rw [if_pos q2]
        refine WP_some.2 ⟨?_, rfl⟩
        unfold pO
        rw [if_neg q1, if_pos q2]
        have lst : ∀ (t : List Nat) (a : Nat) (s : Nat), Tl C (h / 16) a t → (s :: t).getD ((s :: t).length - 1) 0 = 10000 + h / 16 := by
          intro t
          induction t with
          | nil => exact fun a s g => g.elim
          | cons x t ih =>
            intro a s g
            rcases g with ⟨g1, g2, _⟩ | ⟨_, g⟩
            · subst g2; exact g1
            · exact ih x x g
        show ((h / 16 : Nat) : Int) = (((h % 16 :: T (h / 16) (h % 16) j).getD ((h % 16 :: T (h / 16) (h % 16) j).length - 1) 0 : Nat) : Int) - 10000
        rw [lst _ _ (h % 16) tt]; omega
      · rw [if_neg q2, rdI_e (by omega), Int.toNat_natCast, c3, rdI_e (by omega), Int.toNat_natCast, c5]
        refine WP_call (m_pa117 (what := what) w (by omega) a2 eL sN cb ⟨hw.1, hw.2, q1, q2⟩) (fun v hv => ?_)
        have : (if what = (-3) then some v.2 else if w32 v.1 < 10000 then some v.1 else some (-1)) = some (if what = -3 then v.2 else if w32 v.1 < 10000 then v.1 else -1) := by
          split
          · rfl
          · split <;> rfl
        rw [this, bX_some, hv]
        exact WP_some.2 ⟨rfl, rfl⟩
end MFIND
