/-! the reference finds paths -/
def FE (e : Nat) (S z : Sto) : Prop := ∀ b i, b ≠ 2162 → ¬ (b = 2158 ∧ 256 * e ≤ i ∧ i < 256 * e + 256) → ¬ (2159 ≤ b ∧ b ≤ 2161 ∧ 10240 * e ≤ i ∧ i < 10240 * e + 10240) → gI z b i = gI S b i
theorem RefF.mv {S z : Sto} {k : Nat} {C : Chp} (h : RefF S k C) (e : ∀ a i, 2155 ≤ a → a ≤ 2157 → gI z a i = gI S a i) : RefF z k C := by
  unfold RefF at h ⊢
  simp (disch := omega) only [e]; exact h
section MPATHS
variable {S z y : Sto} {k e a lo : Nat} {C : Chp} {nT : Nat → Nat} {T : Nat → Nat → List Nat}
theorem FE.refl : FE e S S := fun _ _ _ _ _ => rfl
theorem FE.tr (h : FE e S z) (g : FE e z y) : FE e S y := fun b i q1 q2 q3 => (g b i q1 q2 q3).trans (h b i q1 q2 q3)
theorem FE.ft (h : FE e S z) (g : FT e a z y) (ha : a < 256) : FE e S y := fun b i q1 q2 q3 => (g b i q1 (by omega) (by omega)).trans (h b i q1 q2 q3)
theorem TS.fe {e' : Nat} (h : TS S C e' lo nT T) (g : FE e S z) (ne : e' ≠ e) (hN : kN C ≤ 256) : TS z C e' lo nT T := fun w h1 h2 => by
  obtain ⟨t1, t2, t3⟩ := h w h1 h2
  have n40 := t2.1
  refine ⟨(g _ _ (by omega) (by omega) (by omega)).trans t1, t2, fun i hi => ?_⟩
  obtain ⟨t4, t5⟩ := t3 i hi
  have e0 : ∀ b, 2159 ≤ b → b ≤ 2161 → gI z b (tX e' w i) = gI S b (tX e' w i) := fun b l1 l2 => g _ _ (by omega) (by omega) (by show ¬ (_ ∧ _ ∧ _ ≤ 40 * (256 * e' + w) + i ∧ 40 * (256 * e' + w) + i < _); omega)
  unfold TN at t5 ⊢
  rw [e0 _ (by omega) (by omega), e0 _ (by omega) (by omega), e0 _ (by omega) (by omega)]
  exact ⟨t4, t5⟩
theorem Tl_none (h : kEnd C e < 0) : ∀ (t : List Nat) (a : Nat), ¬ Tl C e a t := by
  intro t
  induction t with
  | nil => exact fun a g => g
  | cons x t ih =>
    intro a g
    rcases g with ⟨_, _, g⟩ | ⟨_, g⟩
    · omega
    · exact ih x g
theorem m_fp51 (r : RefK S k C) (w : WFC C) (wp : WFP C) (hk : k < 4) (he : e < kO C + kR C) (ht : ∀ n, n < kN C → gI S 2153 n = kTime C n) {T0 : Sto} :
    WP (lpF (mX23_findPaths_L51 ((e : Int), T0) (k : Int)) ((kN C : Int) - 1, S)) (fun z => ∃ nT T, TS z C e 0 nT T ∧ FE e S z) := by
  have hn := w.nums
  have kr := kEnd_rng w he
  refine WP_cnt (kN C) (fun i s => s.1 = (kN C : Int) - 1 - (i : Int) ∧ FE e S s.2 ∧ ∃ nT T, TS s.2 C e (kN C - i) nT T) (by unfold cFU; omega) ⟨by dsimp only; omega, FE.refl, fun _ => 0, fun _ _ => [], fun x h1 h2 => by omega⟩ (fun i s hi hI => ?_) (fun s hI => ?_)
  · obtain ⟨z1, z2⟩ := s
    obtain ⟨b1, b2, nT, T, b3⟩ := hI
    dsimp only at b1 b2 b3
    obtain ⟨a, ha⟩ : ∃ a : Nat, a = kN C - 1 - i := ⟨_, rfl⟩
    have ez : z1 = (a : Int) := by omega
    subst ez
    have zt : (256 * (e : Int) + (a : Int)).toNat = 256 * e + a := by omega
    have rz : RefK z2 k C := r.cg (fun b i _ _ => b2 b i (by omega) (by omega) (by omega))
    obtain ⟨Z, hZ⟩ : ∃ Z, Z = sI z2 2158 (256 * e + a) 0 := ⟨_, rfl⟩
    have fZ : FT e a z2 Z := by rw [hZ]; exact FT.refl.sI (.inr (.inl ⟨rfl, rfl⟩))
    have eZ : FE e S Z := b2.ft fZ (by omega)
    have rZ : RefK Z k C := r.cg (fun b i _ _ => eZ b i (by omega) (by omega) (by omega))
    have tZ : TS Z C e (a + 1) nT T := (show TS z2 C e (a + 1) nT T by rw [show a + 1 = kN C - i by omega]; exact b3).ft fZ
    unfold mX23_findPaths_L51
    dsimp only
    rw [w32_id (by omega), if_pos (by omega), wrI_e (by omega), zt, ← hZ, m_endNet hk rZ w he, bX_some, w32_id (by omega)]
    by_cases q : 0 ≤ kEnd C e
    · rw [if_pos q]
      refine WP_call (R := fun z => ∃ nT' T', TS z C e a nT' T' ∧ FT e a Z z) (WP_call (m_findTails rZ w wp hk he (by omega) tZ (fun n hn' => (eZ _ _ (by omega) (by omega) (by omega)).trans (ht n hn'))) (fun x hx => WP_some.2 hx)) (fun x hx => ?_)
      obtain ⟨nT', T', x1, x2⟩ := hx
      refine WP_some.2 ⟨by show (a : Int) + -1 = _; omega, eZ.ft x2 (by omega), nT', T', ?_⟩
      rw [show kN C - (i + 1) = a by omega]; exact x1
    · rw [if_neg q, bX_some]
      refine WP_some.2 ⟨by show (a : Int) + -1 = _; omega, eZ, updN nT a 0, T, ?_⟩
      rw [show kN C - (i + 1) = a by omega]
      intro x h1 h2
      by_cases t : x = a
      · subst t
        refine ⟨by dsimp only; rw [hZ, gI_set, updN_eq]; rfl, ?_, fun i hi => ?_⟩
        · rw [updN_eq]
          exact ⟨by omega, fun i hi => absurd hi (Nat.not_lt_zero _), fun i j _ hj => absurd hj (Nat.not_lt_zero _), fun p hp => absurd hp (Tl_none (by omega) p x)⟩
        · rw [updN_eq] at hi; exact absurd hi (Nat.not_lt_zero _)
      · obtain ⟨t1, t2, t3⟩ := tZ x (by omega) h2
        rw [updN_ne t]
        refine ⟨t1, t2, fun i hi => ⟨(t3 i hi).1, ?_⟩⟩
        have t4 := (t3 i hi).2
        unfold TN at t4 ⊢
        exact t4.elim .inl (fun ⟨x', j, y1, y2, y3, y4⟩ => .inr ⟨x', j, y1, y2, by rw [updN_ne (by omega)]; exact y3, y4⟩)
  · obtain ⟨z1, z2⟩ := s
    obtain ⟨b1, b2, nT, T, b3⟩ := hI
    dsimp only at b1 b2 b3
    unfold mX23_findPaths_L51
    dsimp only
    rw [b1, w32_id (by omega), if_neg (by omega)]
    rw [Nat.sub_self] at b3
    exact WP_some.2 ⟨nT, T, b3, b2⟩
/-- heads of all ends -/
def HDs (z : Sto) (C : Chp) (m : Nat) : Prop := ∀ e s, e < m → s < kB C → gI z 2166 (16 * e + s) = if kFls C (s : Int) (e : Int) = true then 40 else 0
theorem m_fp99 (mF : RefF S k C) (wF : WFF C) (w : WFC C) (hk : k < 4) (he : e < kO C + kR C) (hh : HDs S C e) {T0 : Sto} : WP (lpF (mX23_findPaths_L99 (kI C : Int) (kR C : Int) (k : Int) ((e : Int), T0)) (0, S)) (fun z => HDs z C (e + 1) ∧ Ch 2166 2166 S z) := by
  have hn := w.nums
  refine WP_cnt (kB C) (fun i s => s.1 = (i : Int) ∧ Ch 2166 2166 S s.2 ∧ HDs s.2 C e ∧ ∀ t, t < i → gI s.2 2166 (16 * e + t) = if kFls C (t : Int) (e : Int) = true then 40 else 0) (by unfold cFU; omega) ⟨rfl, Ch.refl, hh, fun t h => absurd h (Nat.not_lt_zero _)⟩ (fun i s hi hI => ?_) (fun s hI => ?_)
  · obtain ⟨z1, z2⟩ := s
    obtain ⟨b1, b2, b3, b4⟩ := hI
    dsimp only at b1 b2 b3 b4
    subst b1
    have zt : (16 * (e : Int) + (i : Int)).toNat = 16 * e + i := by omega
    have mz : RefF z2 k C := mF.mv (fun a j _ _ => b2.1 _ _ (by omega))
    unfold mX23_findPaths_L99
    dsimp only
    rw [w32_id (x := (i : Int)) (by omega), w32_id (x := (kI C : Int) + (kR C : Int)) (by omega), if_pos (by omega), m_isFalse hk mz wF ⟨by omega, by omega⟩ ⟨by omega, by omega⟩, bX_some, wrI_e (by omega), zt]
    have ev : (if ¬ w32 (b2i (kFls C (i : Int) (e : Int))) = 0 then (40 : Int) else 0) = if kFls C (i : Int) (e : Int) = true then 40 else 0 := by cases kFls C (i : Int) (e : Int) <;> rfl
    rw [ev]
    have nr : ∀ j, j ≠ 16 * e + i → gI (sI z2 2166 (16 * e + i) (if kFls C (i : Int) (e : Int) = true then 40 else 0)) 2166 j = gI z2 2166 j := fun j hj => hI_sI_i hj
    refine WP_some.2 ⟨by show (i : Int) + 1 = _; omega, b2.sI (by omega), fun e' s' h1 h2 => ?_, fun t h => ?_⟩
    · dsimp only
      rw [nr _ (by omega)]; exact b3 e' s' h1 h2
    · dsimp only
      by_cases q : t = i
      · rw [q, gI_set]; split <;> rfl
      · rw [nr _ (by omega)]; exact b4 t (by omega)
  · obtain ⟨z1, z2⟩ := s
    obtain ⟨b1, b2, b3, b4⟩ := hI
    dsimp only at b1 b2 b3 b4
    subst b1
    unfold mX23_findPaths_L99
    dsimp only
    rw [w32_id (x := (kB C : Int)) (by omega), w32_id (x := (kI C : Int) + (kR C : Int)) (by omega), if_neg (by omega)]
    refine WP_some.2 ⟨fun e' s' h1 h2 => ?_, b2⟩
    by_cases q : e' = e
    · rw [q]; exact b4 s' h2
    · exact b3 e' s' (by omega) h2
/-- tails of all ends -/
def TAl (z : Sto) (C : Chp) (m : Nat) (N : Nat → Nat → Nat) (T : Nat → Nat → Nat → List Nat) : Prop := ∀ e, e < m → TS z C e 0 (N e) (T e)
/-- all but what finding paths changes -/
def FP (S z : Sto) : Prop := ∀ b i, ¬ (2158 ≤ b ∧ b ≤ 2166) → ¬ (b = 2000 ∧ i = 206) → gI z b i = gI S b i
theorem FP.refl : FP S S := fun _ _ _ _ => rfl
theorem FP.tr (h : FP S z) (g : FP z y) : FP S y := fun b i q1 q2 => (g b i q1 q2).trans (h b i q1 q2)
theorem FE.fp (h : FE e S z) : FP S z := fun b i q1 _ => h b i (by omega) (by omega) (by omega)
theorem Ch.fp {lo hi : Nat} (h : Ch lo hi S z) (q : 2158 ≤ lo ∧ hi ≤ 2166) : FP S z := fun b i q1 _ => h.1 b i (by omega)
theorem TS.ch6 (h : TS S C e lo nT T) (g : Ch 2162 2166 S z) : TS z C e lo nT T := fun w h1 h2 => by
  obtain ⟨t1, t2, t3⟩ := h w h1 h2
  refine ⟨(g.1 _ _ (by omega)).trans t1, t2, fun i hi => ?_⟩
  obtain ⟨t4, t5⟩ := t3 i hi
  unfold TN at t5 ⊢
  rw [g.1 2159 _ (by omega), g.1 2160 _ (by omega), g.1 2161 _ (by omega)]
  exact ⟨t4, t5⟩
theorem m_fp36 (r : RefK S k C) (mF : RefF S k C) (wF : WFF C) (w : WFC C) (wp : WFP C) (hk : k < 4) (ht : ∀ n, n < kN C → gI S 2153 n = kTime C n) :
    WP (lpF (mX23_findPaths_L36 (kO C : Int) (kR C : Int) (k : Int) (kI C : Int) (kR C : Int)) (0, S)) (fun z => ∃ N T, TAl z C (kO C + kR C) N T ∧ HDs z C (kO C + kR C) ∧ FP S z) := by
  have hn := w.nums
  have hN := kN_le w
  refine WP_cnt (kO C + kR C) (fun i s => s.1 = (i : Int) ∧ FP S s.2 ∧ HDs s.2 C i ∧ ∃ N T, TAl s.2 C i N T) (by unfold cFU; omega) ⟨rfl, FP.refl, fun e s h => absurd h (Nat.not_lt_zero _), fun _ _ => 0, fun _ _ _ => [], fun e h => absurd h (Nat.not_lt_zero _)⟩ (fun i s hi hI => ?_) (fun s hI => ?_)
  · obtain ⟨z1, z2⟩ := s
    obtain ⟨b1, b2, b3, N, T, b4⟩ := hI
    dsimp only at b1 b2 b3 b4
    subst b1
    have rz : ∀ z, FP S z → RefK z k C := fun z g => r.cg (fun b i _ _ => g b i (by omega) (by omega))
    unfold mX23_findPaths_L36
    dsimp only
    rw [w32_id (x := (i : Int)) (by omega), w32_id (x := (kO C : Int) + (kR C : Int)) (by omega), if_pos (by omega), m_netCount (rz _ b2) w hk, bX_some]
    refine WP_call (m_fp51 (rz _ b2) w wp hk hi (fun n hn' => (b2 _ _ (by omega) (by omega)).trans (ht n hn'))) (fun y hy => ?_)
    obtain ⟨nT, T', y1, y2⟩ := hy
    have fy := b2.tr y2.fp
    have mFy : RefF y k C := mF.mv (fun a j _ _ => fy _ _ (by omega) (by omega))
    refine WP_call (m_fp99 mFy wF w hk hi (fun e s h1 h2 => (y2 _ _ (by omega) (by omega) (by omega)).trans (b3 e s h1 h2))) (fun v hv => ?_)
    obtain ⟨v1, v2⟩ := hv
    refine WP_some.2 ⟨by show (i : Int) + 1 = _; omega, fy.tr (v2.fp (by omega)), v1, updN N i nT, updN T i T', fun e he => ?_⟩
    have v2' : Ch 2162 2166 y v := ⟨fun a i q => v2.1 a i (by omega), fun a i q => v2.2.1 a i (by omega), v2.2.2.1, v2.2.2.2⟩
    by_cases q : e = i
    · subst q; rw [updN_eq, updN_eq]; exact y1.ch6 v2'
    · rw [updN_ne q, updN_ne q]; exact ((b4 e (by omega)).fe y2 q (by omega)).ch6 v2'
  · obtain ⟨z1, z2⟩ := s
    obtain ⟨b1, b2, b3, N, T, b4⟩ := hI
    dsimp only at b1 b2 b3 b4
    subst b1
    unfold mX23_findPaths_L36
    dsimp only
    rw [w32_id (x := ((kO C + kR C : Nat) : Int)) (by omega), w32_id (x := (kO C : Int) + (kR C : Int)) (by omega), if_neg (by omega)]
    exact WP_some.2 ⟨N, T, b4, b3, b2⟩
end MPATHS
