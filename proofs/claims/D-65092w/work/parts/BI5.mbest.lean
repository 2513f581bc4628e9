/-! the reference compares paths, picks the best -/
section MBEST
variable {S z y : Sto} {k e a lo : Nat} {C : Chp} {N : Nat → Nat → Nat} {T : Nat → Nat → Nat → List Nat}
theorem lx_cc {a : Nat} {p q : List Nat} : lx (a :: p) (a :: q) ↔ lx p q := ⟨fun h => h.elim (fun h => absurd h (Nat.lt_irrefl _)) (fun h => h.2), fun h => .inr ⟨rfl, h⟩⟩
theorem lx_ne {a b : Nat} {p q : List Nat} (h : a ≠ b) : lx (a :: p) (b :: q) ↔ a < b := ⟨fun g => g.elim id (fun g => absurd g.1 h), .inl⟩
/-- a place in the tails, its row -/
def Cur (z : Sto) (C : Chp) (m : Nat) (N : Nat → Nat → Nat) (T : Nat → Nat → Nat → List Nat) (e : Nat) (a x : Int) (l : List Nat) : Prop :=
  (∃ w i : Nat, a = (w : Int) ∧ x = (i : Int) ∧ w < kN C ∧ i < N e w ∧ l = w :: T e w i) ∨ (a = ((10000 + e : Nat) : Int) ∧ l = [10000 + e])
theorem cur_next (hT : TAl z C lo N T) (he : e < lo) {w i : Nat} (hw : w < kN C) (hi : i < N e w) : Cur z C lo N T e (gI z 2160 (tX e w i)) (gI z 2161 (tX e w i)) (T e w i) := by
  have t := ((hT e he w (Nat.zero_le _) hw).2.2 i hi).2
  rcases t with ⟨t1, t2⟩ | ⟨x, j, t1, t2, t3, t4, t5, t6⟩
  · exact .inr ⟨t2, t1⟩
  · exact .inl ⟨x, j, t5, t6, t1, t3, t4⟩
theorem m_ipb60 (w : WFC C) (hT : TAl S C lo N T) (hl : lo ≤ 22) {e f : Nat} (he : e < lo) (hf : f < lo) {a b x y : Int} {p q : List Nat} (h1 : Cur S C lo N T e a x p) (h2 : Cur S C lo N T f b y q) :
    WP (lpF (mX23_isPathBefore_L60 S (e : Int) (f : Int)) (a, b, x, y)) (fun z => (if w32 z.1 < w32 z.2 then (1 : Int) else 0) = cI (lx p q) 1 0) := by
  have hn := w.nums
  have hN := kN_le w
  have len : p.length ≤ 165 := by
    rcases h1 with ⟨w', i, _, _, c3, c4, c5⟩ | ⟨_, c5⟩
    · have t := (hT e he w' (Nat.zero_le _) c3).2.1.2.1 i c4
      have := Tl_len w _ _ t c3
      rw [c5]; show (T e w' i).length + 1 ≤ _; omega
    · rw [c5]; show 1 ≤ 165; omega
  refine WP_lpM (fun s m => ∃ p' q', Cur S C lo N T e s.1 s.2.2.1 p' ∧ Cur S C lo N T f s.2.1 s.2.2.2 q' ∧ p'.length ≤ m ∧ (lx p' q' ↔ lx p q)) (fun s m hI => ?_) (m := 165) ⟨p, q, h1, h2, len, Iff.rfl⟩ (by unfold cFU; omega)
  obtain ⟨a', b', x', y'⟩ := s
  obtain ⟨p', q', c1, c2, c3, c4⟩ := hI
  dsimp only at c1 c2
  unfold mX23_isPathBefore_L60
  dsimp only
  have ra : -2147483648 ≤ a' ∧ a' < 2147483648 := by
    rcases c1 with ⟨w', i, d1, _, d3, _⟩ | ⟨d1, _⟩ <;> omega
  have rb : -2147483648 ≤ b' ∧ b' < 2147483648 := by
    rcases c2 with ⟨w', i, d1, _, d3, _⟩ | ⟨d1, _⟩ <;> omega
  rw [w32_id ra, w32_id rb]
  have fin : ((if a' < b' then (1 : Int) else 0) = cI (lx p' q') 1 0) → WP (some (Sum.inr (a', b')) : Option ((Int × Int × Int × Int) ⊕ (Int × Int))) (WE (fun s' => ∃ m', m' < m ∧ ∃ p' q', Cur S C lo N T e s'.1 s'.2.2.1 p' ∧ Cur S C lo N T f s'.2.1 s'.2.2.2 q' ∧ p'.length ≤ m' ∧ (lx p' q' ↔ lx p q)) (fun z => (if w32 z.1 < w32 z.2 then (1 : Int) else 0) = cI (lx p q) 1 0)) := fun h => by
    refine WP_some.2 ?_
    show (if w32 a' < w32 b' then (1 : Int) else 0) = _
    rw [w32_id ra, w32_id rb, h]; exact cI_cg c4
  rcases c1 with ⟨w1, i1, rfl, rfl, d3, d4, rfl⟩ | ⟨rfl, rfl⟩ <;> rcases c2 with ⟨w2, i2, rfl, rfl, f3, f4, rfl⟩ | ⟨rfl, rfl⟩
  · by_cases q0 : w1 = w2
    · subst q0
      have n1 := (hT e he w1 (Nat.zero_le _) d3).2.1.1
      have n2 := (hT f hf w1 (Nat.zero_le _) f3).2.1.1
      have z1 : (40 * (256 * (e : Int) + (w1 : Int)) + (i1 : Int)).toNat = tX e w1 i1 := by show _ = 40 * (256 * e + w1) + i1; omega
      have z2 : (40 * (256 * (f : Int) + (w1 : Int)) + (i2 : Int)).toNat = tX f w1 i2 := by show _ = 40 * (256 * f + w1) + i2; omega
      rw [if_pos rfl, if_pos (by omega), bX_some, if_pos rfl, rdI_e (by omega), z1, rdI_e (by omega), z2, rdI_e (by omega), z1, rdI_e (by omega), z2]
      refine WP_some.2 ⟨m - 1, ?_, T e w1 i1, T f w1 i2, cur_next hT he d3 d4, cur_next hT hf f3 f4, ?_, lx_cc.symm.trans c4⟩
      · have : (w1 :: T e w1 i1).length = (T e w1 i1).length + 1 := rfl
        omega
      · have : (w1 :: T e w1 i1).length = (T e w1 i1).length + 1 := rfl
        omega
    · rw [if_neg (by omega), bX_some, if_neg (by decide)]
      refine fin ?_
      by_cases l : w1 < w2
      · rw [if_pos (by omega), cI_t ((lx_ne q0).2 l)]
      · rw [if_neg (by omega), cI_f (fun g => l ((lx_ne q0).1 g))]
  · rw [if_neg (by omega), bX_some, if_neg (by decide)]
    refine fin ?_
    rw [if_pos (by omega), cI_t ((lx_ne (by omega)).2 (by omega))]
  · rw [if_neg (by omega), bX_some, if_neg (by decide)]
    refine fin ?_
    rw [if_neg (by omega), cI_f (fun g => by have := (lx_ne (show 10000 + e ≠ w2 by omega)).1 g; omega)]
  · by_cases q0 : e = f
    · subst q0
      rw [if_pos rfl, if_neg (by omega), bX_some, if_neg (by decide)]
      refine fin ?_
      rw [if_neg (by omega), cI_f (lx_irr _)]
    · rw [if_neg (by omega), bX_some, if_neg (by decide)]
      refine fin ?_
      by_cases l : e < f
      · rw [if_pos (by omega), cI_t ((lx_ne (by omega)).2 (by omega))]
      · rw [if_neg (by omega), cI_f (fun g => by have := (lx_ne (show 10000 + e ≠ 10000 + f by omega)).1 g; omega)]
theorem m_lengthOf (w : WFC C) (wp : WFP C) (hT : TAl S C lo N T) (hl : lo ≤ 22) (ht : ∀ n, n < kN C → gI S 2153 n = kTime C n) (he : e < lo) {s i : Nat} (hs : s < kN C) (hi : i < N e s) : mX23_lengthOf S (s : Int) (e : Int) (i : Int) = some (tLen C (s :: T e s i)) := by
  have hN := kN_le w
  have t := hT e he s (Nat.zero_le _) hs
  have n40 := t.2.1.1
  have z1 : (40 * (256 * (e : Int) + (s : Int)) + (i : Int)).toNat = tX e s i := by show _ = 40 * (256 * e + s) + i; omega
  unfold mX23_lengthOf
  rw [rdI_e (by omega), Int.toNat_natCast, ht s hs, rdI_e (by omega), z1, (t.2.2 i hi).1, tLen_n (by omega)]
theorem m_ipb (w : WFC C) (wp : WFP C) (hT : TAl S C lo N T) (hl : lo ≤ 22) (ht : ∀ n, n < kN C → gI S 2153 n = kTime C n) {e f s t i j : Nat} (he : e < lo) (hs : s < kN C) (hi : i < N e s) (hf : f < lo) (ht' : t < kN C) (hj : j < N f t) :
    mX23_isPathBefore S (s : Int) (e : Int) (i : Int) (t : Int) (f : Int) (j : Int) = some (cI (befP C (s :: T e s i) (t :: T f t j)) 1 0) := by
  have hN := kN_le w
  have l1 := m_lengthOf w wp hT hl ht he hs hi
  have l2 := m_lengthOf w wp hT hl ht hf ht' hj
  have rng : ∀ e s i, e < lo → s < kN C → i < N e s → 0 ≤ tLen C (s :: T e s i) ∧ tLen C (s :: T e s i) ≤ 200000 := fun e s i h1 h2 h3 => by
    have tt := (hT e h1 s (Nat.zero_le _) h2).2.1.2.1 i h3
    have a := Tl_rng w wp _ _ tt h2
    have b := Tl_len w _ _ tt h2
    have c := kTime_rng w wp h2
    rw [tLen_n (by omega)]; omega
  have r1 := rng e s i he hs hi
  have r2 := rng f t j hf ht' hj
  refine WP.of ?_
  unfold mX23_isPathBefore
  rw [l1, bX_some, l2, bX_some, w32_id (by omega), w32_id (by omega)]
  by_cases q : tLen C (s :: T e s i) = tLen C (t :: T f t j)
  · rw [if_neg (fun g => g q)]
    refine WP_call (m_ipb60 w hT hl he hf (p := s :: T e s i) (q := t :: T f t j) (.inl ⟨s, i, rfl, rfl, hs, hi, rfl⟩) (.inl ⟨t, j, rfl, rfl, ht', hj, rfl⟩)) (fun v hv => WP_some.2 ?_)
    rw [hv]
    exact cI_cg ⟨fun g => .inr ⟨q, g⟩, fun g => g.elim (fun g => by omega) (fun g => g.2)⟩
  · rw [if_pos q, bX_some, bX_some, w32_id (by omega), w32_id (by omega)]
    refine WP_some.2 ?_
    by_cases l : tLen C (t :: T f t j) < tLen C (s :: T e s i)
    · rw [if_pos l, cI_t (.inl l)]
    · rw [if_neg l, cI_f (fun g => g.elim l (fun g => q g.1))]
/-- the sources of paths: ends by sixteen, first nets -/
def psN (C : Chp) (N : Nat → Nat → Nat) (h : Nat) : Nat := if h % 16 < kB C ∧ kFls C ((h % 16 : Nat) : Int) ((h / 16 : Nat) : Int) = false then N (h / 16) (h % 16) else 0
def psF (T : Nat → Nat → Nat → List Nat) (h i : Nat) : List Nat := h % 16 :: T (h / 16) (h % 16) i
def psV (C : Chp) (h : Nat) (p : List Nat) : Prop := h % 16 < kB C ∧ kFls C ((h % 16 : Nat) : Int) ((h / 16 : Nat) : Int) = false ∧ ∃ t, p = h % 16 :: t ∧ Tl C (h / 16) (h % 16) t
theorem ps_top (hT : TAl S C lo N T) {u : Nat} (hu : u < 16 * lo) : Top (psV C u) (befP C) (psN C N u) (psF T u) := by
  have hd : u / 16 < lo := by omega
  by_cases q : u % 16 < kB C ∧ kFls C ((u % 16 : Nat) : Int) ((u / 16 : Nat) : Int) = false
  · have en : psN C N u = N (u / 16) (u % 16) := if_pos q
    obtain ⟨t1, t2, t3, t4⟩ := (hT _ hd (u % 16) (Nat.zero_le _) (by show _ < kB C + kG C; omega)).2.1
    rw [en]
    refine ⟨t1, fun i hi => ⟨q.1, q.2, _, rfl, t2 i hi⟩, fun i j h1 h2 => befP_cons _ (t3 i j h1 h2), fun p hp => ?_⟩
    obtain ⟨_, _, t, rfl, ht⟩ := hp
    rcases t4 t ht with ⟨i, i1, i2⟩ | ⟨x1, x2⟩
    · exact .inl ⟨i, i1, by show _ :: _ = _; rw [i2]⟩
    · exact .inr ⟨x1, fun i hi => befP_cons _ (x2 i hi)⟩
  · have en : psN C N u = 0 := if_neg q
    rw [en]
    exact ⟨by omega, fun i hi => absurd hi (Nat.not_lt_zero _), fun i j _ hj => absurd hj (Nat.not_lt_zero _), fun p hp => absurd ⟨hp.1, hp.2.1⟩ q⟩
theorem ps_all (w : WFC C) (hl : lo = kO C + kR C) {p : List Nat} : (∃ u, u < 16 * lo ∧ psV C u p) ↔ Vp C p := by
  have hn := w.nums
  constructor
  · rintro ⟨u, hu, h1, h2, t, rfl, h3⟩
    exact ⟨u % 16, t, u / 16, rfl, h1, by omega, h2, h3⟩
  · rintro ⟨s, t, e, rfl, h1, h2, h3, h4⟩
    have a : (16 * e + s) % 16 = s := by omega
    have b : (16 * e + s) / 16 = e := by omega
    exact ⟨16 * e + s, by omega, by rw [a]; exact h1, by rw [a, b]; exact h3, t, by rw [a], by rw [a, b]; exact h4⟩
theorem ps_ne {u v i j : Nat} (w : WFC C) (hT : TAl S C lo N T) (hu : u < 16 * lo) (hv : v < 16 * lo) (hi : i < psN C N u) (hj : j < psN C N v) (ne : u ≠ v) : psF T u i ≠ psF T v j := fun e => by
  have hi' := hi
  have hj' := hj
  unfold psN at hi' hj'
  by_cases q1 : u % 16 < kB C ∧ kFls C ((u % 16 : Nat) : Int) ((u / 16 : Nat) : Int) = false
  case neg => rw [if_neg q1] at hi'; omega
  by_cases q2 : v % 16 < kB C ∧ kFls C ((v % 16 : Nat) : Int) ((v / 16 : Nat) : Int) = false
  case neg => rw [if_neg q2] at hj'; omega
  rw [if_pos q1] at hi'
  rw [if_pos q2] at hj'
  obtain ⟨e1, e2⟩ : u % 16 = v % 16 ∧ T (u / 16) (u % 16) i = T (v / 16) (v % 16) j := by
    have e : u % 16 :: T (u / 16) (u % 16) i = v % 16 :: T (v / 16) (v % 16) j := e
    injection e with e1 e2
    exact ⟨e1, e2⟩
  have a := (hT (u / 16) (by omega) (u % 16) (Nat.zero_le _) (by show _ < kB C + kG C; omega)).2.1.2.1 i hi'
  have b := (hT (v / 16) (by omega) (v % 16) (Nat.zero_le _) (by show _ < kB C + kG C; omega)).2.1.2.1 j hj'
  rw [e2] at a
  have uq : ∀ (t : List Nat) (e f x y : Nat), Tl C e x t → Tl C f y t → e = f := by
    intro t
    induction t with
    | nil => exact fun e f x y h => h.elim
    | cons z t ih =>
      intro e f x y h g
      rcases h with ⟨h1, h2, _⟩ | ⟨h1, h2⟩ <;> rcases g with ⟨g1, g2, _⟩ | ⟨g1, g2⟩
      · omega
      · rw [h2] at g2; exact g2.elim
      · rw [g2] at h2; exact h2.elim
      · exact ih _ _ _ _ h2 g2
  have := uq _ _ _ _ _ a b
  omega
end MBEST
