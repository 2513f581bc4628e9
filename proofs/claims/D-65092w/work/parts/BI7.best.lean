/-! paths by the most that can come: no program -/
def Cmp (C : Chp) (q p : List Nat) : Prop := Vp C p ∧ q <+: p
def Bd (C : Chp) (q : List Nat) (v : Int) : Prop := (∃ c, Cmp C q c ∧ tLen C c = v) ∧ ∀ c, Cmp C q c → tLen C c ≤ v
def Anti (p q : List Nat) : Prop := ¬ p <+: q ∧ ¬ q <+: p
def Rb (a b : List Nat × Int) : Prop := b.2 < a.2 ∨ (a.2 = b.2 ∧ lx a.1 b.1)
def SB (C : Chp) (q p : List Nat) : Prop := ∃ c, Cmp C q c ∧ befP C c p
def QOk (C : Chp) (na : Nat) (A : Nat → List Nat × Int) : Prop := (∀ i, i < na → Bd C (A i).1 (A i).2) ∧ ∀ i j, i < j → j < na → Rb (A i) (A j) ∧ Anti (A i).1 (A j).1
def qIns (A : Nat → List Nat × Int) (t : Nat) (x : List Nat × Int) : Nat → List Nat × Int := fun k => if k < t then A k else if k = t then x else A (k - 1)
def LstP (C : Chp) (n na : Nat) (A : Nat → List Nat × Int) (Pd : List Nat → Prop) (p : List Nat) : Prop :=
  (n + na = 40 ∧ ∀ i, i < na → SB C (A i).1 p) ∨ (39 ≤ n + na ∧ (∀ i, n + i < 39 → SB C (A i).1 p) ∧ ∃ r, Pd r ∧ SB C r p)
def QIn (C : Chp) (n : Nat) (out : Nat → List Nat) (na : Nat) (A : Nat → List Nat × Int) (Pd : List Nat → Prop) : Prop :=
  n + na ≤ 40 ∧ (∀ i, i < n → Vp C (out i)) ∧ (∀ i j, i < j → j < n → befP C (out i) (out j)) ∧
  (∀ i, i < n → ∀ p, Vp C p → (∃ j, j < n ∧ out j = p) ∨ befP C (out i) p) ∧ QOk C na A ∧
  (∀ i, i < n → ∀ j, j < na → ¬ (A j).1 <+: out i) ∧ (∀ r, Pd r → ∀ i, i < n → ¬ r <+: out i) ∧
  (∀ r, Pd r → ∀ i, i < na → Anti (A i).1 r) ∧ (∀ r r', Pd r → Pd r' → r ≠ r' → Anti r r') ∧
  ∀ p, Vp C p → (∃ j, j < n ∧ out j = p) ∨ (∃ i, i < na ∧ Cmp C (A i).1 p) ∨ (∃ r, Pd r ∧ Cmp C r p) ∨ LstP C n na A Pd p
section BF
variable {C : Chp} {n na t : Nat} {out out' : Nat → List Nat} {A A' : Nat → List Nat × Int} {Pd Pd' : List Nat → Prop} {p q r c : List Nat} {v : Int} {a b x : List Nat × Int}
theorem Anti.symm (h : Anti p q) : Anti q p := ⟨h.2, h.1⟩
theorem SB_of (ha : Bd C a.1 a.2) (hb : Bd C b.1 b.2) (h : Rb a b) (t : Anti a.1 b.1) (hc : Cmp C b.1 c) : SB C a.1 c := by
  obtain ⟨c', h1, h2⟩ := ha.1
  have l := hb.2 c hc
  refine ⟨c', h1, ?_⟩
  rcases h with h | ⟨e, h⟩
  · left; omega
  · by_cases q : tLen C c < tLen C c'
    · exact .inl q
    · right
      refine ⟨by omega, ?_⟩
      obtain ⟨s, hs⟩ := h1.2
      obtain ⟨u, hu⟩ := hc.2
      rw [← hs, ← hu]
      exact lx_ext _ _ _ _ t.1 t.2 h
theorem SB_tr (ha : Bd C a.1 a.2) (hb : Bd C b.1 b.2) (h : Rb a b) (t : Anti a.1 b.1) (g : SB C b.1 p) : SB C a.1 p := by
  obtain ⟨c, h1, h2⟩ := g
  obtain ⟨c', h3, h4⟩ := SB_of ha hb h t h1
  exact ⟨c', h3, befP_tr C _ _ _ h4 h2⟩
theorem qIns_lt {k : Nat} (h : k < t) : qIns A t x k = A k := if_pos h
theorem qIns_eq : qIns A t x t = x := by unfold qIns; rw [if_neg (by omega), if_pos rfl]
theorem qIns_gt {k : Nat} (h : t < k) : qIns A t x k = A (k - 1) := by unfold qIns; rw [if_neg (by omega), if_neg (by omega)]
theorem qIns_mem {k m : Nat} (hk : k < m) (hm : m ≤ na + 1) (ht : t ≤ na) : (∃ j, j < na ∧ qIns A t x k = A j) ∨ qIns A t x k = x := by
  rcases Nat.lt_trichotomy k t with q | q | q
  · exact .inl ⟨k, by omega, qIns_lt q⟩
  · subst q; exact .inr qIns_eq
  · exact .inl ⟨k - 1, by omega, qIns_gt q⟩
theorem QOk.ins (h : QOk C na A) (hx : Bd C x.1 x.2) (an : ∀ i, i < na → Anti (A i).1 x.1) (ht : t ≤ na) (lo : ∀ i, i < t → Rb (A i) x) (hi : ∀ i, t ≤ i → i < na → Rb x (A i)) {m : Nat} (hm : m ≤ na + 1) : QOk C m (qIns A t x) := by
  obtain ⟨h1, h2⟩ := h
  refine ⟨fun i hi' => ?_, fun i j hij hj => ?_⟩
  · rcases qIns_mem (A := A) (x := x) (na := na) hi' hm ht with ⟨j, j1, j2⟩ | j2
    · rw [j2]; exact h1 j j1
    · rw [j2]; exact hx
  · rcases Nat.lt_trichotomy j t with q | q | q
    · rw [qIns_lt q, qIns_lt (by omega)]; exact h2 i j hij (by omega)
    · subst q; rw [qIns_eq, qIns_lt hij]; exact ⟨lo i hij, an i (by omega)⟩
    · rw [qIns_gt q]
      rcases Nat.lt_trichotomy i t with q2 | q2 | q2
      · rw [qIns_lt q2]; exact h2 i (j - 1) (by omega) (by omega)
      · subst q2; rw [qIns_eq]; exact ⟨hi _ (by omega) (by omega), (an _ (by omega)).symm⟩
      · rw [qIns_gt q2]; exact h2 _ _ (by omega) (by omega)
theorem QIn.pd (h : QIn C n out na A Pd) (e : ∀ r, Pd' r ↔ Pd r) : QIn C n out na A Pd' := by
  have : Pd' = Pd := funext fun r => propext (e r)
  rw [this]; exact h
theorem QIn.dropX (h : QIn C n out na A Pd) (hx : Bd C x.1 x.2) (px : Pd x.1) (ht : t ≤ na) (lo : ∀ i, i < t → Rb (A i) x) (hP : ∀ r, Pd' r ↔ Pd r ∧ r ≠ x.1) (h40 : 40 - n ≤ t) : QIn C n out na A Pd' := by
  obtain ⟨h1, h2, h3, h4, h5, h6, h7, h8, h9, h10⟩ := h
  have en : n + na = 40 := by omega
  have et : t = na := by omega
  subst et
  refine ⟨h1, h2, h3, h4, h5, h6, fun r hr => h7 r ((hP r).1 hr).1, fun r hr => h8 r ((hP r).1 hr).1, fun r r' hr hr' => h9 r r' ((hP r).1 hr).1 ((hP r').1 hr').1, fun p hp => ?_⟩
  rcases h10 p hp with g | g | ⟨r, g1, g2⟩ | g
  · exact .inl g
  · exact .inr (.inl g)
  · by_cases e : r = x.1
    · subst e
      exact .inr (.inr (.inr (.inl ⟨en, fun i hi => SB_of (h5.1 i hi) hx (lo i hi) (h8 _ px i hi) g2⟩)))
    · exact .inr (.inr (.inl ⟨r, (hP r).2 ⟨g1, e⟩, g2⟩))
  · right; right; right
    rcases g with g | ⟨g1, g2, r, g3, g4⟩
    · exact .inl g
    · by_cases e : r = x.1
      · subst e
        exact .inl ⟨en, fun i hi => SB_tr (h5.1 i hi) hx (lo i hi) (h8 _ px i hi) g4⟩
      · exact .inr ⟨g1, g2, r, (hP r).2 ⟨g3, e⟩, g4⟩
theorem QIn.ins (h : QIn C n out na A Pd) (hx : Bd C x.1 x.2) (px : Pd x.1) (ht : t ≤ na) (lo : ∀ i, i < t → Rb (A i) x) (hi : ∀ i, t ≤ i → i < na → Rb x (A i)) (hP : ∀ r, Pd' r ↔ Pd r ∧ r ≠ x.1) (h40 : t < 40 - n) {m : Nat} (hm : m = min (na + 1) (40 - n)) : QIn C n out m (qIns A t x) Pd' := by
  obtain ⟨h1, h2, h3, h4, h5, h6, h7, h8, h9, h10⟩ := h
  have m1 : m ≤ na + 1 ∧ n + m ≤ 40 ∧ t < m ∧ (m = na + 1 ∨ n + m = 40) := by omega
  obtain ⟨m1, m2, m3, m4⟩ := m1
  have an := h8 _ px
  have mem : ∀ k, k < m → (∃ j, j < na ∧ qIns A t x k = A j) ∨ qIns A t x k = x := fun k hk => qIns_mem hk m1 ht
  refine ⟨m2, h2, h3, h4, h5.ins hx an ht lo hi m1, fun i hi' j hj => ?_, fun r hr => h7 r ((hP r).1 hr).1, fun r hr i hi' => ?_, fun r r' hr hr' => h9 r r' ((hP r).1 hr).1 ((hP r').1 hr').1, fun p hp => ?_⟩
  · rcases mem j hj with ⟨k, k1, k2⟩ | k2
    · rw [k2]; exact h6 i hi' k k1
    · rw [k2]; exact h7 _ px i hi'
  · obtain ⟨r1, r2⟩ := (hP r).1 hr
    rcases mem i hi' with ⟨k, k1, k2⟩ | k2
    · rw [k2]; exact h8 r r1 k k1
    · rw [k2]; exact h9 _ _ px r1 (fun e => r2 e.symm)
  · -- those ahead of what is pushed out
    have all : (∀ i, i < m → i < t → SB C (A i).1 p) → SB C x.1 p → (∀ i, i + 1 < m → t ≤ i → SB C (A i).1 p) → ∀ i, i < m → SB C (qIns A t x i).1 p := fun a1 a2 a3 i hi' => by
      rcases Nat.lt_trichotomy i t with q | q | q
      · rw [qIns_lt q]; exact a1 i hi' q
      · subst q; rw [qIns_eq]; exact a2
      · rw [qIns_gt q]; exact a3 (i - 1) (by omega) (by omega)
    rcases h10 p hp with g | ⟨i, i1, i2⟩ | ⟨r, g1, g2⟩ | g
    · exact .inl g
    · by_cases q : i < t
      · exact .inr (.inl ⟨i, by omega, by rw [qIns_lt q]; exact i2⟩)
      · by_cases q2 : i + 1 < m
        · exact .inr (.inl ⟨i + 1, q2, by rw [qIns_gt (by omega)]; exact i2⟩)
        · refine .inr (.inr (.inr (.inl ⟨by omega, all (fun j j1 j2 => ?_) ?_ (fun j j1 j2 => ?_)⟩)))
          · have := h5.2 j i (by omega) i1
            exact SB_of (h5.1 j (by omega)) (h5.1 i i1) this.1 this.2 i2
          · exact SB_of hx (h5.1 i i1) (hi i (by omega) i1) (an i i1).symm i2
          · have := h5.2 j i (by omega) i1
            exact SB_of (h5.1 j (by omega)) (h5.1 i i1) this.1 this.2 i2
    · by_cases e : r = x.1
      · subst e; exact .inr (.inl ⟨t, m3, by rw [qIns_eq]; exact g2⟩)
      · exact .inr (.inr (.inl ⟨r, (hP r).2 ⟨g1, e⟩, g2⟩))
    · right; right; right
      rcases g with ⟨g1, g2⟩ | ⟨g1, g2, r, g3, g4⟩
      · refine .inl ⟨by omega, all (fun j j1 j2 => g2 j (by omega)) (SB_tr hx (h5.1 t (by omega)) (hi t (Nat.le_refl _) (by omega)) (an t (by omega)).symm (g2 t (by omega))) (fun j j1 j2 => g2 j (by omega))⟩
      · by_cases e : r = x.1
        · subst e
          exact .inl ⟨by omega, all (fun j j1 j2 => g2 j (by omega)) g4 (fun j j1 j2 => g2 j (by omega))⟩
        · refine .inr ⟨by omega, fun i hi' => ?_, r, (hP r).2 ⟨g3, e⟩, g4⟩
          rcases Nat.lt_trichotomy i t with q | q | q
          · rw [qIns_lt q]; exact g2 i hi'
          · subst q; rw [qIns_eq]; exact SB_tr hx (h5.1 i (by omega)) (hi i (Nat.le_refl _) (by omega)) (an i (by omega)).symm (g2 i hi')
          · rw [qIns_gt q]; exact g2 (i - 1) (by omega)
theorem Tl_pre : ∀ (t u : List Nat) (e f a : Nat), Tl C e a t → Tl C f a (t ++ u) → (∀ x, rdN C a x → x < 10000) → (∀ a x, rdN C a x → x < 10000) → u = [] := by
  intro t
  induction t with
  | nil => intro u e f a h; exact h.elim
  | cons x t ih =>
    intro u e f a h g l L
    rcases h with ⟨h1, h2, h3⟩ | ⟨h1, h2⟩
    · subst h2
      rcases g with ⟨_, g2, _⟩ | ⟨g1, _⟩
      · exact g2
      · have := l _ g1; omega
    · rcases g with ⟨g1, _, _⟩ | ⟨_, g2⟩
      · have := l _ h1; omega
      · exact ih u e f x h2 g2 (L x) L
theorem Vp_pre (w : WFC C) (h : Vp C p) (g : Cmp C p q) : q = p := by
  have lt : ∀ a x, rdN C a x → x < 10000 := fun a x h => by have := rdN_lt w h; have := kN_le w; omega
  obtain ⟨s, u, e, rfl, h1, h2, h3, h4⟩ := h
  obtain ⟨⟨s', u', e', g0, g1, g2, g3, g4⟩, k, hk⟩ := g
  rw [← hk] at g0
  injection g0 with e1 e2
  subst e1
  rw [← e2] at g4
  have := Tl_pre u k e e' s h4 g4 (lt s) lt
  rw [← hk, this, List.append_nil]
theorem QIn.emit (w : WFC C) (h : QIn C n out na A (fun _ => False)) (h0 : 0 < na) (hc : Vp C (A 0).1) (o1 : ∀ j, j < n → out' j = out j) (o2 : out' n = (A 0).1) (ea : ∀ i, i + 1 < na → A' i = A (i + 1)) {m : Nat} (hm : m + 1 = na) : QIn C (n + 1) out' m A' (fun _ => False) := by
  obtain ⟨h1, h2, h3, h4, h5, h6, h7, h8, h9, h10⟩ := h
  have self : ∀ p, Cmp C (A 0).1 p → p = (A 0).1 := fun p hp => Vp_pre w hc hp
  have em : ∀ p, (∃ j, j < n ∧ out j = p) → ∃ j, j < n + 1 ∧ out' j = p := fun p ⟨j, j1, j2⟩ => ⟨j, by omega, by rw [o1 j j1]; exact j2⟩
  have fst : ∀ p, Vp C p → (∃ j, j < n + 1 ∧ out' j = p) ∨ befP C (A 0).1 p := fun p hp => by
    have sb : SB C (A 0).1 p → befP C (A 0).1 p := fun ⟨c, c1, c2⟩ => by rw [self c c1] at c2; exact c2
    rcases h10 p hp with g | ⟨i, i1, i2⟩ | ⟨r, g1, _⟩ | g
    · exact .inl (em p g)
    · by_cases q : i = 0
      · subst q; exact .inl ⟨n, by omega, by rw [o2]; exact (self p i2).symm⟩
      · have := h5.2 0 i (by omega) i1
        exact .inr (sb (SB_of (h5.1 0 h0) (h5.1 i i1) this.1 this.2 i2))
    · exact g1.elim
    · rcases g with ⟨_, g⟩ | ⟨_, _, r, g, _⟩
      · exact .inr (sb (g 0 h0))
      · exact g.elim
  have nem : ∀ j, j < n → out j ≠ (A 0).1 := fun j hj e => h6 j hj 0 h0 (by rw [e]; exact List.prefix_rfl)
  refine ⟨by omega, fun i hi => ?_, fun i j hij hj => ?_, fun i hi p hp => ?_, ⟨fun i hi => ?_, fun i j hij hj => ?_⟩, fun i hi j hj => ?_, fun r hr => hr.elim, fun r hr => hr.elim, fun r _ hr => hr.elim, fun p hp => ?_⟩
  · by_cases q : i = n
    · rw [q, o2]; exact hc
    · rw [o1 i (by omega)]; exact h2 i (by omega)
  · rw [o1 i (by omega)]
    by_cases q : j = n
    · rw [q, o2]
      rcases h4 i (by omega) _ hc with ⟨k, k1, k2⟩ | g
      · exact absurd k2 (nem k k1)
      · exact g
    · rw [o1 j (by omega)]; exact h3 i j hij (by omega)
  · by_cases q : i = n
    · rw [q, o2]; exact fst p hp
    · rw [o1 i (by omega)]
      exact (h4 i (by omega) p hp).imp (em p) id
  · rw [ea i (by omega)]; exact h5.1 _ (by omega)
  · rw [ea i (by omega), ea j (by omega)]; exact h5.2 _ _ (by omega) (by omega)
  · rw [ea j (by omega)]
    by_cases q : i = n
    · rw [q, o2]; exact (h5.2 0 (j + 1) (by omega) (by omega)).2.2
    · rw [o1 i (by omega)]; exact h6 i (by omega) _ (by omega)
  · rcases h10 p hp with g | ⟨i, i1, i2⟩ | ⟨r, g1, _⟩ | g
    · exact .inl (em p g)
    · by_cases q : i = 0
      · subst q; exact .inl ⟨n, by omega, by rw [o2]; exact (self p i2).symm⟩
      · refine .inr (.inl ⟨i - 1, by omega, ?_⟩)
        rw [ea (i - 1) (by omega), show i - 1 + 1 = i by omega]; exact i2
    · exact g1.elim
    · rcases g with ⟨g1, g⟩ | ⟨_, _, r, g, _⟩
      · exact .inr (.inr (.inr (.inl ⟨by omega, fun i hi => by rw [ea i (by omega)]; exact g _ (by omega)⟩)))
      · exact g.elim
/-- what goes on from a row -/
def Ext (C : Chp) (q r : List Nat) : Prop := ∃ x, r = q ++ [x] ∧ ∃ p, Cmp C r p
theorem Cmp_ext (hq : ¬ Vp C q) (h : Cmp C q p) : ∃ r, Ext C q r ∧ Cmp C r p := by
  obtain ⟨h1, u, hu⟩ := h
  cases u with
  | nil => rw [List.append_nil] at hu; subst hu; exact absurd h1 hq
  | cons x u =>
    have e : (q ++ [x]) ++ u = p := by rw [← hu, List.append_assoc]; rfl
    have : Cmp C (q ++ [x]) p := ⟨h1, u, e⟩
    exact ⟨_, ⟨x, rfl, p, this⟩, this⟩
theorem Anti_ext {u : List Nat} (h : Anti p q) : Anti p (q ++ u) := by
  constructor
  · intro ⟨k, hk⟩
    rcases List.append_eq_append_iff.1 hk with ⟨a, a1, a2⟩ | ⟨a, a1, a2⟩
    · exact h.1 ⟨a, a1.symm⟩
    · exact h.2 ⟨a, a1.symm⟩
  · intro ⟨k, hk⟩
    exact h.2 ⟨u ++ k, by rw [← hk, List.append_assoc]⟩
theorem snoc_anti {x y : Nat} (h : x ≠ y) : Anti (q ++ [x]) (q ++ [y]) := by
  have key : ∀ x y : Nat, (q ++ [x]) <+: (q ++ [y]) → x = y := fun x y ⟨k, hk⟩ => by
    rw [List.append_assoc] at hk
    have := List.append_cancel_left hk
    injection this with e _
  exact ⟨fun g => h (key _ _ g), fun g => h (key _ _ g).symm⟩
theorem QIn.go (h : QIn C n out na A (fun _ => False)) (h0 : 0 < na) (hc : ¬ Vp C (A 0).1) (ea : ∀ i, i + 1 < na → A' i = A (i + 1)) {m : Nat} (hm : m + 1 = na) : QIn C n out m A' (Ext C (A 0).1) := by
  obtain ⟨h1, h2, h3, h4, h5, h6, h7, h8, h9, h10⟩ := h
  refine ⟨by omega, h2, h3, h4, ⟨fun i hi => ?_, fun i j hij hj => ?_⟩, fun i hi j hj => ?_, fun r hr i hi g => ?_, fun r hr i hi => ?_, fun r r' hr hr' ne => ?_, fun p hp => ?_⟩
  · rw [ea i (by omega)]; exact h5.1 _ (by omega)
  · rw [ea i (by omega), ea j (by omega)]; exact h5.2 _ _ (by omega) (by omega)
  · rw [ea j (by omega)]; exact h6 i hi _ (by omega)
  · obtain ⟨x, rfl, _⟩ := hr
    obtain ⟨k, hk⟩ := g
    exact h6 i hi 0 h0 ⟨[x] ++ k, by rw [← hk, List.append_assoc]⟩
  · obtain ⟨x, rfl, _⟩ := hr
    rw [ea i (by omega)]
    exact Anti_ext ((h5.2 0 (i + 1) (by omega) (by omega)).2.symm)
  · obtain ⟨x, rfl, _⟩ := hr
    obtain ⟨y, rfl, _⟩ := hr'
    exact snoc_anti (fun e => ne (by rw [e]))
  · rcases h10 p hp with g | ⟨i, i1, i2⟩ | ⟨r, g1, _⟩ | g
    · exact .inl g
    · by_cases q : i = 0
      · subst q; exact .inr (.inr (.inl (Cmp_ext hc i2)))
      · refine .inr (.inl ⟨i - 1, by omega, ?_⟩)
        rw [ea (i - 1) (by omega), show i - 1 + 1 = i by omega]; exact i2
    · exact g1.elim
    · rcases g with ⟨g1, g⟩ | ⟨_, _, r, g, _⟩
      · refine .inr (.inr (.inr (.inr ⟨by omega, fun i hi => by rw [ea i (by omega)]; exact g _ (by omega), ?_⟩)))
        obtain ⟨c, c1, c2⟩ := g 0 h0
        obtain ⟨r, r1, r2⟩ := Cmp_ext hc c1
        exact ⟨r, r1, c, r2, c2⟩
      · exact g.elim
/-- what stands first behind the going on is one of those that go on -/
def Gq (q : List Nat × Int) (x : List Nat × Int) : Prop := (∃ y, x.1 = q.1 ++ [y]) ∨ (Rb q x ∧ Anti q.1 x.1)
theorem QIn.head (h : QIn C n out na A (fun _ => False)) (hn : n < 40) {q : List Nat × Int} (hq : Bd C q.1 q.2) (hG : ∀ i, i < na → Gq q (A i)) (hn' : ∀ i, i < n → ¬ q.1 <+: out i) : 0 < na ∧ ∃ y, (A 0).1 = q.1 ++ [y] := by
  obtain ⟨h1, h2, h3, h4, h5, h6, h7, h8, h9, h10⟩ := h
  obtain ⟨c, c1, c2⟩ := hq.1
  rcases h10 c c1.1 with ⟨j, j1, j2⟩ | ⟨i, i1, i2⟩ | ⟨r, g1, _⟩ | g
  · exact absurd c1.2 (by rw [← j2]; exact hn' j j1)
  · have h0 : 0 < na := by omega
    refine ⟨h0, ?_⟩
    -- the row that c goes on from is no old one
    have ei : ∃ y, (A i).1 = q.1 ++ [y] := by
      rcases hG i i1 with g | ⟨_, g⟩
      · exact g
      · obtain ⟨u1, e1⟩ := c1.2
        obtain ⟨u2, e2⟩ := i2.2
        rw [← e2] at e1
        rcases List.append_eq_append_iff.1 e1 with ⟨a, a1, _⟩ | ⟨a, a1, _⟩
        · exact absurd ⟨a, a1.symm⟩ g.1
        · exact absurd ⟨a, a1.symm⟩ g.2
    by_cases z : i = 0
    · subst z; exact ei
    · rcases hG 0 h0 with g | ⟨g, an⟩
      · exact g
      · obtain ⟨y, ey⟩ := ei
        have l := (h5.1 i i1).2 c i2
        have ro := (h5.2 0 i (by omega) i1).1
        exfalso
        rcases g with g | ⟨g1, g2⟩
        · rcases ro with ro | ⟨ro, _⟩ <;> omega
        · rcases ro with ro | ⟨ro1, ro2⟩
          · omega
          · rw [ey] at ro2
            have := lx_ext _ _ [y] [] an.1 an.2 g2
            rw [List.append_nil] at this
            exact lx_irr _ (lx_tr _ _ _ ro2 this)
  · exact g1.elim
  · rcases g with ⟨g1, g⟩ | ⟨_, _, r, g, _⟩
    · have h0 : 0 < na := by omega
      refine ⟨h0, ?_⟩
      rcases hG 0 h0 with k | ⟨k, an⟩
      · exact k
      · exfalso
        obtain ⟨c', d1, d2⟩ := g 0 h0
        have := SB_of hq (h5.1 0 h0) k an d1
        have l := (h5.1 0 h0).2 c' d1
        have e1 : tLen C c' ≤ q.2 := by rcases k with k | ⟨k, _⟩ <;> omega
        -- c stands ahead of c'
        have cc : befP C c c' := by
          by_cases t : tLen C c' < tLen C c
          · exact .inl t
          · rcases k with k | ⟨k1, k2⟩
            · exfalso; omega
            · right
              refine ⟨by omega, ?_⟩
              obtain ⟨u1, f1⟩ := c1.2
              obtain ⟨u2, f2⟩ := d1.2
              rw [← f1, ← f2]
              exact lx_ext _ _ _ _ an.1 an.2 k2
        exact befP_irr C _ (befP_tr C _ _ _ cc d2)
    · exact g.elim
theorem QIn.top (h : QIn C n out na A (fun _ => False)) (h0 : na = 0 ∨ n = 40) : Top (Vp C) (befP C) n out := by
  obtain ⟨h1, h2, h3, h4, h5, h6, h7, h8, h9, h10⟩ := h
  refine ⟨by omega, h2, h3, fun p hp => ?_⟩
  by_cases q : n = 40
  · by_cases e : ∃ j, j < n ∧ out j = p
    · exact .inl e
    · exact .inr ⟨q, fun i hi => (h4 i hi p hp).resolve_left e⟩
  · have h0 : na = 0 := h0.resolve_right q
    rcases h10 p hp with g | ⟨i, i1, i2⟩ | ⟨r, g1, _⟩ | g
    · exact .inl g
    · omega
    · exact g1.elim
    · rcases g with ⟨g1, g⟩ | ⟨_, _, r, g, _⟩
      · omega
      · exact g.elim
theorem QIn.start : QIn C 0 out 0 A (fun r => ∃ s, s < kB C ∧ r = [s] ∧ ∃ p, Cmp C r p) := by
  refine ⟨by omega, fun i hi => absurd hi (Nat.not_lt_zero _), fun i j _ hj => absurd hj (Nat.not_lt_zero _), fun i hi => absurd hi (Nat.not_lt_zero _), ⟨fun i hi => absurd hi (Nat.not_lt_zero _), fun i j _ hj => absurd hj (Nat.not_lt_zero _)⟩, fun i hi => absurd hi (Nat.not_lt_zero _), fun r _ i hi => absurd hi (Nat.not_lt_zero _), fun r _ i hi => absurd hi (Nat.not_lt_zero _), fun r r' hr hr' ne => ?_, fun p hp => ?_⟩
  · obtain ⟨s, _, rfl, _⟩ := hr
    obtain ⟨s', _, rfl, _⟩ := hr'
    exact snoc_anti (q := []) (fun e => ne (by rw [e]))
  · obtain ⟨s, u, e, rfl, h1, h2⟩ := id hp
    have : Cmp C [s] (s :: u) := ⟨hp, u, rfl⟩
    exact .inr (.inr (.inl ⟨[s], ⟨s, h1, rfl, _, this⟩, this⟩))
end BF
