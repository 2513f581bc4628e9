/-! the reference's loop over operands and operators follows the machine -/
def StO (S : Sto) : List (Int × Nat) → Prop
  | [] => True
  | (c, p) :: l => gI S 2019 l.length = c ∧ gI S 2020 l.length = (p : Int) ∧ StO S l
theorem StO.cg {S z : Sto} : ∀ {l : List (Int × Nat)}, StO S l → (∀ i, i < l.length → gI z 2019 i = gI S 2019 i ∧ gI z 2020 i = gI S 2020 i) → StO z l
  | [], _, _ => trivial
  | (_, _) :: l, h, g => ⟨(g _ (Nat.lt_succ_self _)).1.trans h.1, (g _ (Nat.lt_succ_self _)).2.trans h.2.1, StO.cg h.2.2 (fun i hi => g i (Nat.lt_succ_of_lt hi))⟩
def PAq (Q : Nat → Nat → Prop) (a i : Nat) : Prop := (a = 2000 ∧ ((9 ≤ i ∧ i ≤ 11) ∨ i = 32 ∨ i = 33)) ∨ a = 2019 ∨ a = 2020 ∨ Q a i
def oQk (Q : Nat → Nat → Prop) : Prop := ∀ a i, Q a i → a ≠ 2019 ∧ a ≠ 2020 ∧ ¬ (2002 ≤ a ∧ a ≤ 2006) ∧ (a = 2000 → ¬ (9 ≤ i ∧ i ≤ 11) ∧ i ≠ 27 ∧ i ≠ 32 ∧ i ≠ 33)
/-- the operand itself -/
def mMid (S : Sto) : Option Sto := if w32 (gI S 2000 27) = 2 then bX (mX23_cellInput S) fun x10 => some x10 else rdI 65537 S 2002 (gI S 2000 9) fun v11 => if w32 v11 = 2 then bX (mX23_plainNumber S) fun x12 => some x12 else rdI 65537 S 2002 (gI S 2000 9) fun v13 => if w32 v13 = 1 then bX (mX23_named S) fun x14 => some x14 else bX (mX23_flaw S 2 (gI S 2000 9)) fun x15 => some x15
section MSM
variable {V : Type}
def OMS (X : OM V) (Rp : V → Sto → Prop) (ops : List (Int × Nat)) (o : Nat) (v : V) (S : Sto) : Prop := gI S 2000 32 = (ops.length : Int) ∧ StO S ops ∧ gI S 2000 33 = (o : Int) ∧ gI S 2000 34 = (X.hv v : Int) ∧ Rp v S
def oPO (X : OM V) (N : Nat) (Rp : V → Sto → Prop) (h : Nat) (r : Rv V) (y : Sto) : Prop := match r with
  | .inl t => MsQ X.u X.n N y (.inl t.1) ∧ gI y 2000 34 = (h : Int) ∧ Rp t.2 (sI y 2000 34 ((h : Int) + 1))
  | .inr f => MsQ X.u X.n N y (.inr f)
def oPA (X : OM V) (N : Nat) (Rp : V → Sto → Prop) (j : Nat) (r : V ⊕ (Int × Int)) (z : Sto) : Prop := match r with
  | .inl w => MsQ X.u X.n N z (.inl j) ∧ gI z 2000 34 = (X.hv w : Int) ∧ Rp w z
  | .inr f => MsQ X.u X.n N z (.inr f)
/-- what a mode must give -/
def OIn (X : OM V) (N : Nat) (md : Int) (Q : Nat → Nat → Prop) (Rp : V → Sto → Prop) : Prop :=
  (((X.m = true ∧ md = 2) ∨ (X.m = false ∧ (md = 0 ∨ md = 1))) ∧ Q 2000 34) ∧ oQk Q ∧
  (∀ v S z, Rp v S → ChW (PAq (fun _ _ => False)) S z → Rp v z) ∧
  (∀ (j : Nat) (v : V) (S : Sto), MTk X.u X.n N S → gI S 2000 27 = md → MsQ X.u X.n N S (.inl j) → isS X.u X.n 33 j = false → isS X.u X.n 40 j = false → gI S 2000 34 = (X.hv v : Int) → X.hv v ≤ 1000 → Rp v S → WP (mMid S) (fun y => ChW (fun a i => PG9 a i ∨ Q a i) S y ∧ oPO X N Rp (X.hv v) (X.op j v) y)) ∧
  (∀ v S, gI S 2000 27 = md → gI S 2000 34 = (X.hv v : Int) → 1 ≤ X.hv v → X.hv v ≤ 1000 → Rp v S → WP (lpF (mX23_turn_L33 S) (0, S)) (fun z => ChW Q S z ∧ gI z 2000 34 = gI S 2000 34 ∧ Rp (X.ng v) z)) ∧
  (∀ (j : Nat) (c : Int) (p k : Nat) (v : V) (S : Sto), MTk X.u X.n N S → gI S 2000 27 = md → MsQ X.u X.n N S (.inl j) → gI S 2000 32 = (k : Int) + 1 → k ≤ 1000 → gI S 2019 k = c → gI S 2020 k = (p : Int) → p ≤ N → 1 ≤ oR c → (X.m = true → oR c < 4) → gI S 2000 34 = (X.hv v : Int) → 2 ≤ X.hv v → X.hv v ≤ 1000 → Rp v S → WP (mX23_apply S) (fun z => ChW (fun a i => (a = 2000 ∧ (i = 10 ∨ i = 11 ∨ i = 32)) ∨ Q a i) S z ∧ gI z 2000 32 = (k : Int) ∧ oPA X N Rp j (X.ap c p v) z)) ∧
  (∀ (j p k o : Nat) (v : V) (S : Sto), X.m = false → MTk X.u X.n N S → gI S 2000 27 = md → MsQ X.u X.n N S (.inl j) → gI S 2000 32 = (k : Int) + 1 → k ≤ 1000 → gI S 2020 k = (p : Int) → p ≤ N → gI S 2000 33 = (o : Int) + 1 → o ≤ 60 → gI S 2000 34 = (X.hv v : Int) → 3 ≤ X.hv v → X.hv v ≤ 1000 → Rp v S → WP (mX23_choose S) (fun z => ChW (fun a i => (a = 2000 ∧ (i = 10 ∨ i = 11 ∨ i = 32 ∨ i = 33)) ∨ Q a i) S z ∧ gI z 2000 32 = (k : Int) ∧ gI z 2000 33 = (o : Int) ∧ oPA X N Rp j (X.ch p v) z)) ∧
  (∀ v S, X.m = false → gI S 2000 34 = (X.hv v : Int) → 1 ≤ X.hv v → X.hv v ≤ 1000 → Rp v S → (gI S 2021 (X.hv v - 1) = 1 ↔ X.ts v = true))
def OMr (X : OM V) (N : Nat) (Rp : V → Sto → Prop) (j o : Nat) (r : (List (Int × Nat) × V) ⊕ (Int × Int)) (z : Sto) : Prop := match r with
  | .inl r => MsQ X.u X.n N z (.inl j) ∧ OMS X Rp r.1 o r.2 z
  | .inr f => MsQ X.u X.n N z (.inr f) ∧ 0 ≤ gI z 2000 32 ∧ gI z 2000 32 ≤ 1000
def OMa (X : OM V) (N : Nat) (Rp : V → Sto → Prop) (j : Nat) (r : (List (Int × Nat) × Nat × V) ⊕ (Int × Int)) (z : Sto) : Prop := match r with
  | .inl r => MsQ X.u X.n N z (.inl j) ∧ OMS X Rp r.1 r.2.1 r.2.2 z
  | .inr f => MsQ X.u X.n N z (.inr f) ∧ 0 ≤ gI z 2000 32 ∧ gI z 2000 32 ≤ 1000
def OMc (X : OM V) (N : Nat) (Rp : V → Sto → Prop) (c : Cf V) (m : Int) (z : Sto) : Prop := match c with
  | .inl c => m = (c.1 : Int) ∧ MsQ X.u X.n N z (.inl c.2.1) ∧ OMS X Rp c.2.2.1 c.2.2.2.1 c.2.2.2.2 z
  | .inr f => MsQ X.u X.n N z (.inr f) ∧ 0 ≤ m ∧ m ≤ 2
variable {X : OM V} {N : Nat} {md : Int} {Q : Nat → Nat → Prop} {Rp : V → Sto → Prop} {S z : Sto} {ops : List (Int × Nat)} {j o : Nat} {v : V}
theorem OIn.mde (h : OIn X N md Q Rp) : (X.m = true ∧ md = 2) ∨ (X.m = false ∧ (md = 0 ∨ md = 1)) := h.1.1
theorem OIn.q (h : OIn X N md Q Rp) : oQk Q := h.2.1
theorem OIn.fr (h : OIn X N md Q Rp) {v : V} {S z : Sto} (r : Rp v S) (g : ChW (PAq (fun _ _ => False)) S z) : Rp v z := h.2.2.1 v S z r g
theorem OMS.fr (hI : OIn X N md Q Rp) (h : OMS X Rp ops o v S) {P : Nat → Nat → Prop} (g : ChW P S z) (e : ∀ a i, P a i → a = 2000 ∧ 9 ≤ i ∧ i ≤ 11) : OMS X Rp ops o v z := by
  obtain ⟨h1, h2, h3, h4, h5⟩ := h
  refine ⟨(g.1 _ _ (fun q => by have := e _ _ q; omega)).trans h1, h2.cg (fun i _ => ⟨g.1 _ _ (fun q => by have := e _ _ q; omega), g.1 _ _ (fun q => by have := e _ _ q; omega)⟩), (g.1 _ _ (fun q => by have := e _ _ q; omega)).trans h3, (g.1 _ _ (fun q => by have := e _ _ q; omega)).trans h4, hI.fr h5 (ChW.refl.tr g (fun a i q => Or.inl (by have := e _ _ q; omega)))⟩
theorem PAq_tk (hQ : oQk Q) : ∀ a i, 2002 ≤ a → a ≤ 2006 → ¬ PAq Q a i := fun a i h1 h2 q => by
  rcases q with q | q | q | q
  · omega
  · omega
  · omega
  · have := (hQ a i q).2.2.1; omega
theorem PAq_27 (hQ : oQk Q) : ¬ PAq Q 2000 27 := fun q => by
  rcases q with q | q | q | q
  · omega
  · omega
  · omega
  · have := (hQ _ _ q).2.2.2 rfl; omega
theorem m_rank {c : Int} (hc : w32 c = c) : mX23_rank c = some (oR c : Int) := by
  unfold mX23_rank oR
  rw [hc]
  by_cases h1 : c = 124
  · rw [if_pos h1, if_pos h1]; rfl
  rw [if_neg h1, if_neg h1]
  by_cases h2 : c = 94
  · rw [if_pos h2, if_pos h2]; rfl
  rw [if_neg h2, if_neg h2]
  by_cases h3 : c = 38
  · rw [if_pos h3, if_pos h3]; rfl
  rw [if_neg h3, if_neg h3]
  by_cases h4 : c = 257
  · rw [if_pos h4, if_pos h4]; rfl
  rw [if_neg h4, if_neg h4]
  by_cases h5 : c = 43
  · rw [if_pos h5, if_pos h5]; rfl
  rw [if_neg h5, if_neg h5]; rfl
theorem sim_top (h32 : gI S 2000 32 = (ops.length : Int)) (hl : ops.length ≤ 1000) (hs : StO S ops) : mX23_top S = some (oTop ops) ∧ w32 (oTop ops) = oTop ops := by
  unfold mX23_top
  rw [h32, w32_id (by omega)]
  cases ops with
  | nil => exact ⟨rfl, rfl⟩
  | cons a l =>
    obtain ⟨c, p⟩ := a
    obtain ⟨s1, s2, s3⟩ := hs
    have hl : l.length + 1 ≤ 1000 := hl
    have e : (((c, p) :: l).length : Int) - 1 = (l.length : Int) := by show ((l.length + 1 : Nat) : Int) - 1 = _; omega
    rw [if_pos (by show (0 : Int) < ((l.length + 1 : Nat) : Int); omega), e, rdI_e (by omega), Int.toNat_natCast, s1, bX_some]
    exact ⟨rfl, by show w32 c = c; rw [← s1]; exact w32_gI _ _ _⟩
theorem oR_w (c : Int) : w32 (oR c : Int) = (oR c : Int) := w32_id (by have := oR_le c; omega)
theorem oSt.len {k : Nat} (h : oSt X N k ops v) (hk : k ≤ 60) : ops.length ≤ 425 ∧ X.hv v ≤ 851 := by
  have h1 := oWf_len h.1
  have h2 := oLv_top h.2.2.2
  have h3 := oCn_le ops
  have := h.2.1; have := h.2.2.1
  omega
/-- operators of rank y and more are done -/
theorem settle_f {f : Int × Int} {y : Int} (h : MsQ X.u X.n N S (.inr f)) : mX23_settle S y = some S := by
  have : WP (mX23_settle S y) (fun z => z = S) := by
    unfold mX23_settle
    refine WP_call (R := fun z => z = S) (WP_lpF (fun z => z = S) (fun _ => 1) rfl (by show 1 < 1000000000000; omega) (fun z hz => ?_)) (fun z hz => WP_some.2 hz)
    subst hz
    unfold mX23_settle_L0
    rw [m_isRight h, bX_some, bIf]
    show WP (bX (if false = true then _ else some false) _) _
    rw [if_neg (by decide), bX_some, if_neg (by decide)]
    exact WP_some.2 rfl
  obtain ⟨z, h1, h2⟩ := this
  rw [h1, h2]
theorem OIn.ap (hI : OIn X N md Q Rp) (hX : OX X N) {c : Int} {p : Nat} {l : List (Int × Nat)} (t : MTk X.u X.n N S) (h27 : gI S 2000 27 = md) (hq : MsQ X.u X.n N S (.inl j)) (hs : oSt X N o ((c, p) :: l) v) (ho : o ≤ 60) (hm : OMS X Rp ((c, p) :: l) o v S) (hc : 1 ≤ oR c) : WP (mX23_apply S) (fun z => ChW (PAq Q) S z ∧ OMr X N Rp j o (oB (X.ap c p v) (fun w => .inl (l, w))) z) := by
  obtain ⟨m1, ⟨s1, s2, s3⟩, m3, m4, m5⟩ := hm
  have hlen := hs.len ho
  have hl : l.length + 1 ≤ 425 := hlen.1
  obtain ⟨a1, a2, a3, a4, a5, a6⟩ := oWf_op hs.1 hc
  refine (hI.2.2.2.2.2.1 j c p l.length v S t h27 hq (by rw [m1]; show ((l.length + 1 : Nat) : Int) = _; omega) (by omega) s1 s2 a3 hc a5 m4 (hs.h2 hc) (by omega) m5).mono (fun z hz => ?_)
  obtain ⟨z1, z2, z3⟩ := hz
  have hQ := hI.q
  refine ⟨ChW.refl.tr z1 (fun a i q => ?_), ?_⟩
  · rcases q with q | q
    · exact Or.inl (by omega)
    · exact Or.inr (Or.inr (Or.inr q))
  · cases ha : X.ap c p v with
    | inr f => rw [ha] at z3; exact ⟨z3, by omega, by omega⟩
    | inl w =>
      rw [ha] at z3
      obtain ⟨y1, y2, y3⟩ := z3
      exact ⟨y1, z2, s3.cg (fun i _ => ⟨z1.1 _ _ (fun q => by rcases q with q | q; omega; exact (hQ _ _ q).1 rfl), z1.1 _ _ (fun q => by rcases q with q | q; omega; exact (hQ _ _ q).2.1 rfl)⟩), (z1.1 _ _ (fun q => by rcases q with q | q; omega; exact ((hQ _ _ q).2.2.2 rfl).2.2.2 rfl)).trans m3, y2, y3⟩
theorem MTk.pa (t : MTk X.u X.n N S) (hI : OIn X N md Q Rp) (g : ChW (PAq Q) S z) : MTk X.u X.n N z := t.ch g (PAq_tk hI.q)
theorem pa_27 (hI : OIn X N md Q Rp) (h : gI S 2000 27 = md) (g : ChW (PAq Q) S z) : gI z 2000 27 = md := (g.1 _ _ (PAq_27 hI.q)).trans h
theorem ChW.pp {P : Nat → Nat → Prop} {x y z : Sto} (h : ChW P x y) (g : ChW P y z) : ChW P x z := h.tr g (fun _ _ q => q)
theorem sim_settle (hI : OIn X N md Q Rp) (hX : OX X N) {y : Nat} (hy : 1 ≤ y ∧ y ≤ 6) (t : MTk X.u X.n N S) (h27 : gI S 2000 27 = md) (hq : MsQ X.u X.n N S (.inl j)) (hs : oSt X N o ops v) (ho : o ≤ 60) (hm : OMS X Rp ops o v S) :
    WP (mX23_settle S (y : Int)) (fun z => ChW (PAq Q) S z ∧ OMr X N Rp j o (oStl X y ops v) z) := by
  unfold mX23_settle
  refine WP_call (R := fun z => ChW (PAq Q) S z ∧ OMr X N Rp j o (oStl X y ops v) z) ?_ (fun z hz => WP_some.2 hz)
  refine WP_lpF (fun z => ChW (PAq Q) S z ∧ ((∃ ops' v', oSt X N o ops' v' ∧ OMS X Rp ops' o v' z ∧ MsQ X.u X.n N z (.inl j) ∧ oStl X y ops' v' = oStl X y ops v) ∨ (∃ f, oStl X y ops v = .inr f ∧ MsQ X.u X.n N z (.inr f) ∧ 0 ≤ gI z 2000 32 ∧ gI z 2000 32 ≤ 1000))) (fun z => if gI z 2000 10 = 0 then (gI z 2000 32).toNat + 1 else 0) ⟨ChW.refl, Or.inl ⟨ops, v, hs, hm, hq, rfl⟩⟩ ?_ (fun z hz => ?_)
  · show (if gI S 2000 10 = 0 then (gI S 2000 32).toNat + 1 else 0) < 1000000000000
    have := (hs.len ho).1
    rw [hm.1]; split <;> omega
  · obtain ⟨cz, hz⟩ := hz
    rcases hz with ⟨ops', v', s', m', q', e'⟩ | ⟨f, e', q', b1, b2⟩
    · have tz := t.pa hI cz
      have z27 := pa_27 hI h27 cz
      obtain ⟨p1, p2⟩ := sim_top m'.1 (by have := (s'.len ho).1; omega) m'.2.1
      unfold mX23_settle_L0
      rw [m_isRight q', bX_some, bIf]
      show WP (bX (if true = true then _ else some false) _) _
      rw [if_pos rfl, p1, bX_some, m_rank p2, bX_some, w32_id (by omega), oR_w, bX_some, m_rank p2, bX_some, oR_w]
      by_cases g : y ≤ oR (oTop ops')
      · rw [if_pos (by omega), if_pos (by omega), bX_some, if_pos rfl]
        cases ops' with
        | nil => have : oR (oTop []) = 0 := rfl; omega
        | cons a l =>
          obtain ⟨c, p⟩ := a
          have g : y ≤ oR c := g
          refine WP_call (hI.ap hX tz z27 q' s' ho m' (by omega)) (fun x hx => WP_some.2 ?_)
          obtain ⟨x1, x2⟩ := hx
          rw [oStl_cons (by omega) g] at e'
          have z10 : gI z 2000 10 = 0 := q'.1
          cases ha : X.ap c p v' with
          | inl w =>
            rw [ha, oB_l] at x2 e'
            refine ⟨⟨cz.pp x1, Or.inl ⟨l, w, s'.ap hX (by omega) ha, x2.2, x2.1, e'⟩⟩, ?_⟩
            rw [if_pos (show gI x 2000 10 = 0 from x2.1.1), if_pos z10, x2.2.1, m'.1]
            show (l.length : Int).toNat + 1 < ((l.length + 1 : Nat) : Int).toNat + 1
            omega
          | inr f =>
            rw [ha, oB_r] at x2 e'
            refine ⟨⟨cz.pp x1, Or.inr ⟨f, e'.symm, x2⟩⟩, ?_⟩
            have x10 : gI x 2000 10 = f.1 := x2.1.1
            have f0 : f.1 ≠ 0 := x2.1.2.1
            rw [if_neg (by omega), if_pos z10]; omega
      · rw [if_neg (by omega), bX_some, if_neg (by decide)]
        refine WP_some.2 ⟨cz, ?_⟩
        rw [← e']
        have : oStl X y ops' v' = .inl (ops', v') := by
          cases ops' with
          | nil => rfl
          | cons a l => obtain ⟨c, p⟩ := a; exact oStl_stop (by have g : ¬ y ≤ oR c := g; omega)
        rw [this]
        exact ⟨q', m'⟩
    · unfold mX23_settle_L0
      rw [m_isRight q', bX_some, bIf]
      show WP (bX (if false = true then _ else some false) _) _
      rw [if_neg (by decide), bX_some, if_neg (by decide)]
      refine WP_some.2 ⟨cz, ?_⟩
      rw [e']
      exact ⟨q', b1, b2⟩
/-- turns on top are done -/
theorem sim_turn (hI : OIn X N md Q Rp) (hX : OX X N) (h27 : gI S 2000 27 = md) (hw : oWf X N ops) (hl : ops.length ≤ 1000) (h1 : 1 ≤ X.hv v) (h2 : X.hv v ≤ 1000) (hm : OMS X Rp ops o v S) :
    WP (mX23_turn S) (fun z => ChW (fun a i => (a = 2000 ∧ i = 32) ∨ Q a i) S z ∧ OMS X Rp (oTrn X ops v).1 o (oTrn X ops v).2 z) := by
  have hQ := hI.q
  unfold mX23_turn
  refine WP_call (R := fun z => ChW (fun a i => (a = 2000 ∧ i = 32) ∨ Q a i) S z ∧ OMS X Rp (oTrn X ops v).1 o (oTrn X ops v).2 z) ?_ (fun z hz => WP_some.2 hz)
  refine WP_lpF (fun z => ChW (fun a i => (a = 2000 ∧ i = 32) ∨ Q a i) S z ∧ ∃ ops' v', oWf X N ops' ∧ ops'.length ≤ 1000 ∧ X.hv v' = X.hv v ∧ OMS X Rp ops' o v' z ∧ oTrn X ops' v' = oTrn X ops v) (fun z => (gI z 2000 32).toNat) ⟨ChW.refl, ops, v, hw, hl, rfl, hm, rfl⟩ ?_ (fun z hz => ?_)
  · show (gI S 2000 32).toNat < 1000000000000
    rw [hm.1]; omega
  · obtain ⟨cz, ops', v', w', l', h', m', e'⟩ := hz
    have z27 : gI z 2000 27 = md := (cz.1 _ _ (fun q => by rcases q with q | q; omega; exact ((hQ _ _ q).2.2.2 rfl).2.1 rfl)).trans h27
    obtain ⟨p1, p2⟩ := sim_top m'.1 l' m'.2.1
    unfold mX23_turn_L0
    rw [p1, bX_some, p2]
    by_cases g : oTop ops' = 33
    · rw [if_pos g]
      cases ops' with
      | nil => have : (0 : Int) = 33 := g; omega
      | cons a l =>
        obtain ⟨c, p⟩ := a
        have g : c = 33 := g
        subst g
        obtain ⟨m1, ⟨s1, s2, s3⟩, m3, m4, m5⟩ := m'
        have l' : l.length + 1 ≤ 1000 := l'
        have m1' : gI z 2000 32 = ((l.length + 1 : Nat) : Int) := m1
        have hp : p ≤ 1 := by
          rcases w'.1 with ⟨a1, a2, a3⟩ | ⟨a1, a2, a3, a4⟩ | ⟨a1, a2⟩ | ⟨a1, a2, a4, a3⟩
          · exact a2
          · exact absurd a1 (by decide)
          · omega
          · omega
        have et : oTrn X ((33, p) :: l) v' = oTrn X l (if p = 1 then X.ng v' else v') := by
          conv => lhs; unfold oTrn
          rw [if_pos rfl]
        rw [et] at e'
        have e1 : gI z 2000 32 - 1 = (l.length : Int) := by omega
        rw [e1, rdI_e (by omega), Int.toNat_natCast, s2, w32_id (by omega)]
        have key : WP (if (p : Int) = 1 then bX (lpF (mX23_turn_L33 z) (0, z)) fun y7 => some y7 else some z) (fun y => ChW Q z y ∧ gI y 2000 34 = gI z 2000 34 ∧ Rp (if p = 1 then X.ng v' else v') y) := by
          by_cases g1 : p = 1
          · rw [if_pos (by omega), if_pos g1]
            exact WP_call (hI.2.2.2.2.1 v' z z27 m4 (by omega) (by omega) m5) (fun y hy => WP_some.2 hy)
          · rw [if_neg (by omega), if_neg g1]
            exact WP_some.2 ⟨ChW.refl, rfl, m5⟩
        refine WP_call key (fun y hy => ?_)
        obtain ⟨y1, y2, y3⟩ := hy
        have y32 : gI y 2000 32 = gI z 2000 32 := y1.1 _ _ (fun q => ((hQ _ _ q).2.2.2 rfl).2.2.1 rfl)
        have y33 : gI y 2000 33 = gI z 2000 33 := y1.1 _ _ (fun q => ((hQ _ _ q).2.2.2 rfl).2.2.2 rfl)
        rw [y32, e1, wf_eq]
        have cy : ChW (fun a i => (a = 2000 ∧ i = 32) ∨ Q a i) z (sI y 2000 32 (l.length : Int)) := (ChW.refl.tr y1 (fun a i q => Or.inr q)).sI (Or.inl ⟨rfl, rfl⟩)
        refine WP_some.2 ⟨⟨cz.pp cy, l, (if p = 1 then X.ng v' else v'), w'.2, by omega, ?_, ?_, e'⟩, ?_⟩
        · split
          · rw [hX.ng]; exact h'
          · exact h'
        · refine ⟨by rw [gI_sI_eq, w32_id (by omega)], s3.cg (fun i _ => ⟨?_, ?_⟩), ?_, ?_, ?_⟩
          · rw [hI_sI_a (by decide)]; exact y1.1 _ _ (fun q => (hQ _ _ q).1 rfl)
          · rw [hI_sI_a (by decide)]; exact y1.1 _ _ (fun q => (hQ _ _ q).2.1 rfl)
          · rw [hI_sI_i (by decide), y33]; exact m3
          · rw [hI_sI_i (by decide), y2, m4]
            split
            · rw [hX.ng]
            · rfl
          · exact hI.fr y3 (ChW.refl.sI (Or.inl ⟨rfl, Or.inr (Or.inl rfl)⟩))
        · rw [gI_sI_eq, w32_id (by omega), m1']; omega
    · rw [if_neg g]
      refine WP_some.2 ⟨cz, ?_⟩
      rw [← e', oTrn_id g]
      exact m'
/-- an operator is held -/
theorem sim_hold (hI : OIn X N md Q Rp) {c : Int} {p : Nat} (hc : w32 c = c) (hp : p ≤ 100000) (hl : ops.length ≤ 1000) (hm : OMS X Rp ops o v S) :
    WP (mX23_hold S c (p : Int)) (fun z => ChW (fun a i => (a = 2000 ∧ i = 32) ∨ a = 2019 ∨ a = 2020) S z ∧ OMS X Rp ((c, p) :: ops) o v z) := by
  obtain ⟨m1, m2, m3, m4, m5⟩ := hm
  unfold mX23_hold
  rw [m1, wrI_e (by omega), Int.toNat_natCast, hI_sI_a (by decide), m1, wrI_e (by omega), Int.toNat_natCast, hI_sI_a (by decide), hI_sI_a (by decide), m1, wf_eq]
  refine WP_some.2 ⟨((ChW.refl.sI (Or.inr (Or.inl rfl))).sI (Or.inr (Or.inr rfl))).sI (Or.inl ⟨rfl, rfl⟩), ?_, ⟨?_, ?_, m2.cg (fun i hi => ⟨?_, ?_⟩)⟩, ?_, ?_, ?_⟩
  · rw [gI_sI_eq, w32_id (by omega)]; show (ops.length : Int) + 1 = ((ops.length + 1 : Nat) : Int); omega
  · rw [hI_sI_a (by decide), hI_sI_a (by decide), gI_sI_eq, hc]
  · rw [hI_sI_a (by decide), gI_sI_eq, w32_id (by omega)]
  · rw [hI_sI_a (by decide), hI_sI_a (by decide), hI_sI_i (by omega)]
  · rw [hI_sI_a (by decide), hI_sI_i (by omega), hI_sI_a (by decide)]
  · rw [hI_sI_i (by decide), hI_sI_a (by decide), hI_sI_a (by decide)]; exact m3
  · rw [hI_sI_i (by decide), hI_sI_a (by decide), hI_sI_a (by decide)]; exact m4
  · exact hI.fr m5 (((ChW.refl.sI (Or.inr (Or.inl rfl))).sI (Or.inr (Or.inr (Or.inl rfl)))).sI (Or.inl ⟨rfl, Or.inr (Or.inl rfl)⟩))
theorem MsQ.hd (h : MsQ X.u X.n N S (.inl j)) (g : ChW (fun a i => (a = 2000 ∧ i = 32) ∨ a = 2019 ∨ a = 2020) S z) : MsQ X.u X.n N z (.inl j) := h.ch g (fun i h1 h2 q => by omega)
theorem hd_pa {P : Nat → Nat → Prop} {x y : Sto} (g : ChW P x y) (e : ∀ a i, P a i → (a = 2000 ∧ ((9 ≤ i ∧ i ≤ 11) ∨ i = 32 ∨ i = 33)) ∨ a = 2019 ∨ a = 2020 ∨ Q a i) : ChW (PAq Q) x y := ChW.refl.tr g e
/-- one token on, and the stack as it is -/
theorem sim_go (hI : OIn X N md Q Rp) {m : Nat} (h2 : m ≤ 2) (t : MTk X.u X.n N S) (hq : MsQ X.u X.n N S (.inl j)) (hj : j < N) (hm : OMS X Rp ops o v S) :
    WP (mX23_go S) (fun z => ChW (PAq Q) S z ∧ OMc X N Rp (oB (nxT X.u X.n j) (fun j1 => .inl (m, j1, ops, o, v))) (m : Int) z) := by
  refine (m_go t hq (fun i e => by injection e with e; omega)).mono (fun z hz => ?_)
  obtain ⟨z1, z2⟩ := hz
  have cz : ChW (PAq Q) S z := ChW.refl.tr z2 (fun a i q => Or.inl ⟨q.1, Or.inl q.2⟩)
  have z1 : MsQ X.u X.n N z (nxT X.u X.n j) := z1
  refine ⟨cz, ?_⟩
  cases hx : nxT X.u X.n j with
  | inr f => rw [hx] at z1; exact ⟨z1, by omega, by omega⟩
  | inl j1 => rw [hx] at z1; exact ⟨rfl, z1, hm.fr hI z2 (fun a i q => q)⟩
theorem sim_open (hI : OIn X N md Q Rp) {c : Int} (hc : w32 c = c) (t : MTk X.u X.n N S) (hq : MsQ X.u X.n N S (.inl j)) (hj : j < N) (ho : o ≤ 60) (hl : ops.length ≤ 1000) (hm : OMS X Rp ops o v S) :
    WP (mX23_open S c) (fun z => ChW (PAq Q) S z ∧ OMc X N Rp (if o = 60 then .inr (3, (tkB X.u X.n j : Int)) else oB (nxT X.u X.n j) (fun j1 => .inl (0, j1, (c, j) :: ops, o + 1, v))) 0 z) := by
  have hb := t.b; have he := t.e
  have m3 := hm.2.2.1
  unfold mX23_open
  rw [m3, w32_id (by omega)]
  by_cases e : o = 60
  · rw [if_pos (by omega), if_pos e]
    refine WP_call (m_flaw t hq (by omega)) (fun y hy => WP_some.2 ⟨ChW.refl.tr hy.2 (fun a i q => Or.inl ⟨q.1, Or.inl (by have := q.2; omega)⟩), ?_⟩)
    exact ⟨hy.1, by omega, by omega⟩
  · rw [if_neg (by omega), if_neg e, wf_eq]
    have c1 : ChW (fun a i => a = 2000 ∧ i = 33) S (sI S 2000 33 ((o : Int) + 1)) := ChW.refl.sI ⟨rfl, rfl⟩
    have q1 : MsQ X.u X.n N (sI S 2000 33 ((o : Int) + 1)) (.inl j) := hq.ch c1 (fun i h1 h2 q => by omega)
    have m1 : OMS X Rp ops (o + 1) v (sI S 2000 33 ((o : Int) + 1)) := by
      obtain ⟨a1, a2, a3, a4, a5⟩ := hm
      exact ⟨by rw [hI_sI_i (by decide)]; exact a1, a2.cg (fun i _ => ⟨hI_sI_a (by decide), hI_sI_a (by decide)⟩), by rw [gI_sI_eq, w32_id (by omega)]; omega, by rw [hI_sI_i (by decide)]; exact a4, hI.fr a5 (ChW.refl.sI (Or.inl ⟨rfl, Or.inr (Or.inr rfl)⟩))⟩
    have g9 : gI (sI S 2000 33 ((o : Int) + 1)) 2000 9 = (j : Int) := q1.2.1
    rw [g9]
    have p1 : ChW (PAq Q) S (sI S 2000 33 ((o : Int) + 1)) := ChW.refl.sI (Or.inl ⟨rfl, Or.inr (Or.inr rfl)⟩)
    refine WP_call (sim_hold hI hc (by omega) hl m1) (fun y hy => ?_)
    have p2 : ChW (PAq Q) S y := p1.pp (hd_pa hy.1 (fun a i q => by omega))
    refine WP_call (sim_go hI (m := 0) (by omega) (t.pa hI p2) (q1.hd hy.1) hj hy.2) (fun z hz => WP_some.2 ⟨p2.pp hz.1, hz.2⟩)
/-- an operand -/
theorem sim_flip (hI : OIn X N md Q Rp) (hw : oWf X N ops) (hl : ops.length ≤ 1000) (hm : OMS X Rp ops o v S) :
    WP (if oTop ops = 33 then rdI 1024 S 2020 ((gI S 2000 32) - 1) fun v3 => wrI 1024 S 2020 ((gI S 2000 32) - 1) (aXor v3 1) fun S4 => some S4 else bX (mX23_hold S 33 1) fun x5 => some x5) (fun z => ChW (fun a i => (a = 2000 ∧ i = 32) ∨ a = 2019 ∨ a = 2020) S z ∧ OMS X Rp (oFlp ops) o v z) := by
  cases ops with
  | nil =>
    rw [if_neg (by show ¬ (0 : Int) = 33; decide)]
    exact WP_call (sim_hold hI (c := 33) (p := 1) rfl (by omega) hl hm) (fun y hy => WP_some.2 hy)
  | cons a l =>
    obtain ⟨c, p⟩ := a
    by_cases g : c = 33
    · rw [if_pos (show oTop ((c, p) :: l) = 33 from g)]
      have ef : oFlp ((c, p) :: l) = (33, 1 - p) :: l := if_pos g
      rw [ef]
      subst g
      have hp : p ≤ 1 := by
        rcases hw.1 with ⟨a1, a2, a3⟩ | ⟨a1, a2, a3, a4⟩ | ⟨a1, a2⟩ | ⟨a1, a2, a4, a3⟩
        · exact a2
        · exact absurd a1 (by decide)
        · omega
        · omega
      obtain ⟨m1, ⟨s1, s2, s3⟩, m3, m4, m5⟩ := hm
      have hl : l.length + 1 ≤ 1000 := hl
      have m1' : gI S 2000 32 = ((l.length + 1 : Nat) : Int) := m1
      have e1 : gI S 2000 32 - 1 = (l.length : Int) := by omega
      have ex : aXor (p : Int) 1 = ((1 - p : Nat) : Int) := by
        have : p = 0 ∨ p = 1 := by omega
        rcases this with e | e <;> subst e <;> rfl
      rw [e1, rdI_e (by omega), Int.toNat_natCast, s2, wrI_e (by omega), Int.toNat_natCast, ex]
      refine WP_some.2 ⟨ChW.refl.sI (Or.inr (Or.inr rfl)), by rw [hI_sI_a (by decide)]; exact m1, ⟨?_, ?_, s3.cg (fun i hi => ⟨?_, ?_⟩)⟩, ?_, ?_, ?_⟩
      · rw [hI_sI_a (by decide)]; exact s1
      · rw [gI_sI_eq, w32_id (by omega)]
      · rw [hI_sI_a (by decide)]
      · rw [hI_sI_i (by omega)]
      · rw [hI_sI_a (by decide)]; exact m3
      · rw [hI_sI_a (by decide)]; exact m4
      · exact hI.fr m5 (ChW.refl.sI (Or.inr (Or.inr (Or.inl rfl))))
    · rw [if_neg (show ¬ oTop ((c, p) :: l) = 33 from g)]
      have ef : oFlp ((c, p) :: l) = (33, 1) :: (c, p) :: l := if_neg g
      rw [ef]
      exact WP_call (sim_hold hI (c := 33) (p := 1) rfl (by omega) hl hm) (fun y hy => WP_some.2 hy)
theorem okC.len {m : Nat} (h : okC X N (.inl (m, j, ops, o, v))) : ops.length ≤ 426 ∧ X.hv v ≤ 853 := by
  obtain ⟨h1, h2, h3, h4, h5, h6, h7⟩ := h
  have h1 := oWf_len h3
  have h2 := oLv_le (oTop ops)
  have h3 := oCn_le ops
  split at h6 <;> omega
theorem sim_operand (hI : OIn X N md Q Rp) (hX : OX X N) (hc : okC X N (.inl (0, j, ops, o, v))) (t : MTk X.u X.n N S) (h27 : gI S 2000 27 = md) (hq : MsQ X.u X.n N S (.inl j)) (hm : OMS X Rp ops o v S) :
    WP (mX23_operand S) (fun y => ChW (PAq Q) S y.2 ∧ OMc X N Rp (oOp X j ops o v) y.1 y.2) := by
  have hlen := hc.len
  obtain ⟨c1, c2, c3, c4, c5, c6, c7⟩ := hc
  have h9 : gI S 2000 9 = (j : Int) := hq.2.1
  have hQ := hI.q
  obtain ⟨p1, p2⟩ := sim_top hm.1 (by omega) hm.2.1
  have hb := t.b; have he := t.e
  unfold mX23_operand
  rw [m_isAt t c1 h9 (by omega), bX_some, bIf]
  unfold oOp
  by_cases c33 : isS X.u X.n 33 j = true
  · rw [if_pos c33, if_pos c33, p1, bX_some, p2]
    refine WP_call (sim_flip hI c3 (by omega) hm) (fun y hy => ?_)
    have py : ChW (PAq Q) S y := hd_pa hy.1 (fun a i q => by omega)
    refine WP_call (sim_go hI (m := 0) (by omega) (t.pa hI py) (hq.hd hy.1) (sg_lt hX (isS_K c33) c1) hy.2) (fun z hz => WP_some.2 ⟨py.pp hz.1, hz.2⟩)
  · rw [if_neg c33, if_neg c33, m_isAt t c1 h9 (by omega), bX_some, bIf]
    by_cases c40 : isS X.u X.n 40 j = true
    · rw [if_pos c40, if_pos c40]
      exact WP_call (sim_open hI (c := 40) rfl t hq (sg_lt hX (isS_K c40) c1) c5 (by omega) hm) (fun z hz => WP_some.2 hz)
    · rw [if_neg c40, if_neg c40]
      have hmid := hI.2.2.2.1 j v S t h27 hq (bool_f c33) (bool_f c40) hm.2.2.2.1 (by omega) hm.2.2.2.2
      refine WP_call (R := fun y => ChW (fun a i => PG9 a i ∨ Q a i) S y ∧ oPO X N Rp (X.hv v) (X.op j v) y) hmid (fun y hy => ?_)
      obtain ⟨y1, y2⟩ := hy
      have cy : ChW (PAq Q) S y := ChW.refl.tr y1 (fun a i q => by
        rcases q with q | q
        · exact Or.inl ⟨q.1, Or.inl q.2⟩
        · exact Or.inr (Or.inr (Or.inr q)))
      cases hx : X.op j v with
      | inr f =>
        rw [hx] at y2
        have y2 : MsQ X.u X.n N y (.inr f) := y2
        rw [m_isRight y2, bX_some, bIf]
        show WP (bX (if false = true then _ else some y) _) _
        rw [if_neg (by decide), bX_some, m_isRight y2, bX_some]
        exact WP_some.2 ⟨cy, y2, (show (0 : Int) ≤ 0 by decide), (show (0 : Int) ≤ 2 by decide)⟩
      | inl r =>
        rw [hx] at y2
        obtain ⟨r1, r2⟩ := r
        obtain ⟨a1, a2, a3⟩ := y2
        obtain ⟨d1, d2, d3, d4⟩ := hX.op j v _ c1 c2 (bool_f c33) (bool_f c40) hx
        dsimp only at a1 a3 d1 d2 d3 d4
        rw [m_isRight a1, bX_some, bIf]
        show WP (bX (if true = true then _ else some y) _) _
        rw [if_pos rfl, wf_eq, a2]
        have c34 : ChW (fun a i => a = 2000 ∧ i = 34) y (sI y 2000 34 ((X.hv v : Int) + 1)) := ChW.refl.sI ⟨rfl, rfl⟩
        generalize hw : sI y 2000 34 ((X.hv v : Int) + 1) = w at a3 c34
        have w34 : gI w 2000 34 = (X.hv r2 : Int) := by rw [← hw, gI_sI_eq, w32_id (by omega)]; omega
        have fr : ∀ a i, ¬ (a = 2000 ∧ 9 ≤ i ∧ i ≤ 11) → ¬ Q a i → ¬ (a = 2000 ∧ i = 34) → gI w a i = gI S a i := fun a i q1 q2 q3 => (c34.1 a i q3).trans (y1.1 a i (fun z => by rcases z with z | z; exact q1 z; exact q2 z))
        have mw : OMS X Rp ops o r2 w := by
          obtain ⟨b1, b2, b3, b4, b5⟩ := hm
          refine ⟨(fr _ _ (by omega) (fun z => ((hQ _ _ z).2.2.2 rfl).2.2.1 rfl) (by omega)).trans b1, b2.cg (fun i _ => ⟨fr _ _ (by omega) (fun z => (hQ _ _ z).1 rfl) (by omega), fr _ _ (by omega) (fun z => (hQ _ _ z).2.1 rfl) (by omega)⟩), (fr _ _ (by omega) (fun z => ((hQ _ _ z).2.2.2 rfl).2.2.2 rfl) (by omega)).trans b3, w34, a3⟩
        have w27 : gI w 2000 27 = md := (fr _ _ (by omega) (fun z => ((hQ _ _ z).2.2.2 rfl).2.1 rfl) (by omega)).trans h27
        refine WP_bX.2 (WP_call (sim_turn hI hX w27 c3 (by omega) (by omega) (by omega) mw) (fun x hx2 => WP_some.2 ?_))
        obtain ⟨x1, x2⟩ := hx2
        have qx : MsQ X.u X.n N x (.inl r1) := (a1.ch c34 (fun i h1 h2 q => by omega)).ch x1 (fun i h1 h2 q => by
          rcases q with q | q
          · omega
          · exact ((hQ _ _ q).2.2.2 rfl).1 ⟨h1, h2⟩)
        rw [m_isRight qx, bX_some]
        refine WP_some.2 ⟨?_, rfl, qx, x2⟩
        refine cy.pp (ChW.refl.tr c34 (fun a i q => ?_) |>.tr x1 (fun a i q => ?_))
        · obtain ⟨q1, q2⟩ := q
          subst q1; subst q2
          exact Or.inr (Or.inr (Or.inr hI.1.2))
        · rcases q with q | q
          · exact Or.inl (by omega)
          · exact Or.inr (Or.inr (Or.inr q))
end MSM
