/-! the reference tells designs: an instance's output -/
def rsB (f : Nat → Int) : List Row3 → Nat → Int
  | [], i => f i
  | x :: _, i => if i = 0 then f x.2.1.toNat else f i
/-- the bits that rows of an operand give -/
def roB (S : Sto) (sl : Nat) (x : Row3) (k : Nat) : Int := if x.1 = 0 then w32 (aAnd (aShr x.2.1 (k : Int)) 1) else if x.1 = 1 then gI S 2027 (320 * sl + 8 * x.2.1.toNat + k) else gI S 2028 (12800 * sl + 320 * x.2.1.toNat + 8 * x.2.2.toNat + k)
def rwBt (S : Sto) (sl : Nat) : List Row3 → Nat → Int
  | [], _ => 0
  | x :: l, i => rsB (roB S sl x) l i
def mTl (u : Nat → Int) (n N h : Nat) (md : Int) (f : Nat → Int) (r : RsD) (y : Sto) : Prop := match r with
  | .inl t => MsQ u n N y (.inl t.1) ∧ gI y 2021 h = t.2.2 ∧ (1 ≤ t.2.2 ∧ t.2.2 ≤ 8) ∧ (md = 1 → ∀ i : Nat, (i : Int) < t.2.2 → gI y 2022 (8 * h + i) = rsB f t.2.1 i)
  | .inr f => MsQ u n N y (.inr f)
def mNa (u : Nat → Int) (n N h : Nat) (md : Int) (S : Sto) (sl : Nat) (r : RsD) (y : Sto) : Prop := match r with
  | .inl t => MsQ u n N y (.inl t.1) ∧ gI y 2021 h = t.2.2 ∧ (1 ≤ t.2.2 ∧ t.2.2 ≤ 8) ∧ (md = 1 → ∀ i : Nat, (i : Int) < t.2.2 → gI y 2022 (8 * h + i) = rwBt S sl t.2.1 i)
  | .inr f => MsQ u n N y (.inr f)
/-- what the reference knows of the modules -/
def RCx (u : Nat → Int) (n N : Nat) (ms : List Mdl) (cur : Mdl) (M : Nat) (S : Sto) : Prop := (RMd S M cur ∧ M ≤ 15 ∧ gI S 2000 28 = (M : Int)) ∧ (∀ k, k < ms.length → RMd S k (ms.getD k [])) ∧ (MdOk ms.length cur ∧ KnM u n N (mTk cur)) ∧ (∀ k, k < ms.length → MdOk ms.length (ms.getD k []) ∧ KnM u n N (mTk (ms.getD k []))) ∧ ms.length ≤ 15
theorem RCx.ch {u : Nat → Int} {n N : Nat} {ms : List Mdl} {cur : Mdl} {M : Nat} {S z : Sto} (h : RCx u n N ms cur M S) {P : Nat → Nat → Prop} (g : ChW P S z) (e : ∀ a i, P a i → ¬ (2009 ≤ a ∧ a ≤ 2013) ∧ ¬ (a = 2000 ∧ i = 28)) : RCx u n N ms cur M z :=
  ⟨⟨h.1.1.cg (g.1 _ _ (fun q => (e _ _ q).1 ⟨by omega, by omega⟩)) (fun a i l1 l2 _ _ => g.1 _ _ (fun q => (e _ _ q).1 ⟨by omega, by omega⟩)), h.1.2.1, (g.1 _ _ (fun q => (e _ _ q).2 ⟨rfl, rfl⟩)).trans h.1.2.2⟩,
   fun k hk => (h.2.1 k hk).cg (g.1 _ _ (fun q => (e _ _ q).1 ⟨by omega, by omega⟩)) (fun a i l1 l2 _ _ => g.1 _ _ (fun q => (e _ _ q).1 ⟨by omega, by omega⟩)), h.2.2⟩
section MOF
variable {S z y : Sto} {u : Nat → Int} {n N h M sl : Nat} {q : Qq} {ms : List Mdl} {cur : Mdl} {j b i : Nat} {f : Int × Int} {md w : Int}
theorem PPl_tk : ∀ a i, 2002 ≤ a → a ≤ 2006 → ¬ PPl h a i := fun a i l1 l2 q => by unfold PPl PG9 at q; omega
/-- a bit, when there was a fault -/
theorem m_bitR (t : MTk u n N S) (hq : MsQ u n N S (.inr f)) : WP (mX23_bit S w) (fun y => ChW PG9 S y ∧ MsQ u n N y (.inr f)) := by
  unfold mX23_bit
  refine WP_call (m_due t hq (k := 2) (by omega)) (fun x hx => ?_)
  obtain ⟨x1, x⟩ := x
  obtain ⟨h1, h2, h3, h4⟩ := hx
  dsimp only at h1 h2 h3 h4 ⊢
  have cx : ChW PG9 S x := ChW.refl.tr h2 PF10_G9
  have h1 : MsQ u n N x (.inr f) := h1
  rw [m_isRight h1, bX_some, bIf]
  show WP (bX (bX (if false = true then _ else some false) _) _) _
  rw [if_neg (by decide), bX_some, if_neg (by decide), bX_some]
  refine WP_call (m_go (t.g9 cx) h1 (fun i e => by cases e)) (fun g hg => ?_)
  have g1 : MsQ u n N g (.inr f) := hg.1
  rw [m_isRight g1, bX_some, bIf]
  show WP (bX (if false = true then _ else some g) _) _
  rw [if_neg (by decide), bX_some]
  exact WP_some.2 ⟨cx.tr hg.2 (fun _ _ z => z), g1⟩
/-- a bit or not, the value being there -/
theorem m_tail {fb : Nat → Int} (t : MTk u n N z) (hz : MsQ u n N z (nxT u n b)) (h9 : gI z 2000 9 = ((b + 1 : Nat) : Int)) (hb : b < N) (h34 : gI z 2000 34 = (h : Int)) (hh : h ≤ 1000) (hw : 1 ≤ w ∧ w ≤ 8) (e21 : gI z 2021 h = w) (e22 : md = 1 → ∀ i, i < 8 → gI z 2022 (8 * h + i) = fb i) :
    WP (bX (mX23_isAt z 46) fun x8 => bX (if ¬ w32 x8 = 0 then bX (mX23_go z) fun x9 => bX (mX23_bit x9 w) fun x10 => some x10 else some z) fun y11 => some y11) (fun y => ChW (PPl h) z y ∧ mTl u n N h md fb (oB (nxT u n b) (biD u n w)) y) := by
  rw [m_isAt t (show b + 1 ≤ N from hb) h9 (by omega), bX_some, bIf]
  cases hA : nxT u n b with
  | inr f =>
    have k4 : tkK u n (b + 1) = 4 := by
      unfold nxT at hA
      split at hA
      · assumption
      · cases hA
    have e : isS u n 46 (b + 1) = false := decide_eq_false (fun q => by omega)
    rw [e, if_neg (by decide), bX_some]
    rw [hA] at hz
    exact WP_some.2 ⟨ChW.refl, hz⟩
  | inl c =>
    obtain ⟨rfl, k4⟩ := nxT_ok hA
    rw [hA] at hz
    rw [oB_l]
    unfold biD
    by_cases g : isS u n 46 (b + 1) = true
    · have hlt : b + 1 < N := lt3 t.l (isS_K g) hb
      rw [if_pos g, if_pos g]
      refine WP_bX.2 (WP_call (m_go t hz (fun i e => by injection e with e; omega)) (fun v hv => ?_))
      obtain ⟨v1, v2⟩ := hv
      have v1 : MsQ u n N v (nxT u n (b + 1)) := v1
      have tv := t.g9 v2
      cases hB : nxT u n (b + 1) with
      | inr f =>
        rw [hB] at v1
        refine WP_call (m_bitR tv v1) (fun y hy => WP_some.2 (WP_some.2 ⟨ChW.refl.tr (v2.tr hy.1 (fun _ _ z => z)) PG9_pl, hy.2⟩))
      | inl d =>
        rw [hB] at v1
        rw [oB_l]
        have v34 : gI v 2000 34 = (h : Int) := (v2.1 _ _ (fun q => by unfold PG9 at q; omega)).trans h34
        refine WP_call (m_bit1 tv v1 v34 hh hw) (fun y hy => WP_some.2 (WP_some.2 ⟨(ChW.refl.tr v2 PG9_pl).tr hy.1 (fun _ _ z => z), ?_⟩))
        have y2 := hy.2
        cases hC : nuT u n 0 (w - 1) d with
        | inr f => rw [hC] at y2; exact y2
        | inl e =>
          rw [hC] at y2
          obtain ⟨y3, y4, y5⟩ := y2
          obtain ⟨n1, n2, n3, n4, n5⟩ := nuT_ok hC
          refine ⟨y3, y4, ⟨by show (1 : Int) ≤ 1; omega, by show (1 : Int) ≤ 8; omega⟩, fun q i hi => ?_⟩
          have hi : (i : Int) < 1 := hi
          have : i = 0 := by omega
          subst this
          show gI y 2022 (8 * h + 0) = fb (tkV u n d).toNat
          rw [Nat.add_zero, y5, v2.1 _ _ (fun q => by unfold PG9 at q; omega)]
          exact e22 q _ (by omega)
    · rw [if_neg g, if_neg g, bX_some]
      exact WP_some.2 ⟨ChW.refl, hz, e21, hw, fun q i hi => e22 q i (by have : (i : Int) < w := hi; omega)⟩
end MOF
