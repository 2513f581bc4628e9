/-! the reference tells designs: names, faults, plain numbers -/
/-- a module as the reference tells it -/
def RMd (S : Sto) (M : Nat) (m : Mdl) : Prop := gI S 2009 M = (m.length : Int) ∧ ∀ i, i < m.length → gI S 2010 (40 * M + i) = ((m.getD i nm0).1 : Int) ∧ gI S 2011 (40 * M + i) = (m.getD i nm0).2.1 + 1 ∧ gI S 2012 (40 * M + i) = (m.getD i nm0).2.2.1 ∧ gI S 2013 (40 * M + i) = (m.getD i nm0).2.2.2
section MNM
variable {S z y : Sto} {u : Nat → Int} {n N : Nat} {q : Qq} {m : Mdl} {j M : Nat} {f : Int × Int}
theorem RMd.cg (h : RMd S M m) (e1 : gI z 2009 M = gI S 2009 M) (e2 : ∀ a i, 2010 ≤ a → a ≤ 2013 → 40 * M ≤ i → i < 40 * M + m.length → gI z a i = gI S a i) : RMd z M m := by
  refine ⟨e1.trans h.1, fun i hi => ?_⟩
  rw [e2 2010 _ (by omega) (by omega) (by omega) (by omega), e2 2011 _ (by omega) (by omega) (by omega) (by omega), e2 2012 _ (by omega) (by omega) (by omega) (by omega), e2 2013 _ (by omega) (by omega) (by omega) (by omega)]
  exact h.2 i hi
theorem mTk_d {i : Nat} (h : i < m.length) : (mTk m).getD i 0 = (m.getD i nm0).1 := by
  unfold mTk
  rw [List.getD_eq_getElem?_getD, List.getD_eq_getElem?_getD, List.getElem?_map, List.getElem?_eq_getElem h]; rfl
theorem fiN_first : ∀ {ps : List Nat} {i : Nat}, i < ps.length → smNm u n (ps.getD i 0) j → (∀ k, k < i → ¬ smNm u n (ps.getD k 0) j) → fiN u n ps j = i
  | [], i, h, _, _ => absurd h (by show ¬ i < 0; omega)
  | x :: l, i, h, g, e => by
    unfold fiN
    cases i with
    | zero => rw [if_pos (show smB u n x j = true from smB_t g)]
    | succ i =>
      rw [if_neg (show ¬ smB u n x j = true from fun q => e 0 (by omega) (smB_iff.1 q))]
      rw [fiN_first (ps := l) (i := i) (Nat.lt_of_succ_lt_succ h) (by rw [List.getD_cons_succ] at g; exact g) (fun k hk => by have := e (k + 1) (by omega); rw [List.getD_cons_succ] at this; exact this)]
/-- which name it is -/
theorem m_nameOf (t : MTk u n N S) (hm : RMd S M m) (hM : M ≤ 15) (hl : m.length ≤ 40) (hk : KnM u n N (mTk m)) (hj : j ≤ N) (k1 : tkK u n j = 1) : WP (mX23_nameOf S (M : Int) (j : Int)) (fun r => r = if inNm u n (mTk m) j = true then (fiN u n (mTk m) j : Int) else -1) := by
  unfold mX23_nameOf
  refine WP_bE.2 ?_
  refine WP_cnt m.length (fun q s => s = (q : Int) ∧ ∀ i, i < q → ¬ smNm u n ((mTk m).getD i 0) j) (by show _ < 1000000000000; omega) ⟨rfl, fun i hi => absurd hi (by omega)⟩ (fun q s hq hs => ?_) (fun s hs => ?_)
  · obtain ⟨rfl, b⟩ := hs
    obtain ⟨c1, c2⟩ := hk q (by rw [mTk_len]; exact hq)
    have c3 := (hm.2 q hq).1
    rw [← mTk_d hq] at c3
    unfold mX23_nameOf_L2
    rw [rdI_e (by omega), Int.toNat_natCast, hm.1, w32_id (by omega), w32_id (by omega), if_pos (by omega), show 40 * (M : Int) + (q : Int) = ((40 * M + q : Nat) : Int) by omega, rdI_e (by omega), Int.toNat_natCast, c3, m_isSame t c2 hj c1 k1, bX_some, bIf]
    by_cases g : smNm u n ((mTk m).getD q 0) j
    · rw [smB_t g, if_pos rfl]
      refine WP_some.2 ?_
      have hq' : q < (mTk m).length := by rw [mTk_len]; exact hq
      have e1 : inNm u n (mTk m) j = true := inN_iff.2 ⟨q, hq', g⟩
      show (q : Int) = _
      rw [if_pos e1, fiN_first hq' g b]
    · rw [smB_f g, if_neg (by decide)]
      refine WP_some.2 ⟨by show (q : Int) + 1 = _; omega, fun i hi => ?_⟩
      by_cases e : i = q
      · rw [e]; exact g
      · exact b i (by omega)
  · obtain ⟨rfl, b⟩ := hs
    unfold mX23_nameOf_L2
    rw [rdI_e (by omega), Int.toNat_natCast, hm.1, w32_id (by omega), if_neg (by omega)]
    refine WP_some.2 ?_
    show WP (some (-1 : Int)) _
    have e1 : inNm u n (mTk m) j = false := by
      cases e : inNm u n (mTk m) j with
      | false => rfl
      | true =>
        obtain ⟨i, i1, i2⟩ := inN_iff.1 e
        rw [mTk_len] at i1
        exact absurd i2 (b i i1)
    refine WP_some.2 ?_
    rw [e1, if_neg (by decide)]
/-- a fault at a token before -/
theorem m_flawBefore (t : MTk u n N S) (h : MsQ u n N S q) {i : Nat} (hi : i ≤ N) {c : Int} (hc : 1 ≤ c ∧ c ≤ 1000) : WP (mX23_flawBefore S c (i : Int)) (fun y => MsQ u n N y (bq q (fun _ => .inr (c, (tkB u n i : Int)))) ∧ ChW PF10 S y) := by
  have := t.b; have := t.e
  have hb := tkB_le (u := u) (n := n) i
  unfold mX23_flawBefore
  cases q with
  | inl j =>
    obtain ⟨h1, h2, h3, _⟩ := h
    rw [h1, if_pos (by decide), wf_eq]
    have cz : ChW PF10 S (sI S 2000 10 c) := ChW.refl.sI ⟨rfl, Or.inl rfl⟩
    rw [(t.ch cz PF10_tk).p hi, wf_eq, bX_some]
    refine WP_some.2 ⟨⟨?_, ?_, ?_, j, h3, ?_⟩, cz.sI ⟨rfl, Or.inr rfl⟩⟩
    · rw [hI_sI_i (by decide), gI_sI_eq, w32_id (by omega)]
    · show c ≠ 0; omega
    · rw [gI_sI_eq, w32_id (by omega)]
    · rw [hI_sI_i (by decide), hI_sI_i (by decide)]; exact h2
  | inr e =>
    rw [w32_gI, h.1, if_neg h.2.1, bX_some]
    exact WP_some.2 ⟨h, ChW.refl⟩
/-- a number within bounds, the reader's token behind it -/
theorem m_numD (t : MTk u n N S) (h : MsQ u n N S q) {K : Int → Sto → Option Sto} {P : Sto → Prop} {hi : Int} (hh : 1 ≤ hi ∧ hi ≤ 1000)
    (hK : ∀ (i : Nat) y, i ≤ N → (∀ j, q = .inl j → i = j) → MsQ u n N y (bq q (nuT u n 1 hi)) → ChW PG9 S y → WP (K (i : Int) y) P) :
    WP (bX (mX23_due S 2) fun x3 => bX (mX23_isRight x3.2) fun x4 => bX (bX (if ¬ w32 x4 = 0 then rdI 65537 x3.2 2004 x3.1 fun v5 => bX (mX23_within v5 1 hi) fun x6 => if w32 x6 = 0 then some true else some false else some false) fun b => if b = true then bX (mX23_flaw x3.2 12 x3.1) fun x7 => some x7 else some x3.2) fun y8 => bX (mX23_go y8) fun x9 => K x3.1 x9) P := by
  refine WP_call (m_due t h (k := 2) (by omega)) (fun x hx => ?_)
  obtain ⟨x1, x⟩ := x
  obtain ⟨h1, h2, h3, h4⟩ := hx
  dsimp only at h1 h2 h3 h4 ⊢
  have cx : ChW PG9 S x := ChW.refl.tr h2 PF10_G9
  have tx := t.g9 cx
  obtain ⟨i, i1, i2, i3⟩ := h.ix
  have ex : x1 = (i : Int) := h3.trans i2
  subst ex
  have bad : ∀ {w : Sto} {f : Int × Int}, MsQ u n N w (.inr f) → ChW PG9 S w → bq q (nuT u n 1 hi) = .inr f → WP (bX (mX23_go w) fun x9 => K (i : Int) x9) P := fun {w f} w1 w2 w3 => by
    refine WP_call (m_go (t.g9 w2) w1 (fun i e => by cases e)) (fun v hv => hK i v i1 (fun j e => (i3 j e).symm) ?_ (w2.tr hv.2 (fun _ _ z => z)))
    rw [w3]; exact hv.1
  cases q with
  | inr f =>
    have h1 : MsQ u n N x (.inr f) := h1
    rw [m_isRight h1, bX_some, bIf]
    show WP (bX (bX (if false = true then _ else some false) _) _) _
    rw [if_neg (by decide), bX_some, if_neg (by decide), bX_some]
    exact bad h1 cx rfl
  | inl k =>
    have ek : i = k := (i3 k rfl).symm
    subst ek
    by_cases k2 : tkK u n i = 2
    · have h1 : MsQ u n N x (.inl i) := by
        have : duT u n 2 (.inl i) = .inl i := if_pos k2
        rw [this] at h1; exact h1
      have vr := tK_2 (show tK u n (tkB u n i) = 2 from k2)
      have vr : 0 ≤ tkV u n i ∧ tkV u n i < 1000000 := vr.2
      rw [m_isRight h1, bX_some, bIf]
      show WP (bX (bX (if true = true then _ else some false) _) _) _
      rw [if_pos rfl, tx.v i1 (by omega), m_within1 (by omega) hh, bX_some, bIf2]
      by_cases g : 1 ≤ tkV u n i ∧ tkV u n i ≤ hi
      · have en : bq (.inl i) (nuT u n 1 hi) = nxT u n i := by show nuT u n 1 hi i = _; unfold nuT; rw [if_pos k2, if_pos g]
        rw [decide_eq_true g, if_pos rfl, bX_some, if_neg (by decide), bX_some]
        have hlt : i < N := t.l.le (by rw [k2]; decide) i1
        refine WP_call (m_go tx h1 (fun i e => by injection e with e; omega)) (fun v hv => hK i v i1 (fun j e => (i3 j e).symm) ?_ (cx.tr hv.2 (fun _ _ z => z)))
        rw [en]; exact hv.1
      · have en : bq (.inl i) (nuT u n 1 hi) = .inr (12, (tkB u n i : Int)) := by show nuT u n 1 hi i = _; unfold nuT; rw [if_pos k2, if_neg g]; rfl
        rw [decide_eq_false g, if_neg (by decide), bX_some, if_pos rfl]
        refine WP_bX.2 (WP_call (m_flawAt tx h1 i1 (fun _ => by omega) (c := 12) (by omega)) (fun w hw => WP_some.2 ?_))
        exact bad hw.1 (cx.tr hw.2 PF10_G9) en
    · have h1 : MsQ u n N x (.inr (2, (tkB u n i : Int))) := by
        have : duT u n 2 (.inl i) = flT u n 2 i := if_neg k2
        rw [this] at h1; exact h1
      have en : bq (.inl i) (nuT u n 1 hi) = .inr (2, (tkB u n i : Int)) := by show nuT u n 1 hi i = _; unfold nuT; rw [if_neg k2]; rfl
      rw [m_isRight h1, bX_some, bIf]
      show WP (bX (bX (if false = true then _ else some false) _) _) _
      rw [if_neg (by decide), bX_some, if_neg (by decide), bX_some]
      exact bad h1 cx en
end MNM
