/-! the reference: new names and bounded numbers -/
def mNl (lim fld lab : Nat) (x1 : Int) (s2 : Int × Sto) : Option ((Int × Sto) ⊕ (Sto)) := bX (if w32 s2.1 < w32 (gI s2.2 2000 fld) then bX (mX23_isRight s2.2) fun x3 => if ¬ w32 x3 = 0 then some true else some false else some false) fun b => if b = true then rdI lim s2.2 lab s2.1 fun v4 => bX (mX23_isSame s2.2 v4 x1) fun x5 => bX (if ¬ w32 x5 = 0 then bX (mX23_flaw s2.2 10 x1) fun x6 => some x6 else some s2.2) fun y7 => some (Sum.inl (s2.1 + 1, y7)) else some (Sum.inr s2.2)
def MPn (lab fld : Nat) (ps : List Nat) (S : Sto) : Prop := gI S 2000 fld = (ps.length : Int) ∧ ∀ i, i < ps.length → gI S lab i = (ps.getD i 0 : Int)
theorem MPn.c {lab fld : Nat} {ps : List Nat} {S : Sto} (h : MPn lab fld ps S) : gI S 2000 fld = (ps.length : Int) := h.1
theorem MPn.t {lab fld : Nat} {ps : List Nat} {S : Sto} (h : MPn lab fld ps S) : ∀ i, i < ps.length → gI S lab i = (ps.getD i 0 : Int) := h.2
def KnM (u : Nat → Int) (n N : Nat) (ps : List Nat) : Prop := ∀ i, i < ps.length → tkK u n (ps.getD i 0) = 1 ∧ ps.getD i 0 ≤ N
section MNW
variable {S z y : Sto} {u : Nat → Int} {n N lim fld lab : Nat} {q : Qq} {ps : List Nat} {j : Nat} {f : Int × Int}
theorem MPn.ch (h : MPn lab fld ps S) {P : Nat → Nat → Prop} (g : ChW P S z) (e1 : ¬ P 2000 fld) (e2 : ∀ i, ¬ P lab i) : MPn lab fld ps z := ⟨(g.1 _ _ e1).trans h.c, fun i hi => (g.1 _ _ (e2 i)).trans (h.t i hi)⟩
theorem KnM.add (h : KnM u n N ps) (k : tkK u n j = 1) (hj : j ≤ N) : KnM u n N (ps ++ [j]) := fun i hi => by
  rw [List.length_append] at hi
  simp only [List.length] at hi
  by_cases g : i < ps.length
  · rw [getD_app g]; exact h i g
  · have e : i = ps.length := by omega
    subst e
    rw [getD_last]; exact ⟨k, hj⟩
theorem m_nl_f (h : MsQ u n N S (.inr f)) {x1 : Int} {a : Int} : WP (lpF (mNl lim fld lab x1) (a, S)) (fun y => y = S) := by
  refine WP_lpF (fun s => s.2 = S) (fun _ => 1) rfl (by show 1 < 1000000000000; omega) (fun s hs => ?_)
  obtain ⟨s1, s2⟩ := s
  have hs : s2 = S := hs
  subst hs
  unfold mNl
  dsimp only
  have hc : (if w32 s1 < w32 (gI s2 2000 fld) then bX (mX23_isRight s2) fun x3 => if ¬ w32 x3 = 0 then some true else some false else some false) = some false := by
    split
    · rw [m_isRight h, bX_some, bIf]; rfl
    · rfl
  rw [hc, bX_some, if_neg (by decide)]
  exact WP_some.2 rfl
theorem m_nl (t : MTk u n N S) (hq : MsQ u n N S (.inl j)) (k1 : tkK u n j = 1) (hl : ps.length ≤ lim) (hlim : lim ≤ 12) (hk : KnM u n N ps) (hm : MPn lab fld ps S) (hf : fld = 80 ∨ fld = 83) (hlab : lab = 2060 ∨ lab = 2061) :
    WP (lpF (mNl lim fld lab (j : Int)) (0, S)) (fun y => MsQ u n N y (if inNm u n ps j = true then .inr (10, (tkB u n j : Int)) else .inl j) ∧ ChW PF10 S y) := by
  have hj : j ≤ N := hq.2.2.1
  refine WP_lpF (fun s => ∃ k : Nat, s.1 = (k : Int) ∧ k ≤ ps.length ∧ ChW PF10 S s.2 ∧ ((MsQ u n N s.2 (.inl j) ∧ ∀ i, i < k → ¬ smNm u n (ps.getD i 0) j) ∨ (inNm u n ps j = true ∧ MsQ u n N s.2 (.inr (10, (tkB u n j : Int)))))) (fun s => if gI s.2 2000 10 = 0 then ps.length + 1 - s.1.toNat else 0) ⟨0, rfl, by omega, ChW.refl, Or.inl ⟨hq, fun i hi => absurd hi (by omega)⟩⟩ ?_ (fun s hs => ?_)
  · exact ite_lt (show ps.length + 1 - _ < 1000000000000 by omega) (show 0 < 1000000000000 by omega)
  · obtain ⟨s1, s2⟩ := s
    obtain ⟨k, a1, a2, a3, a4⟩ := hs
    dsimp only at a1 a3 a4
    subst a1
    have ms := hm.ch a3 (fun z => by unfold PF10 at z; omega) (fun i z => by unfold PF10 at z; omega)
    have tsS := t.ch a3 PF10_tk
    unfold mNl
    dsimp only
    rw [ms.c, w32_id (by omega), w32_id (by omega)]
    rcases a4 with ⟨b1, b2⟩ | ⟨b1, b2⟩
    · have z10 : gI s2 2000 10 = 0 := b1.1
      by_cases g : k < ps.length
      · obtain ⟨c1, c2⟩ := hk k g
        rw [if_pos (show (k : Int) < (ps.length : Int) by omega), m_isRight b1, bX_some, bIf]
        show WP (bX (if true = true then _ else _) _) _
        rw [if_pos rfl, bX_some, if_pos rfl, rdI_e (by omega), Int.toNat_natCast, ms.t k g, m_isSame tsS c2 hj c1 k1, bX_some, bIf]
        by_cases e : smNm u n (ps.getD k 0) j
        · rw [smB_t e, if_pos rfl]
          refine WP_bX.2 (WP_call (m_flawAt tsS b1 hj (fun _ => by omega) (c := 10) (by omega)) (fun x hx => WP_some.2 (WP_some.2 ?_)))
          have x1 : MsQ u n N x (.inr (10, (tkB u n j : Int))) := hx.1
          refine ⟨⟨k + 1, by dsimp only; omega, by omega, a3.tr hx.2 (fun _ _ z => z), Or.inr ⟨inN_iff.2 ⟨k, g, e⟩, x1⟩⟩, ?_⟩
          have x10 : gI x 2000 10 = 10 := x1.1
          dsimp only
          rw [if_neg (show ¬ gI x 2000 10 = 0 by omega), if_pos z10]; omega
        · rw [smB_f e, if_neg (by decide), bX_some]
          refine WP_some.2 ⟨⟨k + 1, by dsimp only; omega, by omega, a3, Or.inl ⟨b1, fun i hi => ?_⟩⟩, ?_⟩
          · by_cases ek : i = k
            · subst ek; exact e
            · exact b2 i (by omega)
          · dsimp only
            rw [if_pos z10, if_pos z10]; omega
      · rw [if_neg (show ¬ (k : Int) < (ps.length : Int) by omega), bX_some, if_neg (by decide)]
        refine WP_some.2 ⟨?_, a3⟩
        have : inNm u n ps j = false := by
          cases e : inNm u n ps j with
          | false => rfl
          | true => obtain ⟨i, i1, i2⟩ := inN_iff.1 e; exact absurd i2 (b2 i (by omega))
        rw [this, if_neg (by decide)]; exact b1
    · have hc : (if (k : Int) < (ps.length : Int) then bX (mX23_isRight s2) fun x3 => if ¬ w32 x3 = 0 then some true else some false else some false) = some false := by
        split
        · rw [m_isRight b2, bX_some, bIf]; rfl
        · rfl
      rw [hc, bX_some, if_neg (by decide)]
      refine WP_some.2 ⟨?_, a3⟩
      rw [if_pos b1]; exact b2
/-- the check of a new name and one token on -/
theorem m_new {τ : Type} {K : Int → Sto → Option τ} {P : τ → Prop} (t : MTk u n N S) (h : MsQ u n N S q) (hl : ps.length ≤ lim) (hlim : lim ≤ 12) (hk : KnM u n N ps) (hm : MPn lab fld ps S) (hf : fld = 80 ∨ fld = 83) (hlab : lab = 2060 ∨ lab = 2061) (limI : Int) (hlI : limI = (lim : Int))
    (hK : ∀ x1 y, x1 = gI S 2000 9 → MsQ u n N y (newT u n lim ps q) → ChW PG9 S y → WP (K x1 y) P) :
    WP (bX (mX23_due S 1) fun x1 => bX (lpF (mNl lim fld lab x1.1) (0, x1.2)) fun y8 => bX (mX23_isRight y8) fun x9 => bX (bX (if ¬ w32 x9 = 0 then if w32 (gI y8 2000 fld) = limI then some true else some false else some false) fun b => if b = true then bX (mX23_flaw y8 15 x1.1) fun x10 => some x10 else some y8) fun y11 => bX (mX23_go y11) fun x12 => K x1.1 x12) P := by
  refine WP_call (m_due t h (k := 1) (by omega)) (fun x hx => ?_)
  obtain ⟨x1, x⟩ := x
  obtain ⟨h1, h2, h3, h4⟩ := hx
  dsimp only at h1 h2 h3 h4 ⊢
  have tx := t.ch h2 PF10_tk
  have cx : ChW PG9 S x := ChW.refl.tr h2 PF10_G9
  -- when it is wrong already
  have bad : ∀ {w : Sto} {f : Int × Int}, MsQ u n N w (.inr f) → ChW PG9 S w → newT u n lim ps q = .inr f → WP (bX (mX23_isRight w) fun x9 => bX (bX (if ¬ w32 x9 = 0 then if w32 (gI w 2000 fld) = limI then some true else some false else some false) fun b => if b = true then bX (mX23_flaw w 15 x1) fun x10 => some x10 else some w) fun y11 => bX (mX23_go y11) fun x12 => K x1 x12) P := fun {w f} w1 w2 w3 => by
    rw [m_isRight w1, bX_some, bIf]
    show WP (bX (bX (if false = true then _ else some false) _) _) _
    rw [if_neg (by decide), bX_some, if_neg (by decide), bX_some]
    refine WP_call (m_go (t.ch w2 PG9_tk) w1 (fun i e => by cases e)) (fun y hy => hK x1 y h3 ?_ (w2.tr hy.2 (fun _ _ z => z)))
    rw [w3]; exact hy.1
  cases q with
  | inr f =>
    have h1 : MsQ u n N x (.inr f) := h1
    refine WP_call (m_nl_f h1) (fun y hy => ?_)
    subst hy
    exact bad h1 cx rfl
  | inl j =>
    have hj : j ≤ N := h.2.2.1
    have e1 : x1 = (j : Int) := h3.trans h.2.1
    by_cases k1 : tkK u n j = 1
    · have h1 : MsQ u n N x (.inl j) := by
        have : duT u n 1 (.inl j) = .inl j := if_pos k1
        rw [this] at h1; exact h1
      have mx := hm.ch h2 (fun z => by unfold PF10 at z; omega) (fun i z => by unfold PF10 at z; omega)
      subst e1
      refine WP_call (m_nl tx h1 k1 hl hlim hk mx hf hlab) (fun y hy => ?_)
      obtain ⟨y1, y2⟩ := hy
      have cy : ChW PG9 S y := cx.tr y2 PF10_G9
      by_cases gi : inNm u n ps j = true
      · rw [if_pos gi] at y1
        refine bad y1 cy ?_
        unfold newT chT bq flT
        dsimp only
        rw [if_pos k1, if_pos gi]
      · rw [if_neg gi] at y1
        have my := mx.ch y2 (fun z => by unfold PF10 at z; omega) (fun i z => by unfold PF10 at z; omega)
        rw [m_isRight y1, bX_some, bIf]
        show WP (bX (bX (if true = true then _ else some false) _) _) _
        rw [if_pos rfl, my.c, w32_id (by omega)]
        by_cases gl : ps.length = lim
        · rw [if_pos (show (ps.length : Int) = limI by omega), bX_some, if_pos rfl]
          refine WP_bX.2 (WP_call (m_flawAt (tx.ch y2 PF10_tk) y1 hj (fun _ => by omega) (c := 15) (by omega)) (fun w hw => WP_some.2 ?_))
          have w1 : MsQ u n N w (.inr (15, (tkB u n j : Int))) := hw.1
          have cw : ChW PG9 S w := cy.tr hw.2 PF10_G9
          refine WP_call (m_go (t.ch cw PG9_tk) w1 (fun i e => by cases e)) (fun v hv => hK _ v h3 ?_ (cw.tr hv.2 (fun _ _ z => z)))
          have en : newT u n lim ps (.inl j) = .inr (15, (tkB u n j : Int)) := by
            unfold newT chT bq flT
            dsimp only
            rw [if_pos k1, if_neg gi, if_pos gl]
          rw [en]; exact hv.1
        · rw [if_neg (show ¬ (ps.length : Int) = limI by omega), bX_some, if_neg (by decide), bX_some]
          have hlt : j < N := t.l.le (by rw [k1]; decide) hj
          refine WP_call (m_go (t.ch cy PG9_tk) y1 (fun i e => by injection e with e; omega)) (fun v hv => hK _ v h3 ?_ (cy.tr hv.2 (fun _ _ z => z)))
          have en : newT u n lim ps (.inl j) = nxT u n j := by
            unfold newT chT bq
            dsimp only
            rw [if_pos k1, if_neg gi, if_neg gl]
          rw [en]; exact hv.1
    · have h1 : MsQ u n N x (.inr (2, (tkB u n j : Int))) := by
        have : duT u n 1 (.inl j) = flT u n 2 j := if_neg k1
        rw [this] at h1; exact h1
      refine WP_call (m_nl_f h1) (fun y hy => ?_)
      subst hy
      refine bad h1 cx ?_
      unfold newT chT bq flT
      dsimp only
      rw [if_neg k1]
def PTi (a i : Nat) : Prop := PG9 a i ∨ (a = 2000 ∧ i = 80) ∨ a = 2060
/-- a pin -/
theorem m_tellInput (t : MTk u n N S) (h : MsQ u n N S q) (hl : ps.length ≤ 3) (hk : KnM u n N ps) (hm : MPn 2060 80 ps S) :
    WP (mX23_tellInput S) (fun y => MsQ u n N y (newT u n 3 ps q) ∧ ChW PTi S y ∧ (∀ j j', q = .inl j → newT u n 3 ps q = .inl j' → MPn 2060 80 (ps ++ [j]) y)) := by
  unfold mX23_tellInput
  refine m_new (lim := 3) (fld := 80) (lab := 2060) (K := fun x1 x12 => bX (mX23_isRight x12) fun x13 => bX (if ¬ w32 x13 = 0 then wrI 3 x12 2060 (gI x12 2000 80) x1 fun S14 => wf S14 2000 80 ((gI S14 2000 80) + 1) fun S15 => some S15 else some x12) fun y16 => some y16) t h hl (by omega) hk hm (Or.inl rfl) (Or.inl rfl) 3 rfl (fun x1 y e y1 y2 => ?_)
  have cy : ChW PTi S y := ChW.refl.tr y2 (fun a i z => Or.inl z)
  rw [m_isRight y1, bX_some, bIf]
  cases hn : newT u n 3 ps q with
  | inr f =>
    rw [hn] at y1
    show WP (bX (if false = true then _ else some y) _) _
    rw [if_neg (by decide), bX_some]
    exact WP_some.2 ⟨y1, cy, fun j j' _ e => by cases e⟩
  | inl j' =>
    rw [hn] at y1
    show WP (bX (if true = true then _ else some y) _) _
    obtain ⟨j, e1, e2, k1, i1, l1⟩ := newT_inl hn
    subst e1
    have b := t.b; have be := t.e
    have hj : j ≤ N := h.2.2.1
    have e : x1 = (j : Int) := e.trans h.2.1
    have my := hm.ch y2 (fun z => by unfold PG9 at z; omega) (fun i z => by unfold PG9 at z; omega)
    rw [if_pos rfl, my.c, wrI_e (by omega), Int.toNat_natCast, hI_sI_a (by decide), my.c, wf_eq, bX_some]
    have c1 : ChW (fun a i => (a = 2000 ∧ i = 80) ∨ a = 2060) y (sI (sI y 2060 ps.length x1) 2000 80 ((ps.length : Int) + 1)) := (ChW.refl.sI (Or.inr rfl)).sI (Or.inl ⟨rfl, rfl⟩)
    refine WP_some.2 ⟨y1.ch c1 (fun i _ _ z => by omega), cy.tr c1 (fun a i z => Or.inr z), fun i j'' ei _ => ?_⟩
    injection ei with ei
    subst ei
    refine ⟨?_, fun k hk2 => ?_⟩
    · rw [gI_sI_eq, List.length_append, w32_id (by omega)]; rfl
    · rw [List.length_append] at hk2
      simp only [List.length] at hk2
      rw [hI_sI_a (by decide)]
      by_cases g : k < ps.length
      · rw [getD_app g, hI_sI_i (by omega)]; exact my.t k g
      · have ek : k = ps.length := by omega
        subst ek
        rw [getD_last, gI_sI_eq, e, w32_id (by omega)]
theorem m_within1 {v hi : Int} (hv : -2147483648 ≤ v ∧ v < 2147483648) (hh : 1 ≤ hi ∧ hi ≤ 1000) : mX23_within v 1 hi = some (b2i (decide (1 ≤ v ∧ v ≤ hi))) := by
  unfold mX23_within
  rw [w32_id hv, w32_id (show -2147483648 ≤ hi ∧ hi < 2147483648 by omega), show w32 1 = 1 from rfl]
  by_cases g1 : 1 ≤ v
  · rw [if_pos g1]
    by_cases g2 : v ≤ hi
    · rw [if_pos g2, decide_eq_true ⟨g1, g2⟩]; rfl
    · rw [if_neg g2, decide_eq_false (fun z => g2 z.2)]; rfl
  · rw [if_neg g1, decide_eq_false (fun z => g1 z.1)]; rfl
/-- a comma and a number within bounds -/
theorem m_bounded (t : MTk u n N S) (h : MsQ u n N S q) {hi : Int} (hh : 1 ≤ hi ∧ hi ≤ 1000) :
    WP (mX23_bounded S hi) (fun y => MsQ u n N y.2 (numT u n hi q) ∧ ChW PG9 S y.2 ∧ (∀ j j', q = .inl j → numT u n hi q = .inl j' → y.1 = tkV u n (j + 1))) := by
  have hb := t.b; have hbe := t.e
  unfold mX23_bounded
  refine WP_call (m_sign t h (c := 44) (by omega)) (fun a ha => ?_)
  obtain ⟨a1, a2⟩ := ha
  have ta := t.g9 a2
  refine WP_call (m_due ta a1 (k := 2) (by omega)) (fun x hx => ?_)
  obtain ⟨x1, x⟩ := x
  obtain ⟨h1, h2, h3, h4⟩ := hx
  dsimp only at h1 h2 h3 h4 ⊢
  have cx : ChW PG9 S x := a2.tr h2 PF10_G9
  have tx := t.g9 cx
  obtain ⟨i, i1, i2, i3⟩ := a1.ix
  have ex : x1 = (i : Int) := h3.trans i2
  subst ex
  have fin : ∀ {w : Sto}, MsQ u n N w (numT u n hi q) → ChW PG9 S w → (∀ j j', q = .inl j → numT u n hi q = .inl j' → tkK u n i ≠ 4 ∧ i = j + 1) → WP (rdI 65537 w 2004 (i : Int) fun v9 => some (v9, w)) (fun y => MsQ u n N y.2 (numT u n hi q) ∧ ChW PG9 S y.2 ∧ (∀ j j', q = .inl j → numT u n hi q = .inl j' → y.1 = tkV u n (j + 1))) := fun {w} w1 w2 w3 => by
    by_cases g : tkK u n i = 4
    · rw [rdI_e (by omega)]
      exact WP_some.2 ⟨w1, w2, fun j j' e1 e2 => absurd g (w3 j j' e1 e2).1⟩
    · rw [(t.g9 w2).v i1 g]
      exact WP_some.2 ⟨w1, w2, fun j j' e1 e2 => by rw [← (w3 j j' e1 e2).2]⟩
  have bad : ∀ {w : Sto} {f : Int × Int}, MsQ u n N w (.inr f) → ChW PG9 S w → numT u n hi q = .inr f → WP (bX (mX23_go w) fun x8 => rdI 65537 x8 2004 (i : Int) fun v9 => some (v9, x8)) (fun y => MsQ u n N y.2 (numT u n hi q) ∧ ChW PG9 S y.2 ∧ (∀ j j', q = .inl j → numT u n hi q = .inl j' → y.1 = tkV u n (j + 1))) := fun {w f} w1 w2 w3 => by
    refine WP_call (m_go (t.g9 w2) w1 (fun i e => by cases e)) (fun v hv => fin ?_ (w2.tr hv.2 (fun _ _ z => z)) (fun j j' _ e => by rw [w3] at e; cases e))
    rw [w3]; exact hv.1
  cases eT : tkT u n 44 q with
  | inr f =>
    rw [eT] at h1
    have h1 : MsQ u n N x (.inr f) := h1
    have en : numT u n hi q = .inr f := by unfold numT; rw [eT]; rfl
    rw [m_isRight h1, bX_some, bIf]
    show WP (bX (bX (if false = true then _ else some false) _) _) _
    rw [if_neg (by decide), bX_some, if_neg (by decide), bX_some]
    exact bad h1 cx en
  | inl k =>
    rw [eT] at h1
    have ek : k = i := by
      rw [eT] at i3; exact i3 k rfl
    subst ek
    have hqj : ∀ j, q = .inl j → k = j + 1 := fun j e => by subst e; exact (tkT_inl eT).2
    by_cases k2 : tkK u n k = 2
    · have h1 : MsQ u n N x (.inl k) := by
        have : duT u n 2 (.inl k) = .inl k := if_pos k2
        rw [this] at h1; exact h1
      have vr := tK_2 (show tK u n (tkB u n k) = 2 from k2)
      have vr : 0 ≤ tkV u n k ∧ tkV u n k < 1000000 := vr.2
      rw [m_isRight h1, bX_some, bIf]
      show WP (bX (bX (if true = true then _ else some false) _) _) _
      rw [if_pos rfl, tx.v i1 (by omega), m_within1 (by omega) hh, bX_some, bIf2]
      by_cases g : 1 ≤ tkV u n k ∧ tkV u n k ≤ hi
      · have en : numT u n hi q = nxT u n k := by
          unfold numT; rw [eT]
          show (if _ then _ else _) = _
          rw [if_pos k2, if_pos g]
        rw [decide_eq_true g, if_pos rfl, bX_some, if_neg (by decide), bX_some]
        have hlt : k < N := t.l.le (by rw [k2]; decide) i1
        refine WP_call (m_go tx h1 (fun i e => by injection e with e; omega)) (fun v hv => fin ?_ (cx.tr hv.2 (fun _ _ z => z)) (fun j j' e1 _ => ⟨by omega, hqj j e1⟩))
        rw [en]; exact hv.1
      · have en : numT u n hi q = .inr (12, (tkB u n k : Int)) := by
          unfold numT; rw [eT]
          show (if _ then _ else _) = _
          rw [if_pos k2, if_neg g]; rfl
        rw [decide_eq_false g, if_neg (by decide), bX_some, if_pos rfl]
        refine WP_bX.2 (WP_call (m_flawAt tx h1 i1 (fun _ => by omega) (c := 12) (by omega)) (fun w hw => WP_some.2 ?_))
        exact bad hw.1 (cx.tr hw.2 PF10_G9) en
    · have h1 : MsQ u n N x (.inr (2, (tkB u n k : Int))) := by
        have : duT u n 2 (.inl k) = flT u n 2 k := if_neg k2
        rw [this] at h1; exact h1
      have en : numT u n hi q = .inr (2, (tkB u n k : Int)) := by
        unfold numT; rw [eT]
        show (if _ then _ else _) = _
        rw [if_neg k2]; rfl
      rw [m_isRight h1, bX_some, bIf]
      show WP (bX (bX (if false = true then _ else some false) _) _) _
      rw [if_neg (by decide), bX_some, if_neg (by decide), bX_some]
      exact bad h1 cx en
end MNW
