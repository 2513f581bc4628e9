/-! the reference tells designs: new names, widths -/
def PN9 (a i : Nat) : Prop := PG9 a i ∨ (a = 2000 ∧ (i = 25 ∨ i = 26))
def kNn (p1 : Int) (y6 : Sto) : Option Sto := bX (mX23_isRight y6) fun x7 => bX (bX (if ¬ w32 x7 = 0 then rdI 16 y6 2009 p1 fun v8 => if w32 v8 = 40 then some true else some false else some false) fun b => if b = true then bX (mX23_flaw y6 15 (gI y6 2000 25)) fun x9 => some x9 else some y6) fun y10 => bX (mX23_go y10) fun x11 => some x11
theorem newName_eq {S : Sto} {p1 : Int} : mX23_newName S p1 = bX (mX23_due S 1) fun x1 => wf x1.2 2000 25 x1.1 fun S2 => bX (mX23_isRight S2) fun x3 => bX (bX (if ¬ w32 x3 = 0 then bX (mX23_nameOf S2 p1 (gI S2 2000 25)) fun x4 => if ¬ w32 x4 = (-1) then some true else some false else some false) fun b => if b = true then bX (mX23_flaw S2 10 (gI S2 2000 25)) fun x5 => some x5 else some S2) fun y6 => kNn p1 y6 := rfl
section MNE
variable {S z y : Sto} {u : Nat → Int} {n N h M : Nat} {q : Qq} {m : Mdl} {j : Nat} {f : Int × Int}
theorem PN9_tk : ∀ a i, 2002 ≤ a → a ≤ 2006 → ¬ PN9 a i := fun a i l1 l2 q => by unfold PN9 PG9 at q; omega
theorem PG9_n9 : ∀ a i, PG9 a i → PN9 a i := fun a i q => Or.inl q
/-- a new name -/
theorem m_newName (t : MTk u n N S) (h : MsQ u n N S q) (hm : RMd S M m) (hM : M ≤ 15) (hl : m.length ≤ 40) (hk : KnM u n N (mTk m)) :
    WP (mX23_newName S (M : Int)) (fun y => MsQ u n N y (newT u n 40 (mTk m) q) ∧ ChW PN9 S y ∧ gI y 2000 25 = gI S 2000 9) := by
  rw [newName_eq]
  refine WP_call (m_due t h (k := 1) (by omega)) (fun x hx => ?_)
  obtain ⟨x1, x⟩ := x
  obtain ⟨h1, h2, h3, h4⟩ := hx
  dsimp only at h1 h2 h3 h4 ⊢
  rw [wf_eq]
  generalize hw : sI x 2000 25 x1 = w
  have cw : ChW (fun a i => a = 2000 ∧ i = 25) x w := by rw [← hw]; exact ChW.refl.sI ⟨rfl, rfl⟩
  have w25 : gI w 2000 25 = gI S 2000 9 := by rw [← hw, gI_sI_eq, h3, w32_gI]
  have cSw : ChW PN9 S w := (ChW.refl.tr h2 (fun a i q => PG9_n9 a i (PF10_G9 a i q))).tr cw (fun a i q => Or.inr ⟨q.1, Or.inl q.2⟩)
  have tw : MTk u n N w := t.ch cSw PN9_tk
  have bad : ∀ {s : Sto} {f : Int × Int}, MsQ u n N s (.inr f) → ChW PN9 S s → gI s 2000 25 = gI S 2000 9 → newT u n 40 (mTk m) q = .inr f → WP (kNn (M : Int) s) (fun y => MsQ u n N y (newT u n 40 (mTk m) q) ∧ ChW PN9 S y ∧ gI y 2000 25 = gI S 2000 9) := fun {s f} s1 s2 s3 s4 => by
    unfold kNn
    rw [m_isRight s1, bX_some, bIf]
    show WP (bX (bX (if false = true then _ else some false) _) _) _
    rw [if_neg (by decide), bX_some, if_neg (by decide), bX_some]
    refine WP_call (m_go (t.ch s2 PN9_tk) s1 (fun i e => by cases e)) (fun y hy => WP_some.2 ⟨?_, s2.tr hy.2 PG9_n9, ?_⟩)
    · rw [s4]; exact hy.1
    · rw [hy.2.1 _ _ (fun q => by unfold PG9 at q; omega)]; exact s3
  have wrong : ∀ {f : Int × Int}, MsQ u n N x (.inr f) → newT u n 40 (mTk m) q = .inr f → WP (bX (mX23_isRight w) fun x3 => bX (bX (if ¬ w32 x3 = 0 then bX (mX23_nameOf w (M : Int) (gI w 2000 25)) fun x4 => if ¬ w32 x4 = (-1) then some true else some false else some false) fun b => if b = true then bX (mX23_flaw w 10 (gI w 2000 25)) fun x5 => some x5 else some w) fun y6 => kNn (M : Int) y6) (fun y => MsQ u n N y (newT u n 40 (mTk m) q) ∧ ChW PN9 S y ∧ gI y 2000 25 = gI S 2000 9) := fun {f} s1 s4 => by
    have s1 : MsQ u n N w (.inr f) := s1.ch cw (fun i l1 l2 q => by omega)
    rw [m_isRight s1, bX_some, bIf]
    show WP (bX (bX (if false = true then _ else some false) _) _) _
    rw [if_neg (by decide), bX_some, if_neg (by decide), bX_some]
    exact bad s1 cSw w25 s4
  cases q with
  | inr f => exact wrong h1 rfl
  | inl j =>
    have hj : j ≤ N := h.2.2.1
    have e9 : gI S 2000 9 = (j : Int) := h.2.1
    by_cases k1 : tkK u n j = 1
    · have h1 : MsQ u n N x (.inl j) := by
        have : duT u n 1 (.inl j) = .inl j := if_pos k1
        rw [this] at h1; exact h1
      have q1 : MsQ u n N w (.inl j) := h1.ch cw (fun i l1 l2 q => by omega)
      have rw1 : RMd w M m := hm.cg (cSw.1 _ _ (fun q => by unfold PN9 PG9 at q; omega)) (fun a i l1 l2 _ _ => cSw.1 _ _ (fun q => by unfold PN9 PG9 at q; omega))
      have hlt : j < N := lt1 t.l k1 hj
      rw [m_isRight q1, bX_some, bIf]
      show WP (bX (bX (if true = true then _ else some false) _) _) _
      rw [if_pos rfl, w25, e9]
      refine WP_bX.2 (WP_bX.2 (WP_call (m_nameOf tw rw1 hM hl hk hj k1) (fun x4 hx => ?_)))
      subst hx
      by_cases g : inNm u n (mTk m) j = true
      · have en : newT u n 40 (mTk m) (.inl j) = .inr (10, (tkB u n j : Int)) := by
          unfold newT chT bq flT
          dsimp only
          rw [if_pos k1, if_pos g]
        rw [if_pos g, w32_id (by have := (fiN_ok g).1; rw [mTk_len] at this; omega), if_pos (show ¬ (fiN u n (mTk m) j : Int) = -1 by omega)]
        refine WP_some.2 ?_
        rw [if_pos rfl]
        refine WP_call (m_flawAt tw q1 hj (fun _ => by omega) (c := 10) (by omega)) (fun s hs => WP_some.2 ?_)
        have hb := bad hs.1 (cSw.tr hs.2 (fun a i q => PG9_n9 a i (PF10_G9 a i q))) ((hs.2.1 _ _ (fun q => by unfold PF10 at q; omega)).trans w25) en
        rw [e9] at hb
        exact hb
      · rw [if_neg g, if_neg (show ¬ ¬ w32 (-1) = (-1) from fun q => q (by decide))]
        refine WP_some.2 ?_
        rw [if_neg (by decide)]
        refine WP_some.2 ?_
        unfold kNn
        rw [m_isRight q1, bX_some, bIf]
        show WP (bX (bX (if true = true then _ else some false) _) _) _
        rw [if_pos rfl, rdI_e (by omega), Int.toNat_natCast, rw1.1, w32_id (by omega)]
        by_cases gl : m.length = 40
        · have en : newT u n 40 (mTk m) (.inl j) = .inr (15, (tkB u n j : Int)) := by
            unfold newT chT bq flT
            dsimp only
            rw [if_pos k1, if_neg g, if_pos (show (mTk m).length = 40 by rw [mTk_len]; exact gl)]
          rw [if_pos (show (m.length : Int) = 40 by omega), bX_some, if_pos rfl, w25, e9]
          refine WP_bX.2 (WP_call (m_flawAt tw q1 hj (fun _ => by omega) (c := 15) (by omega)) (fun s hs => WP_some.2 ?_))
          have s1 : MsQ u n N s (.inr (15, (tkB u n j : Int))) := hs.1
          have cs : ChW PN9 S s := cSw.tr hs.2 (fun a i q => PG9_n9 a i (PF10_G9 a i q))
          refine WP_call (m_go (t.ch cs PN9_tk) s1 (fun i e => by cases e)) (fun y hy => WP_some.2 ⟨?_, cs.tr hy.2 PG9_n9, ?_⟩)
          · rw [en]; exact hy.1
          · rw [hy.2.1 _ _ (fun q => by unfold PG9 at q; omega), hs.2.1 _ _ (fun q => by unfold PF10 at q; omega), w25, e9]
        · have en : newT u n 40 (mTk m) (.inl j) = nxT u n j := by
            unfold newT chT bq flT
            dsimp only
            rw [if_pos k1, if_neg g, if_neg (show ¬ (mTk m).length = 40 by rw [mTk_len]; exact gl)]
          rw [if_neg (show ¬ (m.length : Int) = 40 by omega), bX_some, if_neg (by decide), bX_some]
          refine WP_call (m_go tw q1 (fun i e => by injection e with e; omega)) (fun y hy => WP_some.2 ⟨?_, cSw.tr hy.2 PG9_n9, ?_⟩)
          · rw [en]; exact hy.1
          · rw [hy.2.1 _ _ (fun q => by unfold PG9 at q; omega), w25, e9]
    · have en : newT u n 40 (mTk m) (.inl j) = .inr (2, (tkB u n j : Int)) := by
        unfold newT chT bq flT
        dsimp only
        rw [if_neg k1]
      have h1 : MsQ u n N x (.inr (2, (tkB u n j : Int))) := by
        have : duT u n 1 (.inl j) = flT u n 2 j := if_neg k1
        rw [this] at h1; exact h1
      exact wrong h1 en
end MNE
