/-! the reference tells designs: which module it is -/
section MMO
variable {S z y : Sto} {u : Nat → Int} {n N h M : Nat} {q : Qq} {m : Mdl} {mt : List Nat} {j : Nat} {f : Int × Int}
theorem m_moduleOf (t : MTk u n N S) (h12 : gI S 2000 12 = (mt.length : Int)) (h7 : ∀ i, i < mt.length → gI S 2007 i = (mt.getD i 0 : Int)) (hl : mt.length ≤ 16) (hk : KnM u n N mt) (hj : j ≤ N) (k1 : tkK u n j = 1) : WP (mX23_moduleOf S (j : Int)) (fun r => r = if inNm u n mt j = true then (fiN u n mt j : Int) else -1) := by
  unfold mX23_moduleOf
  refine WP_bE.2 ?_
  refine WP_cnt mt.length (fun q s => s = (q : Int) ∧ ∀ i, i < q → ¬ smNm u n (mt.getD i 0) j) (by show _ < 1000000000000; omega) ⟨rfl, fun i hi => absurd hi (by omega)⟩ (fun q s hq hs => ?_) (fun s hs => ?_)
  · obtain ⟨rfl, b⟩ := hs
    obtain ⟨c1, c2⟩ := hk q hq
    have c3 := h7 q hq
    unfold mX23_moduleOf_L2
    rw [h12, w32_id (by omega), w32_id (by omega), if_pos (by omega), rdI_e (by omega), Int.toNat_natCast, c3, m_isSame t c2 hj c1 k1, bX_some, bIf]
    by_cases g : smNm u n (mt.getD q 0) j
    · rw [smB_t g, if_pos rfl]
      refine WP_some.2 ?_
      have e1 : inNm u n mt j = true := inN_iff.2 ⟨q, hq, g⟩
      show (q : Int) = _
      rw [if_pos e1, fiN_first hq g b]
    · rw [smB_f g, if_neg (by decide)]
      refine WP_some.2 ⟨by show (q : Int) + 1 = _; omega, fun i hi => ?_⟩
      by_cases e : i = q
      · rw [e]; exact g
      · exact b i (by omega)
  · obtain ⟨rfl, b⟩ := hs
    unfold mX23_moduleOf_L2
    rw [h12, w32_id (by omega), if_neg (by omega)]
    refine WP_some.2 ?_
    show WP (some (-1 : Int)) _
    have e1 : inNm u n mt j = false := by
      cases e : inNm u n mt j with
      | false => rfl
      | true =>
        obtain ⟨i, i1, i2⟩ := inN_iff.1 e
        exact absurd i2 (b i i1)
    refine WP_some.2 ?_
    rw [e1, if_neg (by decide)]
end MMO
