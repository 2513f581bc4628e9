/-! turned leaves are made for roots alone where there is no inverter -/
section TURNED
variable {G : Dsg} {B : Lib} {n i k l p x t : Nat}
theorem no2 (w : WFG G) (wl : WFL B) (hr : rOK G B) (hv : lInv B = -1) : ∀ f n k s a, k < 2 → AndG G n → (mkR G B f n k s).2 a 2 = s.2 a 2 := by
  have ei : invO B = none := if_pos hv
  intro f
  induction f with
  | zero => intro n k s a _ _; rfl
  | succ f ih =>
    intro n k s a hk hn
    show (mkF G B (mkR G B f) n k s).2 a 2 = _
    by_cases q : s.2 n k = -1
    case neg => rw [mkF_stay q]
    case pos =>
      have z : ¬ trn G B n k := fun h => by obtain ⟨v, _, e, _⟩ := trn_some h; exact e ei
      cases hy : WW G B n k with
      | none => unfold mkF; rw [if_neg (fun g => g q), if_neg (by omega), cG_f z, hy]
      | some y =>
        rw [mkF_way q (by omega) z hy, mkA_oth (by omega)]
        obtain ⟨y1, y2, y3, y4, y5, y6⟩ := way_inp w wl hr hn hy
        have ni := WW_in w wl hn hy
        have key : ∀ i, i ≤ y.2.2.2.length → (mkI G (mkR G B f) y.2.2.2 y.2.2.1 s i).2 a 2 = s.2 a 2 := by
          intro i
          induction i with
          | zero => intro _; rfl
          | succ i ihi =>
            intro hi
            have hi' := ihi (by omega)
            obtain ⟨wd, lt, _⟩ := y6 i (by omega)
            have nn := ni i (by omega)
            have b2 := bitN_2 (tu := y.2.2.1) (i := i)
            show (cG (hasK G (y.2.2.2.getD i 0) (bitN y.2.2.1 i)) (mkR G B f (y.2.2.2.getD i 0) (inK G (y.2.2.2.getD i 0) (bitN y.2.2.1 i)) (mkI G (mkR G B f) y.2.2.2 y.2.2.1 s i)) (mkI G (mkR G B f) y.2.2.2 y.2.2.1 s i)).2 a 2 = _
            obtain ⟨x, hx⟩ : ∃ x, x = y.2.2.2.getD i 0 := ⟨_, rfl⟩
            obtain ⟨t, ht⟩ : ∃ t, t = bitN y.2.2.1 i := ⟨_, rfl⟩
            rw [← hx] at wd lt nn ⊢
            rw [← ht] at b2 nn ⊢
            by_cases hh : hasK G x t
            · rw [cG_t hh]
              unfold inK
              by_cases hI : InG G x
              · rw [cG_t hI, ih x t _ a b2 hI.and]; exact hi'
              · rw [cG_f hI]
                unfold ndO at nn
                rw [cG_f hI] at nn
                by_cases t0 : t = 0
                · rw [if_pos t0]
                  have gx : gFi G ≤ x := hh.resolve_right (fun k => k t0)
                  rw [ih x 0 _ a (by omega) ⟨gx, Wt_lt w wd.1, wd.1⟩]; exact hi'
                · rw [if_neg t0] at nn
                  exact absurd ei nn
            · rw [cG_f hh]; exact hi'
        exact key _ (Nat.le_refl _)
theorem tl_iff (w : WFG G) (wl : WFL B) (hr : rOK G B) (hv : lInv B = -1) : ∀ i, i ≤ nRt G → ((∃ n, (rtS G B i).2 n 2 ≠ -1) ↔ trlN G i) := by
  intro i
  induction i with
  | zero => exact fun _ => ⟨fun ⟨n, h⟩ => absurd rfl h, fun ⟨i, h, _⟩ => absurd h (Nat.not_lt_zero _)⟩
  | succ i ih =>
    intro hi
    have ihi := ih (by omega)
    have hp : isRt G (rtL G i / 2) := ⟨i, by omega, rfl⟩
    obtain ⟨v1, v2⟩ := rtS_ok w wl hr i (by omega)
    have es : rtS G B (i + 1) = rtR G B (rtL G i) (rtS G B i) := rfl
    rw [← trlN_s, es]
    obtain ⟨p, hpp⟩ : ∃ p, p = rtL G i := ⟨_, rfl⟩
    obtain ⟨s, hs⟩ : ∃ s, s = rtS G B i := ⟨_, rfl⟩
    rw [← hs] at ihi v1 ⊢
    rw [← hpp] at hp ⊢
    by_cases g : tlQ p
    · refine ⟨fun _ => .inr g, fun _ => ⟨p / 2, ?_⟩⟩
      obtain ⟨g1, g2⟩ := g
      unfold rtR lfR
      have hh : hasK G (p / 2) (p % 2) := .inr (by omega)
      have gd := rt_gd w hr hp (by omega) hh
      have e2 : inK G (p / 2) (p % 2) = 2 := by unfold inK; rw [cG_f (isRt_nI hp), if_neg (by omega)]
      rw [if_neg (by omega), cG_t hh]
      have := (mkR_ok w wl hr 5000 (p / 2) (inK G (p / 2) (p % 2)) s gd (rk_5 w (Wt_lt w (isRt_Wt hp))) v1).2.2.1
      rw [e2] at this ⊢
      exact this
    · have key : ∀ n, (rtR G B p s).2 n 2 = s.2 n 2 := by
        intro n
        unfold rtR lfR
        by_cases g2 : p < 2
        · rw [if_pos g2]
        · have e0 : p % 2 = 0 := by
            by_cases z : p % 2 = 0
            · exact z
            · exact (g ⟨by omega, by omega⟩).elim
          rw [if_neg g2, e0]
          by_cases hh : hasK G (p / 2) 0
          · have gx : gFi G ≤ p / 2 := hh.resolve_right (fun k => k rfl)
            have e2 : inK G (p / 2) 0 = 0 := by unfold inK; rw [cG_f (isRt_nI hp), if_pos rfl]
            rw [cG_t hh, e2, no2 w wl hr hv 5000 _ _ _ _ (by omega) ⟨gx, Wt_lt w (isRt_Wt hp), isRt_Wt hp⟩]
          · rw [cG_f hh]
      refine ⟨fun ⟨n, h⟩ => .inl (ihi.1 ⟨n, by rw [key] at h; exact h⟩), fun h => ?_⟩
      rcases h with h | h
      · obtain ⟨n, h'⟩ := ihi.2 h
        exact ⟨n, by rw [key]; exact h'⟩
      · exact (g h).elim
end TURNED
