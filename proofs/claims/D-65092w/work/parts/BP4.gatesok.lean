/-! gates that are made are in order -/
def gtO (G : Dsg) (B : Lib) (q : Int × Int × Int × Int) (g : Nat) : Prop :=
  (0 ≤ q.1 ∧ q.1 < (liN B : Int)) ∧ (q.2.1 = -1 ∨ (0 ≤ q.2.1 ∧ q.2.1 < (gFi G : Int) - 1 + (g : Int))) ∧ (q.2.2.1 = -1 ∨ (0 ≤ q.2.2.1 ∧ q.2.2.1 < (gFi G : Int) - 1 + (g : Int))) ∧ (q.2.2.2 = -1 ∨ (0 ≤ q.2.2.2 ∧ q.2.2.2 < (gFi G : Int) - 1 + (g : Int))) ∧
  (0 < bI B q.1.toNat → q.2.1 ≠ -1) ∧ (1 < bI B q.1.toNat → q.2.2.1 ≠ -1) ∧ (2 < bI B q.1.toNat → q.2.2.2 ≠ -1)
def GtW (G : Dsg) (B : Lib) (L : List (Int × Int × Int × Int)) : Prop := ∀ g, g < L.length → gtO G B (L.getD g (0, 0, 0, 0)) g
section GATESOK
variable {G : Dsg} {B : Lib} {n i k l p x t tu : Nat} {s : MkS}
theorem GtW.add {L : List (Int × Int × Int × Int)} {q : Int × Int × Int × Int} (h : GtW G B L) (g : gtO G B q L.length) : GtW G B (L ++ [q]) := fun i hi => by
  rw [List.length_append] at hi
  by_cases e : i < L.length
  · have e' : (L ++ [q]).getD i (0, 0, 0, 0) = L.getD i (0, 0, 0, 0) := by
      rw [List.getD_eq_getElem?_getD, List.getD_eq_getElem?_getD, List.getElem?_append_left e]
    rw [e']; exact h i e
  · have e1 : i = L.length := by have : [q].length = 1 := rfl; omega
    subst e1
    have e' : (L ++ [q]).getD L.length (0, 0, 0, 0) = q := by
      rw [List.getD_eq_getElem?_getD, List.getElem?_append_right (Nat.le_refl _), Nat.sub_self]; rfl
    rw [e']; exact g
theorem lInvN_1 : ∀ n, lInvN B n ≠ -1 → B 1 (lInvN B n).toNat = 1 := by
  intro n
  induction n with
  | zero => exact fun h => absurd rfl h
  | succ n ih =>
    intro h
    have hs : lInvN B (n + 1) = if B 1 n = 1 ∧ B 2 n = 1 ∧ (lInvN B n = -1 ∨ B 3 n < B 3 (lInvN B n).toNat) then (n : Int) else lInvN B n := rfl
    rw [hs] at h ⊢
    by_cases g : B 1 n = 1 ∧ B 2 n = 1 ∧ (lInvN B n = -1 ∨ B 3 n < B 3 (lInvN B n).toNat)
    · rw [if_pos g, Int.toNat_natCast]; exact g.1
    · rw [if_neg g] at h ⊢; exact ih h
theorem inv_gt (wl : WFL B) (h : lInv B ≠ -1) {v : Int} (hv : 0 ≤ v) {g : Nat} (hv2 : v < (gFi G : Int) - 1 + (g : Int)) : gtO G B (lInv B, v, -1, -1) g := by
  have r' : -1 ≤ lInv B ∧ lInv B < (liN B : Int) := lInvN_rng (B := B) (n := liN B)
  have e1 : B 1 (lInv B).toNat = 1 := lInvN_1 _ h
  have b1 : bI B (lInv B).toNat = 1 := by unfold bI; rw [e1]; rfl
  refine ⟨⟨by show 0 ≤ lInv B; omega, r'.2⟩, .inr ⟨hv, hv2⟩, .inl rfl, .inl rfl, fun _ => by show v ≠ -1; omega, fun q => ?_, fun q => ?_⟩
  · have q' : 1 < bI B (lInv B).toNat := q
    omega
  · have q' : 2 < bI B (lInv B).toNat := q
    omega
theorem inN_w (w : WFG G) (hv : MkV G s) (hx : WdG G x) (hne : inN G s x t ≠ -1) : 0 ≤ inN G s x t ∧ inN G s x t < (gFi G : Int) - 1 + (s.1.length : Int) := by
  have e : gFi G = 1 + gIn G + gSt G := rfl
  have a : ∀ n k, s.2 n k ≠ -1 → 0 ≤ s.2 n k ∧ s.2 n k < (gFi G : Int) - 1 + (s.1.length : Int) := fun n k q => by
    rcases hv n k with g | g
    · exact (q g).elim
    · omega
  have xp := hx.2
  unfold inN at hne ⊢
  by_cases q : InG G x
  · rw [cG_t q] at hne ⊢; exact a _ _ hne
  · rw [cG_f q] at hne ⊢
    by_cases z : t = 0
    · rw [if_pos z] at hne ⊢
      by_cases y : gFi G ≤ x
      · rw [if_pos y] at hne ⊢; exact a _ _ hne
      · rw [if_neg y]; omega
    · rw [if_neg z] at hne ⊢; exact a _ _ hne
theorem way_no2 (w : WFG G) (wl : WFL B) (hv : lInv B = -1) (hn : AndG G n) {y : Way} (hy : WW G B n k = some y) (hi : i < y.2.2.2.length) : inK G (y.2.2.2.getD i 0) (bitN y.2.2.1 i) < 2 := by
  have ei : invO B = none := if_pos hv
  have nn := WW_in w wl hn hy i hi
  have b2 := bitN_2 (tu := y.2.2.1) (i := i)
  generalize y.2.2.2.getD i 0 = x at nn ⊢
  generalize bitN y.2.2.1 i = t at nn b2 ⊢
  unfold inK
  by_cases hI : InG G x
  · rw [cG_t hI]; exact b2
  · rw [cG_f hI]
    unfold ndO at nn
    rw [cG_f hI] at nn
    by_cases t0 : t = 0
    · rw [if_pos t0]; omega
    · rw [if_neg t0] at nn
      exact absurd ei nn
def RunG (G : Dsg) (B : Lib) (run : Nat → Nat → MkS → MkS) (r : Nat) : Prop := ∀ n k s, GdK G B n k → rkK G B n k < r → (lInv B = -1 → k < 2) → MkV G s → GtW G B s.1 → GtW G B (run n k s).1
theorem gtF (w : WFG G) (wl : WFL B) (hr : rOK G B) {run : Nat → Nat → MkS → MkS} {r : Nat} (h : RunO G B run r) (h' : RunG G B run r) : RunG G B (mkF G B run) (r + 1) := by
  intro n k s hg hk hi hv ht
  by_cases q : s.2 n k = -1
  case neg => rw [mkF_stay q]; exact ht
  case pos =>
    have vr : ∀ {s' : MkS} {a b : Nat}, MkV G s' → s'.2 a b ≠ -1 → 0 ≤ s'.2 a b ∧ s'.2 a b < (gFi G : Int) - 1 + (s'.1.length : Int) := fun {s' a b} v q => by
      have e : gFi G = 1 + gIn G + gSt G := rfl
      rcases v a b with g | g
      · exact (q g).elim
      · omega
    by_cases k2 : k = 2
    · subst k2
      have lv : lInv B ≠ -1 := fun e => by have := hi e; omega
      obtain ⟨_, h1, h2⟩ := hg.resolve_left (fun g => by omega)
      have e2 : rkK G B n 2 = 4 * n + 2 := rfl
      rw [mkF_2 q]
      by_cases z : gFi G ≤ n
      · rw [if_pos z, if_pos z]
        have xa : AndG G n := ⟨z, Wt_lt w h1.1, h1.1⟩
        have xr : Rt G n := Classical.byContradiction (fun r => h2 ⟨z, Wt_lt w h1.1, h1.1, r⟩)
        have rk : rkK G B n 0 ≤ 4 * n + 1 := rk0_le
        have gd : GdK G B n 0 := .inl ⟨by omega, xa, .inr (.inl rfl), hr n xa xr⟩
        obtain ⟨b1, b2, b3, b4⟩ := h n 0 s gd (by omega) hv
        obtain ⟨u1, u2⟩ := vr b1 b3
        exact (h' n 0 s gd (by omega) (fun _ => by omega) hv ht).add (inv_gt wl lv u1 u2)
      · rw [if_neg z, if_neg z]
        have xp := h1.2
        exact ht.add (inv_gt wl lv (by omega) (by omega))
    · obtain ⟨h0, h1, h2, h3⟩ := hg.resolve_right (fun g => k2 g.1)
      have hg' : GdK G B n k := .inl ⟨h0, h1, h2, h3⟩
      by_cases z : trn G B n k
      · have lv : lInv B ≠ -1 := fun e => by
          obtain ⟨v, _, e', _⟩ := trn_some z
          exact e' (if_pos e)
        have e1 : rkK G B n (1 - k) = 4 * n := by unfold rkK; rw [if_neg (by omega), bo_f (trn_not h0 z)]; rfl
        have e2 : rkK G B n k = 4 * n + 1 := by unfold rkK; rw [if_neg k2, bo_t z]
        have gd := hg'.turn h0 z
        obtain ⟨b1, b2, b3, b4⟩ := h n (1 - k) s gd (by omega) hv
        obtain ⟨u1, u2⟩ := vr b1 b3
        rw [mkF_trn q k2 z]
        exact (h' n (1 - k) s gd (by omega) (fun _ => by omega) hv ht).add (inv_gt wl lv u1 u2)
      · obtain ⟨y, hy⟩ := ndR_way h3 z
        have e2 : rkK G B n k = 4 * n := by unfold rkK; rw [if_neg k2, bo_f z]; rfl
        obtain ⟨a1, a2, a3, a4, a5, a6⟩ := way_inp w wl hr h1 hy
        have key : ∀ i, i ≤ y.2.2.2.length → GtW G B (mkI G run y.2.2.2 y.2.2.1 s i).1 := by
          intro i
          induction i with
          | zero => exact fun _ => ht
          | succ i ih =>
            intro hi2
            have ih' := ih (by omega)
            obtain ⟨c1, c2, c3, c4⟩ := mkI_ok h (n := n) (by omega) a6 hv i (by omega)
            obtain ⟨g1, g2, g3⟩ := a6 i (by omega)
            have rk := inK_rk (G := G) (B := B) g2 (bitN_2 (tu := y.2.2.1) (i := i))
            show GtW G B (cG (hasK G (y.2.2.2.getD i 0) (bitN y.2.2.1 i)) (run (y.2.2.2.getD i 0) (inK G (y.2.2.2.getD i 0) (bitN y.2.2.1 i)) (mkI G run y.2.2.2 y.2.2.1 s i)) (mkI G run y.2.2.2 y.2.2.1 s i)).1
            by_cases hh : hasK G (y.2.2.2.getD i 0) (bitN y.2.2.1 i)
            · rw [cG_t hh]
              exact h' _ _ _ (g3 hh) (by omega) (fun e => way_no2 w wl e h1 hy (by omega)) c1 ih'
            · rw [cG_f hh]; exact ih'
        obtain ⟨b1, b2, b3, b4⟩ := mkI_ok h (n := n) (by omega) a6 hv _ (Nat.le_refl _)
        have gt := key _ (Nat.le_refl _)
        rw [mkF_way q k2 z hy]
        generalize mkI G run y.2.2.2 y.2.2.1 s y.2.2.2.length = s' at *
        have xx : ∀ j, (inX G s' y.2.2.2 y.2.2.1 j = -1 ∨ (0 ≤ inX G s' y.2.2.2 y.2.2.1 j ∧ inX G s' y.2.2.2 y.2.2.1 j < (gFi G : Int) - 1 + (s'.1.length : Int))) ∧ (j < y.2.2.2.length → inX G s' y.2.2.2 y.2.2.1 j ≠ -1) := fun j => by
          unfold inX
          by_cases g : j < y.2.2.2.length
          · rw [if_pos g]
            have ne := b3 j g
            exact ⟨.inr (inN_w w b1 (a6 j g).1 ne), fun _ => ne⟩
          · rw [if_neg g]; exact ⟨.inl rfl, fun q => (g q).elim⟩
        refine gt.add ⟨⟨by show (0 : Int) ≤ (y.2.1 : Int); omega, by show (y.2.1 : Int) < _; omega⟩, (xx 0).1, (xx 1).1, (xx 2).1, fun g => (xx 0).2 ?_, fun g => (xx 1).2 ?_, fun g => (xx 2).2 ?_⟩
        · have g' : 0 < bI B (y.2.1 : Int).toNat := g
          rw [Int.toNat_natCast] at g'; omega
        · have g' : 1 < bI B (y.2.1 : Int).toNat := g
          rw [Int.toNat_natCast] at g'; omega
        · have g' : 2 < bI B (y.2.1 : Int).toNat := g
          rw [Int.toNat_natCast] at g'; omega
theorem gtR (w : WFG G) (wl : WFL B) (hr : rOK G B) : ∀ f, RunG G B (mkR G B f) f := by
  intro f
  induction f with
  | zero => exact fun n k s _ h => absurd h (Nat.not_lt_zero _)
  | succ f ih => exact gtF w wl hr (mkR_ok w wl hr f) ih
theorem gtS (w : WFG G) (wl : WFL B) (hr : rOK G B) (hn : ¬ (lInv B = -1 ∧ trlN G (nRt G))) : ∀ i, i ≤ nRt G → GtW G B (rtS G B i).1 := by
  intro i
  induction i with
  | zero => exact fun _ g hg => absurd hg (Nat.not_lt_zero _)
  | succ i ih =>
    intro hi
    have ihi := ih (by omega)
    have hp : isRt G (rtL G i / 2) := ⟨i, by omega, rfl⟩
    obtain ⟨v1, v2⟩ := rtS_ok w wl hr i (by omega)
    show GtW G B (rtR G B (rtL G i) (rtS G B i)).1
    unfold rtR lfR
    by_cases g2 : rtL G i < 2
    · rw [if_pos g2]; exact ihi
    · rw [if_neg g2]
      by_cases hh : hasK G (rtL G i / 2) (rtL G i % 2)
      · rw [cG_t hh]
        refine gtR w wl hr 5000 _ _ _ (rt_gd w hr hp (by omega) hh) (rk_5 w (Wt_lt w (isRt_Wt hp))) (fun e => ?_) v1 ihi
        have nt : ¬ tlQ (rtL G i) := fun t => hn ⟨e, i, by omega, t⟩
        unfold inK
        rw [cG_f (isRt_nI hp)]
        by_cases z : rtL G i % 2 = 0
        · rw [if_pos z]; omega
        · exact (nt ⟨by omega, by omega⟩).elim
      · rw [cG_f hh]; exact ihi
/-- a root's net -/
theorem rtN_w (w : WFG G) (wl : WFL B) (hr : rOK G B) (hi : i < nRt G) : -2 ≤ rtN G (rtS G B (i + 1)) (rtL G i) ∧ rtN G (rtS G B (i + 1)) (rtL G i) < (gFi G : Int) - 1 + ((rtS G B (nRt G)).1.length : Int) := by
  have e13 : gFi G = 1 + gIn G + gSt G := rfl
  have hp : isRt G (rtL G i / 2) := ⟨i, by omega, rfl⟩
  obtain ⟨v1, v2⟩ := rtS_ok w wl hr i (by omega)
  obtain ⟨u1, u2⟩ := rtS_ok w wl hr (i + 1) (by omega)
  have mono := ((rtS_ok w wl hr (nRt G) (Nat.le_refl _)).2 (i + 1) (by omega)).len
  have es : rtS G B (i + 1) = rtR G B (rtL G i) (rtS G B i) := rfl
  unfold rtN
  by_cases g2 : rtL G i < 2
  · rw [if_pos g2]; omega
  · rw [if_neg g2]
    have wd : WdG G (rtL G i / 2) := ⟨isRt_Wt hp, by omega⟩
    have ne : inN G (rtS G B (i + 1)) (rtL G i / 2) (rtL G i % 2) ≠ -1 := by
      by_cases hh : hasK G (rtL G i / 2) (rtL G i % 2)
      · rw [inN_it (by omega) hh, es]
        unfold rtR lfR
        rw [if_neg g2, cG_t hh]
        exact (mkR_ok w wl hr 5000 _ _ _ (rt_gd w hr hp (by omega) hh) (rk_5 w (Wt_lt w (isRt_Wt hp))) v1).2.2.1
      · exact (inN_src wd hh).2
    have := inN_w w u1 wd ne
    omega
end GATESOK
