/-! making gates: what holds of it -/
section GATES2
variable {G : Dsg} {B : Lib} {n k x t i tu f : Nat} {s : MkS} {l : List Nat} {run run' : Nat → Nat → MkS → MkS}
theorem bitN_2 : bitN tu i < 2 := by unfold bitN; split <;> omega
theorem way_inp (w : WFG G) (wl : WFL B) (hr : rOK G B) (hn : AndG G n) {y : Way} (h : WW G B n k = some y) : y.2.1 < liN B ∧ y.2.2.1 < 8 ∧ y.2.2.2.length = bI B y.2.1 ∧ y.2.2.2.length ≤ 3 ∧ 1 ≤ y.2.2.2.length ∧ ∀ i, i < y.2.2.2.length → WdG G (y.2.2.2.getD i 0) ∧ y.2.2.2.getD i 0 < n ∧ (hasK G (y.2.2.2.getD i 0) (bitN y.2.2.1 i) → GdK G B (y.2.2.2.getD i 0) (inK G (y.2.2.2.getD i 0) (bitN y.2.2.1 i))) := by
  obtain ⟨a1, a2, a3, a4, a5⟩ := WW_ok w wl n hn k y h
  have r := bI_rng wl a2
  refine ⟨a2, a3, a4, by omega, by omega, fun i hi => ?_⟩
  have m := a5 _ (getD_mem (d := 0) hi)
  exact ⟨m.1, m.2, fun g => GdK.inp w wl hr m.1 bitN_2 (WW_in w wl hn h i hi) g⟩
/-- a run that does what it shall, for items under a rank -/
def RunO (G : Dsg) (B : Lib) (run : Nat → Nat → MkS → MkS) (r : Nat) : Prop := ∀ n k s, GdK G B n k → rkK G B n k < r → MkV G s → MkV G (run n k s) ∧ MkLe s (run n k s) ∧ (run n k s).2 n k ≠ -1 ∧ ∀ a b, rkK G B n k < rkK G B a b → (run n k s).2 a b = s.2 a b
theorem inN_le {s' : MkS} (h : MkLe s s') (g : inN G s x t ≠ -1) : inN G s' x t = inN G s x t := by
  unfold inN at *
  by_cases q : InG G x
  · rw [cG_t q] at *; rw [cG_t q]; exact h.2 _ _ g
  · rw [cG_f q] at *; rw [cG_f q]
    by_cases z : t = 0
    · rw [if_pos z] at *; rw [if_pos z]
      by_cases y : gFi G ≤ x
      · rw [if_pos y] at *; rw [if_pos y]; exact h.2 _ _ g
      · rw [if_neg y, if_neg y]
    · rw [if_neg z] at *; rw [if_neg z]; exact h.2 _ _ g
/-- an input's net is its item's -/
theorem inN_it (ht : t < 2) (h : hasK G x t) : inN G s x t = s.2 x (inK G x t) := by
  unfold inN inK
  by_cases q : InG G x
  · rw [cG_t q, cG_t q]
  · rw [cG_f q, cG_f q]
    by_cases z : t = 0
    · rw [if_pos z, if_pos z, if_pos (h.resolve_right (fun k => k z))]
    · rw [if_neg z, if_neg z]
theorem inN_src (hx : WdG G x) (h : ¬ hasK G x t) : inN G s x t = (x : Int) - 1 ∧ inN G s x t ≠ -1 := by
  have a : ¬ gFi G ≤ x := fun g => h (.inl g)
  have b : t = 0 := Classical.byContradiction (fun g => h (.inr g))
  have e : inN G s x t = (x : Int) - 1 := by
    unfold inN
    rw [cG_f (fun q => a q.1), if_pos b, if_neg a]
  have := hx.2
  exact ⟨e, by rw [e]; omega⟩
theorem mkI_ok {r : Nat} (h : RunO G B run r) (hn : 4 * n ≤ r) (hl : ∀ i, i < l.length → WdG G (l.getD i 0) ∧ l.getD i 0 < n ∧ (hasK G (l.getD i 0) (bitN tu i) → GdK G B (l.getD i 0) (inK G (l.getD i 0) (bitN tu i)))) (hv : MkV G s) : ∀ i, i ≤ l.length → MkV G (mkI G run l tu s i) ∧ MkLe s (mkI G run l tu s i) ∧ (∀ j, j < i → inN G (mkI G run l tu s i) (l.getD j 0) (bitN tu j) ≠ -1) ∧ ∀ a b, 4 * n ≤ rkK G B a b → (mkI G run l tu s i).2 a b = s.2 a b := by
  intro i
  induction i with
  | zero => exact fun _ => ⟨hv, MkLe.refl, fun j hj => absurd hj (Nat.not_lt_zero _), fun _ _ _ => rfl⟩
  | succ i ih =>
    intro hi
    obtain ⟨a1, a2, a3, a4⟩ := ih (by omega)
    obtain ⟨h1, h2, h3⟩ := hl i (by omega)
    have e : mkI G run l tu s (i + 1) = cG (hasK G (l.getD i 0) (bitN tu i)) (run (l.getD i 0) (inK G (l.getD i 0) (bitN tu i)) (mkI G run l tu s i)) (mkI G run l tu s i) := rfl
    by_cases q : hasK G (l.getD i 0) (bitN tu i)
    · have e' : mkI G run l tu s (i + 1) = run (l.getD i 0) (inK G (l.getD i 0) (bitN tu i)) (mkI G run l tu s i) := by rw [e, cG_t q]
      have rk := inK_rk (G := G) (B := B) h2 (bitN_2 (tu := tu) (i := i))
      obtain ⟨b1, b2, b3, b4⟩ := h _ _ (mkI G run l tu s i) (h3 q) (by omega) a1
      rw [e']
      refine ⟨b1, a2.tr b2, fun j hj => ?_, fun a b g => (b4 a b (by omega)).trans (a4 a b g)⟩
      by_cases g : j = i
      · subst g; rw [inN_it bitN_2 q]; exact b3
      · rw [inN_le b2 (a3 j (by omega))]; exact a3 j (by omega)
    · have e' : mkI G run l tu s (i + 1) = mkI G run l tu s i := by rw [e, cG_f q]
      rw [e']
      refine ⟨a1, a2, fun j hj => ?_, a4⟩
      by_cases g : j = i
      · subst g; exact (inN_src h1 q).2
      · exact a3 j (by omega)
theorem mkI_len {r : Nat} (h : RunO G B run r) (hn : 4 * n ≤ r) (hl : ∀ i, i < l.length → WdG G (l.getD i 0) ∧ l.getD i 0 < n ∧ (hasK G (l.getD i 0) (bitN tu i) → GdK G B (l.getD i 0) (inK G (l.getD i 0) (bitN tu i)))) (hv : MkV G s) : ∀ j i, i ≤ j → j ≤ l.length → MkLe (mkI G run l tu s i) (mkI G run l tu s j) := by
  intro j
  induction j with
  | zero => intro i hi _; have : i = 0 := by omega
            subst this; exact MkLe.refl
  | succ j ih =>
    intro i hi hj
    by_cases g : i = j + 1
    · subst g; exact MkLe.refl
    · refine (ih i (by omega) (by omega)).tr ?_
      obtain ⟨a1, a2, a3, a4⟩ := mkI_ok h hn hl hv j (by omega)
      obtain ⟨h1, h2, h3⟩ := hl j (by omega)
      show MkLe _ (cG _ _ _)
      by_cases q : hasK G (l.getD j 0) (bitN tu j)
      · rw [cG_t q]
        have rk := inK_rk (G := G) (B := B) h2 (bitN_2 (tu := tu) (i := j))
        exact (h _ _ _ (h3 q) (by omega) a1).2.1
      · rw [cG_f q]; exact MkLe.refl
theorem mkF_stay (q : s.2 n k ≠ -1) : mkF G B run n k s = s := if_pos q
theorem mkF_2 (q : s.2 n 2 = -1) : mkF G B run n 2 s = mkA G (if gFi G ≤ n then run n 0 s else s) n 2 (lInv B, (if gFi G ≤ n then (run n 0 s).2 n 0 else (n : Int) - 1), -1, -1) := by
  unfold mkF; rw [if_neg (fun g => g q), if_pos rfl]
theorem mkF_trn (q : s.2 n k = -1) (k2 : k ≠ 2) (z : trn G B n k) : mkF G B run n k s = mkA G (run n (1 - k) s) n k (lInv B, (run n (1 - k) s).2 n (1 - k), -1, -1) := by
  unfold mkF; rw [if_neg (fun g => g q), if_neg k2, cG_t z]
theorem mkF_way (q : s.2 n k = -1) (k2 : k ≠ 2) (z : ¬ trn G B n k) {y : Way} (hy : WW G B n k = some y) : mkF G B run n k s = mkA G (mkI G run y.2.2.2 y.2.2.1 s y.2.2.2.length) n k ((y.2.1 : Int), inX G (mkI G run y.2.2.2 y.2.2.1 s y.2.2.2.length) y.2.2.2 y.2.2.1 0, inX G (mkI G run y.2.2.2 y.2.2.1 s y.2.2.2.length) y.2.2.2 y.2.2.1 1, inX G (mkI G run y.2.2.2 y.2.2.1 s y.2.2.2.length) y.2.2.2 y.2.2.1 2) := by
  unfold mkF; rw [if_neg (fun g => g q), if_neg k2, cG_f z, hy]
theorem rk0_le : rkK G B n 0 ≤ 4 * n + 1 := by
  have := bo_le (p := trn G B n 0)
  show 4 * n + bo (trn G B n 0) ≤ _
  omega
theorem rk_trn (k2 : k ≠ 2) (z : trn G B n k) : rkK G B n k = 4 * n + 1 := by unfold rkK; rw [if_neg k2, bo_t z]
theorem rk_way (k2 : k ≠ 2) (z : ¬ trn G B n k) : rkK G B n k = 4 * n := by unfold rkK; rw [if_neg k2, bo_f z]; rfl
theorem mkF_ok (w : WFG G) (wl : WFL B) (hr : rOK G B) {r : Nat} (h : RunO G B run r) : RunO G B (mkF G B run) (r + 1) := by
  intro n k s hg hk hv
  by_cases q : s.2 n k = -1
  case neg =>
    have e : mkF G B run n k s = s := if_pos q
    rw [e]
    exact ⟨hv, MkLe.refl, q, fun _ _ _ => rfl⟩
  case pos =>
    have nn : ∀ {s' : MkS} {g : Int × Int × Int × Int}, (mkA G s' n k g).2 n k ≠ -1 := fun {s' g} => by
      rw [mkA_net]; unfold gFi; omega
    have fin : ∀ {s' : MkS} {g : Int × Int × Int × Int}, mkF G B run n k s = mkA G s' n k g → MkV G s' → MkLe s s' → (∀ a b, rkK G B n k ≤ rkK G B a b → s'.2 a b = s.2 a b) → MkV G (mkF G B run n k s) ∧ MkLe s (mkF G B run n k s) ∧ (mkF G B run n k s).2 n k ≠ -1 ∧ ∀ a b, rkK G B n k < rkK G B a b → (mkF G B run n k s).2 a b = s.2 a b := fun {s' g} e v le o => by
      rw [e]
      refine ⟨v.add, le.tr (MkLe.add (by rw [o _ _ (Nat.le_refl _)]; exact q)), nn, fun a b g => ?_⟩
      rw [mkA_oth (fun e => by rw [e.1, e.2] at g; omega)]
      exact o a b (by omega)
    by_cases k2 : k = 2
    · subst k2
      have e : mkF G B run n 2 s = mkA G (if gFi G ≤ n then run n 0 s else s) n 2 (lInv B, (if gFi G ≤ n then (run n 0 s).2 n 0 else (n : Int) - 1), -1, -1) := by
        unfold mkF; rw [if_neg (fun g => g q), if_pos rfl]
      obtain ⟨_, h1, h2⟩ := hg.resolve_left (fun g => by omega)
      have e2 : rkK G B n 2 = 4 * n + 2 := rfl
      by_cases z : gFi G ≤ n
      · rw [if_pos z] at e
        have xa : AndG G n := ⟨z, Wt_lt w h1.1, h1.1⟩
        have xr : Rt G n := Classical.byContradiction (fun r => h2 ⟨z, Wt_lt w h1.1, h1.1, r⟩)
        have rk : rkK G B n 0 ≤ 4 * n + 1 := rk0_le
        obtain ⟨b1, b2, b3, b4⟩ := h n 0 s (.inl ⟨by omega, xa, .inr (.inl rfl), hr n xa xr⟩) (by omega) hv
        exact fin e b1 b2 (fun a b g => b4 a b (by omega))
      · rw [if_neg z] at e
        exact fin e hv MkLe.refl (fun _ _ _ => rfl)
    · obtain ⟨h0, h1, h2, h3⟩ := hg.resolve_right (fun g => k2 g.1)
      have hg' : GdK G B n k := .inl ⟨h0, h1, h2, h3⟩
      by_cases z : trn G B n k
      · have e : mkF G B run n k s = mkA G (run n (1 - k) s) n k (lInv B, (run n (1 - k) s).2 n (1 - k), -1, -1) := by
          unfold mkF; rw [if_neg (fun g => g q), if_neg k2, cG_t z]
        have e1 : rkK G B n (1 - k) = 4 * n := by unfold rkK; rw [if_neg (by omega), bo_f (trn_not h0 z)]; rfl
        have e2 : rkK G B n k = 4 * n + 1 := by unfold rkK; rw [if_neg k2, bo_t z]
        obtain ⟨b1, b2, b3, b4⟩ := h n (1 - k) s (hg'.turn h0 z) (by omega) hv
        exact fin e b1 b2 (fun a b g => b4 a b (by omega))
      · obtain ⟨y, hy⟩ := ndR_way h3 z
        have e : mkF G B run n k s = mkA G (mkI G run y.2.2.2 y.2.2.1 s y.2.2.2.length) n k ((y.2.1 : Int), inX G (mkI G run y.2.2.2 y.2.2.1 s y.2.2.2.length) y.2.2.2 y.2.2.1 0, inX G (mkI G run y.2.2.2 y.2.2.1 s y.2.2.2.length) y.2.2.2 y.2.2.1 1, inX G (mkI G run y.2.2.2 y.2.2.1 s y.2.2.2.length) y.2.2.2 y.2.2.1 2) := by
          unfold mkF; rw [if_neg (fun g => g q), if_neg k2, cG_f z, hy]
        have e2 : rkK G B n k = 4 * n := by unfold rkK; rw [if_neg k2, bo_f z]; rfl
        obtain ⟨a1, a2, a3, a4, a5, a6⟩ := way_inp w wl hr h1 hy
        obtain ⟨b1, b2, b3, b4⟩ := mkI_ok h (n := n) (by omega) a6 hv _ (Nat.le_refl _)
        exact fin e b1 b2 (fun a b g => b4 a b (by omega))
theorem mkR_ok (w : WFG G) (wl : WFL B) (hr : rOK G B) : ∀ f, RunO G B (mkR G B f) f := by
  intro f
  induction f with
  | zero => exact fun n k s _ h _ => absurd h (Nat.not_lt_zero _)
  | succ f ih => exact mkF_ok w wl hr ih
/-- fuel is no matter -/
theorem mkF_cg (w : WFG G) (wl : WFL B) (hr : rOK G B) {r : Nat} (h : RunO G B run r) (e : ∀ n k s, GdK G B n k → rkK G B n k < r → MkV G s → run n k s = run' n k s) : ∀ n k s, GdK G B n k → rkK G B n k < r + 1 → MkV G s → mkF G B run n k s = mkF G B run' n k s := by
  intro n k s hg hk hv
  by_cases q : s.2 n k = -1
  case neg => rw [mkF_stay q, mkF_stay q]
  case pos =>
    by_cases k2 : k = 2
    · subst k2
      rw [mkF_2 q, mkF_2 q]
      obtain ⟨_, h1, h2⟩ := hg.resolve_left (fun g => by omega)
      by_cases z : gFi G ≤ n
      · have xa : AndG G n := ⟨z, Wt_lt w h1.1, h1.1⟩
        have xr : Rt G n := Classical.byContradiction (fun r => h2 ⟨z, Wt_lt w h1.1, h1.1, r⟩)
        have e2 : rkK G B n 2 = 4 * n + 2 := rfl
        have rk : rkK G B n 0 ≤ 4 * n + 1 := rk0_le
        rw [if_pos z, if_pos z, if_pos z, if_pos z, e n 0 s (.inl ⟨by omega, xa, .inr (.inl rfl), hr n xa xr⟩) (by omega) hv]
      · rw [if_neg z, if_neg z, if_neg z, if_neg z]
    · obtain ⟨h0, h1, h2, h3⟩ := hg.resolve_right (fun g => k2 g.1)
      have hg' : GdK G B n k := .inl ⟨h0, h1, h2, h3⟩
      by_cases z : trn G B n k
      · have e1 : rkK G B n (1 - k) = 4 * n := by unfold rkK; rw [if_neg (by omega), bo_f (trn_not h0 z)]; rfl
        have e2 : rkK G B n k = 4 * n + 1 := by unfold rkK; rw [if_neg k2, bo_t z]
        rw [mkF_trn q k2 z, mkF_trn q k2 z, e n (1 - k) s (hg'.turn h0 z) (by omega) hv]
      · obtain ⟨y, hy⟩ := ndR_way h3 z
        have e2 : rkK G B n k = 4 * n := by unfold rkK; rw [if_neg k2, bo_f z]; rfl
        obtain ⟨a1, a2, a3, a4, a5, a6⟩ := way_inp w wl hr h1 hy
        have ei : ∀ i, i ≤ y.2.2.2.length → mkI G run y.2.2.2 y.2.2.1 s i = mkI G run' y.2.2.2 y.2.2.1 s i := by
          intro i
          induction i with
          | zero => exact fun _ => rfl
          | succ i ih =>
            intro hi
            have ok := mkI_ok h (n := n) (by omega) a6 hv i (by omega)
            obtain ⟨c1, c2, c3⟩ := a6 i (by omega)
            have rk := inK_rk (G := G) (B := B) c2 (bitN_2 (tu := y.2.2.1) (i := i))
            show cG _ _ _ = cG _ _ _
            rw [← ih (by omega)]
            by_cases g : hasK G (y.2.2.2.getD i 0) (bitN y.2.2.1 i)
            · rw [cG_t g, cG_t g, e _ _ _ (c3 g) (by omega) ok.1]
            · rw [cG_f g, cG_f g]
        rw [mkF_way q k2 z hy, mkF_way q k2 z hy, ei _ (Nat.le_refl _)]
theorem mkR_irr (w : WFG G) (wl : WFL B) (hr : rOK G B) : ∀ f, ∀ n k s, GdK G B n k → rkK G B n k < f → MkV G s → mkR G B f n k s = mkR G B (f + 1) n k s := by
  intro f
  induction f with
  | zero => exact fun n k s _ h _ => absurd h (Nat.not_lt_zero _)
  | succ f ih => exact mkF_cg w wl hr (mkR_ok w wl hr f) ih
end GATES2
