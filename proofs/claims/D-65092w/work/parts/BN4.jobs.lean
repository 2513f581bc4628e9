/-! jobs: the gates by a stack -/
noncomputable def RR (G : Dsg) (B : Lib) : Nat → Nat → MkS → MkS := mkR G B 5000
noncomputable def mkD (G : Dsg) (B : Lib) : List (Nat × Nat) → MkS → MkS
  | [], s => s
  | p :: L, s => mkD G B L (RR G B p.1 p.2 s)
noncomputable def missN (G : Dsg) (s : MkS) : Nat := smN (fun n => bo (s.2 n 0 = -1) + bo (s.2 n 1 = -1) + bo (s.2 n 2 = -1)) (gNo G)
section JOBS
variable {G : Dsg} {B : Lib} {n k x t i j tu f : Nat} {s : MkS} {l : List Nat}
theorem RR_stay (h : s.2 n k ≠ -1) : RR G B n k s = s := mkF_stay h
theorem RR_eq (w : WFG G) (wl : WFL B) (hr : rOK G B) (hg : GdK G B n k) (hk : rkK G B n k < 5000) (hv : MkV G s) : RR G B n k s = mkF G B (RR G B) n k s := mkR_irr w wl hr 5000 n k s hg hk hv
theorem RR_ok (w : WFG G) (wl : WFL B) (hr : rOK G B) (hg : GdK G B n k) (hk : rkK G B n k < 5000) (hv : MkV G s) : MkV G (RR G B n k s) ∧ MkLe s (RR G B n k s) ∧ (RR G B n k s).2 n k ≠ -1 ∧ ∀ a b, rkK G B n k < rkK G B a b → (RR G B n k s).2 a b = s.2 a b := mkR_ok w wl hr 5000 n k s hg hk hv
theorem den_trn (w : WFG G) (wl : WFL B) (hr : rOK G B) (hg : GdK G B n k) (hk : rkK G B n k < 5000) (hv : MkV G s) (h2 : k < 2) (q : s.2 n k = -1) (z : trn G B n k) : RR G B n k (RR G B n (1 - k) s) = RR G B n k s := by
  have gd := hg.turn h2 z
  have e2 := rk_trn (G := G) (B := B) (show k ≠ 2 by omega) z
  have e1 := rk_way (G := G) (B := B) (n := n) (k := 1 - k) (by omega) (trn_not h2 z)
  obtain ⟨v1, v2, v3, v4⟩ := RR_ok w wl hr gd (by omega) hv
  have q' : (RR G B n (1 - k) s).2 n k = -1 := by rw [v4 _ _ (by omega)]; exact q
  rw [RR_eq w wl hr hg hk v1, RR_eq w wl hr hg hk hv, mkF_trn q' (by omega) z, mkF_trn q (by omega) z, RR_stay v3]
theorem mk_trn (w : WFG G) (wl : WFL B) (hr : rOK G B) (hg : GdK G B n k) (hk : rkK G B n k < 5000) (hv : MkV G s) (h2 : k < 2) (q : s.2 n k = -1) (z : trn G B n k) (d : s.2 n (1 - k) ≠ -1) : RR G B n k s = mkA G s n k (lInv B, s.2 n (1 - k), -1, -1) := by
  rw [RR_eq w wl hr hg hk hv, mkF_trn q (by omega) z, RR_stay d]
theorem den_lf (w : WFG G) (wl : WFL B) (hr : rOK G B) (hg : GdK G B n 2) (hk : rkK G B n 2 < 5000) (hv : MkV G s) (q : s.2 n 2 = -1) (z : gFi G ≤ n) (gd : GdK G B n 0) : RR G B n 2 (RR G B n 0 s) = RR G B n 2 s := by
  have e2 : rkK G B n 2 = 4 * n + 2 := rfl
  have e1 := rk0_le (G := G) (B := B) (n := n)
  obtain ⟨v1, v2, v3, v4⟩ := RR_ok w wl hr gd (by omega) hv
  have q' : (RR G B n 0 s).2 n 2 = -1 := by rw [v4 _ _ (by omega)]; exact q
  rw [RR_eq w wl hr hg hk v1, RR_eq w wl hr hg hk hv, mkF_2 q', mkF_2 q, if_pos z, if_pos z, if_pos z, if_pos z, RR_stay v3]
theorem mk_lf (w : WFG G) (wl : WFL B) (hr : rOK G B) (hg : GdK G B n 2) (hk : rkK G B n 2 < 5000) (hv : MkV G s) (q : s.2 n 2 = -1) (d : gFi G ≤ n → s.2 n 0 ≠ -1) : RR G B n 2 s = mkA G s n 2 (lInv B, (if gFi G ≤ n then s.2 n 0 else (n : Int) - 1), -1, -1) := by
  rw [RR_eq w wl hr hg hk hv, mkF_2 q]
  by_cases z : gFi G ≤ n
  · rw [if_pos z, if_pos z, if_pos z, RR_stay (d z)]
  · rw [if_neg z, if_neg z, if_neg z]
theorem mkI_stay : ∀ i, (∀ j, j < i → hasK G (l.getD j 0) (bitN tu j) → s.2 (l.getD j 0) (inK G (l.getD j 0) (bitN tu j)) ≠ -1) → mkI G (RR G B) l tu s i = s := by
  intro i
  induction i with
  | zero => exact fun _ => rfl
  | succ i ih =>
    intro h
    show cG _ _ _ = _
    rw [ih (fun j hj => h j (by omega))]
    by_cases q : hasK G (l.getD i 0) (bitN tu i)
    · rw [cG_t q, RR_stay (h i (by omega) q)]
    · rw [cG_f q]
theorem den_way (w : WFG G) (wl : WFL B) (hr : rOK G B) (hg : GdK G B n k) (hk : rkK G B n k < 5000) (hv : MkV G s) (h2 : k < 2) (q : s.2 n k = -1) (z : ¬ trn G B n k) {y : Way} (hy : WW G B n k = some y) (hn : AndG G n) (hj : j < y.2.2.2.length) (h : ∀ i, i < j → hasK G (y.2.2.2.getD i 0) (bitN y.2.2.1 i) → s.2 (y.2.2.2.getD i 0) (inK G (y.2.2.2.getD i 0) (bitN y.2.2.1 i)) ≠ -1) (hh : hasK G (y.2.2.2.getD j 0) (bitN y.2.2.1 j)) : RR G B n k (RR G B (y.2.2.2.getD j 0) (inK G (y.2.2.2.getD j 0) (bitN y.2.2.1 j)) s) = RR G B n k s := by
  obtain ⟨a1, a2, a3, a4, a5, a6⟩ := way_inp w wl hr hn hy
  have e2 := rk_way (G := G) (B := B) (show k ≠ 2 by omega) z
  obtain ⟨c1, c2, c3⟩ := a6 j hj
  have rk := inK_rk (G := G) (B := B) c2 (bitN_2 (tu := y.2.2.1) (i := j))
  obtain ⟨v1, v2, v3, v4⟩ := RR_ok w wl hr (c3 hh) (by omega) hv
  have e1 : mkI G (RR G B) y.2.2.2 y.2.2.1 s (j + 1) = RR G B (y.2.2.2.getD j 0) (inK G (y.2.2.2.getD j 0) (bitN y.2.2.1 j)) s := by
    show cG _ _ _ = _
    rw [cG_t hh, mkI_stay j h]
  have q' : (RR G B (y.2.2.2.getD j 0) (inK G (y.2.2.2.getD j 0) (bitN y.2.2.1 j)) s).2 n k = -1 := by rw [v4 _ _ (by omega)]; exact q
  have ei : ∀ i, j + 1 ≤ i → mkI G (RR G B) y.2.2.2 y.2.2.1 (RR G B (y.2.2.2.getD j 0) (inK G (y.2.2.2.getD j 0) (bitN y.2.2.1 j)) s) i = mkI G (RR G B) y.2.2.2 y.2.2.1 s i := by
    intro i
    induction i with
    | zero => intro h; omega
    | succ i ih =>
      intro hi
      by_cases g : i = j
      · subst g
        rw [e1, mkI_stay]
        intro i' hi' hk'
        by_cases g : i' = i
        · subst g; exact v3
        · rw [v2.2 _ _ (h i' (by omega) hk')]; exact h i' (by omega) hk'
      · show cG _ _ _ = cG _ _ _
        rw [ih (by omega)]
  rw [RR_eq w wl hr hg hk v1, RR_eq w wl hr hg hk hv, mkF_way q' (by omega) z hy, mkF_way q (by omega) z hy, ei _ (by omega)]
theorem mk_way (w : WFG G) (wl : WFL B) (hr : rOK G B) (hg : GdK G B n k) (hk : rkK G B n k < 5000) (hv : MkV G s) (h2 : k < 2) (q : s.2 n k = -1) (z : ¬ trn G B n k) {y : Way} (hy : WW G B n k = some y) (h : ∀ i, i < y.2.2.2.length → hasK G (y.2.2.2.getD i 0) (bitN y.2.2.1 i) → s.2 (y.2.2.2.getD i 0) (inK G (y.2.2.2.getD i 0) (bitN y.2.2.1 i)) ≠ -1) : RR G B n k s = mkA G s n k ((y.2.1 : Int), inX G s y.2.2.2 y.2.2.1 0, inX G s y.2.2.2 y.2.2.1 1, inX G s y.2.2.2 y.2.2.1 2) := by
  rw [RR_eq w wl hr hg hk hv, mkF_way q (by omega) z hy, mkI_stay _ h]
theorem smN_oneN {f g : Nat → Nat} : ∀ N n, n < N → (∀ m, m ≠ n → f m = g m) → f n = g n + 1 → smN f N = smN g N + 1 := by
  intro N
  induction N with
  | zero => intro n h; omega
  | succ N ih =>
    intro n hn h e
    show smN f N + f N = smN g N + g N + 1
    by_cases q : n = N
    · subst q
      rw [e, smN_cg (g := g) (fun m hm => h m (by omega))]; omega
    · rw [ih n (by omega) h e, h N (fun g => q g.symm)]; omega
theorem missN_A (h13 : 1 ≤ gFi G) {g : Int × Int × Int × Int} (hn : n < gNo G) (hk : k < 3) (q : s.2 n k = -1) : missN G s = missN G (mkA G s n k g) + 1 := by
  have nn : (mkA G s n k g).2 n k ≠ -1 := by rw [mkA_net]; omega
  refine smN_oneN _ n hn (fun m hm => ?_) ?_
  · have o : ∀ b, (mkA G s n k g).2 m b = s.2 m b := fun b => mkA_oth (fun e => hm e.1)
    rw [o, o, o]
  · have o : ∀ b, b ≠ k → (mkA G s n k g).2 n b = s.2 n b := fun b hb => mkA_oth (fun e => hb e.2)
    rcases (show k = 0 ∨ k = 1 ∨ k = 2 by omega) with rfl | rfl | rfl
    · rw [o 1 (by omega), o 2 (by omega), bo_t q, bo_f nn]; omega
    · rw [o 0 (by omega), o 2 (by omega), bo_t q, bo_f nn]; omega
    · rw [o 0 (by omega), o 1 (by omega), bo_t q, bo_f nn]
/-- ranks rise down the stack -/
def stkU (G : Dsg) (B : Lib) : List (Nat × Nat) → Prop
  | [] => True
  | p :: L => (∀ q ∈ L, rkK G B p.1 p.2 < rkK G B q.1 q.2) ∧ stkU G B L
theorem stkU_len (b : Nat) : ∀ L : List (Nat × Nat), ∀ lo, stkU G B L → (∀ q ∈ L, lo ≤ rkK G B q.1 q.2 ∧ rkK G B q.1 q.2 < b) → lo ≤ b → L.length ≤ b - lo := by
  intro L
  induction L with
  | nil => intro lo _ _ _; exact Nat.zero_le _
  | cons p L ih =>
    intro lo h hb hl
    have a := hb p (.head _)
    have := ih (rkK G B p.1 p.2 + 1) h.2 (fun q hq => ⟨h.1 q hq, (hb q (.tail _ hq)).2⟩) (by omega)
    show L.length + 1 ≤ _
    omega
end JOBS
