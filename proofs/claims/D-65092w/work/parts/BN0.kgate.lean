/-! the class makes gates: one gate's inputs, the recursion -/
def KIn (S : Sto) (G : Dsg) (B : Lib) (d k : Nat) (s : MkS) (b : Nat) : Prop := KMg S G B d k ∧ KSg S G k s ∧ gI S 198 24 = (b : Int) ∧ gI S 198 25 = 0 ∧ MkV G s
/-- what a run leaves: full, or all made -/
def KOu (S : Sto) (G : Dsg) (k b : Nat) (s' : MkS) (z : Sto) : Prop := ChW (PGk k) S z ∧ (s'.1.length + b ≤ 150 → KSg z G k s' ∧ gI z 198 24 = (b : Int) ∧ gI z 198 25 = 0) ∧ (150 < s'.1.length + b → gI z 198 25 = 1)
def KOut (S : Sto) (G : Dsg) (k b : Nat) (s' : MkS) (v : Int) (y : Int × Sto) : Prop := KOu S G k b s' y.2 ∧ (s'.1.length + b ≤ 150 → y.1 = v)
def GateQ (G : Dsg) (B : Lib) (d k : Nat) (rg : Sto → Int → Int → Option (Int × Sto)) (F : Nat) : Prop := ∀ (f n t b : Nat) (s : MkS) (S : Sto), GdK G B n t → t < 2 → rkK G B n t < f → KIn S G B d k s b → s.1.length + b ≤ 150 → 2 * (151 - b) ≤ F → WP (rg S (n : Int) (t : Int)) (KOut S G k b (mkR G B f n t s) ((mkR G B f n t s).2 n t))
noncomputable def lfR (G : Dsg) (B : Lib) (f x t : Nat) (s : MkS) : MkS := cG (hasK G x t) (mkR G B f x (inK G x t) s) s
def LeafQ (G : Dsg) (B : Lib) (d k : Nat) (rl : Sto → Int → Int → Option (Int × Sto)) (F : Nat) : Prop := ∀ (f x t b : Nat) (s : MkS) (S : Sto), WdG G x → ¬ InG G x → t < 2 → (hasK G x t → GdK G B x (inK G x t)) → rkK G B x (inK G x t) < f → KIn S G B d k s b → s.1.length + b ≤ 150 → 2 * (151 - b) + (1 - t) ≤ F → WP (rl S (x : Int) (t : Int)) (KOut S G k b (lfR G B f x t s) (inN G (lfR G B f x t s) x t))
section KGATE
variable {S z : Sto} {G : Dsg} {B : Lib} {d n i k c m o tu x t b f F : Nat} {s : MkS}
theorem KSg_put (hk : k < 4) {g : Int × Int × Int × Int} {v : Int} (h : KSg S G k (s.1 ++ [g], s.2)) (ht : t < 2) (hn : n < gNo G) (hv : v = (gFi G : Int) - 1 + (s.1.length : Int)) (hl : s.1.length < 1000) (h13 : gFi G ≤ 13) : KSg (sI S 215 (2 * n + t) v) G k (mkA G s n t g) := by
  obtain ⟨h1, h2, h3⟩ := h
  have e : (mkA G s n t g).1 = s.1 ++ [g] := rfl
  refine ⟨?_, fun i hi => ?_, fun m hm => ?_⟩
  · rw [hI_sI_a (by omega), e]; exact h1
  · rw [hI_sI_a (by omega), hI_sI_a (by omega), hI_sI_a (by omega), hI_sI_a (by omega), e]; exact h2 i hi
  · obtain ⟨a, b, c⟩ := h3 m hm
    have key : ∀ u, u < 2 → gI S 215 (2 * m + u) = s.2 m u → gI (sI S 215 (2 * n + t) v) 215 (2 * m + u) = (mkA G s n t g).2 m u := fun u hu e => by
      by_cases q : m = n ∧ u = t
      · obtain ⟨rfl, rfl⟩ := q
        rw [gI_set, mkA_net, hv, w32_id (by unfold gFi at *; omega)]
      · rw [mkA_oth q, hI_sI_i (by omega)]; exact e
    exact ⟨key 0 (by omega) a, key 1 (by omega) b, by rw [hI_sI_a (by omega), mkA_oth (by omega)]; exact c⟩
theorem KSg_put2 (hk : k < 4) {g : Int × Int × Int × Int} {v : Int} (h : KSg S G k (s.1 ++ [g], s.2)) (hv : v = (gFi G : Int) - 1 + (s.1.length : Int)) (hl : s.1.length < 1000) (h13 : gFi G ≤ 13) : KSg (sI S 216 n v) G k (mkA G s n 2 g) := by
  obtain ⟨h1, h2, h3⟩ := h
  have e : (mkA G s n 2 g).1 = s.1 ++ [g] := rfl
  refine ⟨?_, fun i hi => ?_, fun m hm => ?_⟩
  · rw [hI_sI_a (by omega), e]; exact h1
  · rw [hI_sI_a (by omega), hI_sI_a (by omega), hI_sI_a (by omega), hI_sI_a (by omega), e]; exact h2 i hi
  · obtain ⟨a, b, c⟩ := h3 m hm
    refine ⟨by rw [hI_sI_a (by omega), mkA_oth (by omega)]; exact a, by rw [hI_sI_a (by omega), mkA_oth (by omega)]; exact b, ?_⟩
    by_cases q : m = n
    · subst q
      rw [gI_set, mkA_net, hv, w32_id (by unfold gFi at *; omega)]
    · rw [mkA_oth (by omega), hI_sI_i q]; exact c
theorem inN_rng (w : WFG G) (hv : MkV G s) (hx : WdG G x) (hl : s.1.length < 1000) : -1 ≤ inN G s x t ∧ inN G s x t < 5000 := by
  have ng := w.nums
  have e : gFi G = 1 + gIn G + gSt G := rfl
  have a : ∀ n k, -1 ≤ s.2 n k ∧ s.2 n k < 5000 := fun n k => by have := hv n k; omega
  have xl := Wd_lt w hx
  unfold inN
  by_cases q : InG G x
  · rw [cG_t q]; exact a _ _
  · rw [cG_f q]
    by_cases z : t = 0
    · rw [if_pos z]
      by_cases y : gFi G ≤ x
      · rw [if_pos y]; exact a _ _
      · rw [if_neg y]; omega
    · rw [if_neg z]; exact a _ _
theorem KIn.mv (w : WFG G) (wl : WFL B) (hd : d < 6) (hk : k < 4) {s' : MkS} {b' b0 : Nat} {s0 : MkS} (h : KIn S G B d k s0 b0) (c : ChW (PGk k) S z) (g : KSg z G k s' ∧ gI z 198 24 = (b' : Int) ∧ gI z 198 25 = 0) (v : MkV G s') : KIn z G B d k s' b' := ⟨h.1.cw w wl hd hk c, g.1, g.2.1, g.2.2, v⟩
noncomputable def aJ (G : Dsg) (s : MkS) (l : List Nat) (tu i j : Nat) : Int := if j < i then inN G s (l.getD j 0) (bitN tu j) else -1
/-- the inputs of a gate -/
theorem k_gt154 {rg rl : Sto → Int → Int → Option (Int × Sto)} (w : WFG G) (wl : WFL B) (hr : rOK G B) (hd : d < 6) (hk : k < 4) (hg : GateQ G B d k rg F) (hlf : LeafQ G B d k rl F) (hn : AndG G n) (ht : t < 2) {y : Way} (hy : WW G B n t = some y) (hf : 4 * n ≤ f) (hI : KIn S G B d k s (b + 1)) (hlb : s.1.length + (b + 1) ≤ 150) (hF : 2 * (151 - (b + 1)) + 1 ≤ F) :
    WP (lpF (mX12_gate_L154 (y.2.2.2.length : Int) (n : Int) (t : Int) rl rg) (-1, -1, -1, 0, S)) (fun r => KOu S G k (b + 1) (mkI G (mkR G B f) y.2.2.2 y.2.2.1 s y.2.2.2.length) r.2.2.2 ∧ ((mkI G (mkR G B f) y.2.2.2 y.2.2.1 s y.2.2.2.length).1.length + (b + 1) ≤ 150 → r.1 = inX G (mkI G (mkR G B f) y.2.2.2 y.2.2.1 s y.2.2.2.length) y.2.2.2 y.2.2.1 0 ∧ r.2.1 = inX G (mkI G (mkR G B f) y.2.2.2 y.2.2.1 s y.2.2.2.length) y.2.2.2 y.2.2.1 1 ∧ r.2.2.1 = inX G (mkI G (mkR G B f) y.2.2.2 y.2.2.1 s y.2.2.2.length) y.2.2.2 y.2.2.1 2)) := by
  have hno := no_le w
  have nn := hn.2.1
  obtain ⟨a1, a2, a3, a4, a5, a6⟩ := way_inp w wl hr hn hy
  have ro := mkR_ok w wl hr f
  have mok := mkI_ok ro (n := n) hf a6 hI.2.2.2.2
  have mle := mkI_len ro (n := n) hf a6 hI.2.2.2.2
  have W := (hI.1.2.2.2.1 n hn nn t ht).2 y hy
  obtain ⟨l, hl⟩ : ∃ l, l = y.2.2.2 := ⟨_, rfl⟩
  obtain ⟨u, hu⟩ : ∃ u, u = y.2.2.1 := ⟨_, rfl⟩
  rw [← hl, ← hu] at a6 mok mle W
  rw [← hu] at a2
  rw [← hl] at a4 a5
  rw [← hl, ← hu]
  obtain ⟨MI, hMI⟩ : ∃ MI, MI = fun i => mkI G (mkR G B f) l u s i := ⟨_, rfl⟩
  have eM : ∀ i, mkI G (mkR G B f) l u s i = MI i := fun i => by rw [hMI]
  have sM : ∀ i, MI (i + 1) = cG (hasK G (l.getD i 0) (bitN u i)) (mkR G B f (l.getD i 0) (inK G (l.getD i 0) (bitN u i)) (MI i)) (MI i) := fun i => by rw [hMI]; rfl
  have m0 : MI 0 = s := by rw [hMI]; rfl
  simp only [eM] at mok mle ⊢
  refine WP_cnt l.length (fun i st => st.2.2.2.1 = (i : Int) ∧ KOu S G k (b + 1) (MI i) st.2.2.2.2 ∧ ((MI i).1.length + (b + 1) ≤ 150 → st.1 = aJ G (MI i) l u i 0 ∧ st.2.1 = aJ G (MI i) l u i 1 ∧ st.2.2.1 = aJ G (MI i) l u i 2)) (by unfold cFU; omega) ⟨rfl, ⟨ChW.refl, fun _ => by rw [m0]; exact ⟨hI.2.1, hI.2.2.1, hI.2.2.2.1⟩, fun q => by rw [m0] at q; omega⟩, fun _ => ⟨rfl, rfl, rfl⟩⟩ (fun i st hi hI' => ?_) (fun st hI' => ?_)
  · obtain ⟨t0, t1, t2, ti, z⟩ := st
    obtain ⟨b1, ⟨b2, b3, b4⟩, b5⟩ := hI'
    dsimp only at b1 b2 b3 b4 b5
    subst b1
    have MLi := mle l.length i (by omega) (Nat.le_refl _)
    have lenle := MLi.len
    by_cases full : (MI i).1.length + (b + 1) ≤ 150
    case neg =>
      have f1 := b4 (by omega)
      unfold mX12_gate_L154
      dsimp only
      rw [f1, show bz 1 = 1 from rfl, w32_id (x := (1 : Int)) (by decide), if_neg (show ¬ (1 : Int) = 0 by decide), ite_self, bX_some, if_neg (by decide)]
      exact WP_some.2 ⟨⟨b2, fun q => by omega, fun _ => f1⟩, fun q => by omega⟩
    case pos =>
      obtain ⟨c1, c2, c3⟩ := b3 full
      obtain ⟨e0, e1, e2⟩ := b5 full
      obtain ⟨v1, v2, v3, v4⟩ := mok i (by omega)
      have In : KIn z G B d k (MI i) (b + 1) := hI.mv w wl hd hk b2 ⟨c1, c2, c3⟩ v1
      obtain ⟨x, hx⟩ : ∃ x, x = l.getD i 0 := ⟨_, rfl⟩
      obtain ⟨p1, p2, p3⟩ := a6 i hi
      rw [← hx] at p1 p2 p3
      have sMi := sM i
      rw [← hx] at sMi
      obtain ⟨q, hq⟩ : ∃ q, q = bitN u i := ⟨_, rfl⟩
      have q2 : q < 2 := by rw [hq]; exact bitN_2
      rw [← hq] at p3 sMi
      have rk := inK_rk (G := G) (B := B) p2 q2
      have w6 : gI z 206 (3 * (2 * n + t) + i) = (x : Int) := by rw [b2.1 _ _ (fun q => by unfold PGk at q; omega), hx]; exact W.2.2 i hi
      have w7 : gI z 207 (2 * n + t) = (u : Int) := by rw [b2.1 _ _ (fun q => by unfold PGk at q; omega)]; exact W.2.1
      have z3 : (3 * (2 * (n : Int) + (t : Int)) + (i : Int)).toNat = 3 * (2 * n + t) + i := by omega
      have z2 : (2 * (n : Int) + (t : Int)).toNat = 2 * n + t := by omega
      have lf := k_isLeaf In.1.1 w hd In.1.2.2.1 p1.1
      obtain ⟨ok1, ok2, ok3, _⟩ := mok (i + 1) (by omega)
      have iv := ok3 i (by omega)
      rw [← hx, ← hq] at iv
      -- what the call gives
      have call : WP (if ¬ w32 (cI (InG G x) 0 1) = 0 then bX (rl z (x : Int) (q : Int)) fun x24 => some (x24.1, x24.2) else bX (rg z (x : Int) (q : Int)) fun x25 => some (x25.1, x25.2)) (KOut z G k (b + 1) (MI (i + 1)) (inN G (MI (i + 1)) x q)) := by
        by_cases g : InG G x
        · have hk' : hasK G x q := .inl g.1
          have e : inK G x q = q := by unfold inK; rw [cG_t g]
          rw [cI_t g, if_neg (by decide), sMi, cG_t hk', inN_it q2 hk', e]
          rw [e] at rk p3
          exact WP_call (hg f x q (b + 1) (MI i) z (p3 hk') q2 (by omega) In full (by omega)) (fun y hy => WP_some.2 hy)
        · rw [cI_f g, if_pos (by decide), sMi]
          exact WP_call (hlf f x q (b + 1) (MI i) z p1 g q2 p3 (by omega) In full (by omega)) (fun y hy => WP_some.2 hy)
      unfold mX12_gate_L154
      dsimp only
      rw [c3, show bz 0 = 0 from rfl, w32_id (x := (0 : Int)) (by decide), if_pos (show (0 : Int) = 0 from rfl), w32_id (x := (i : Int)) (by omega), w32_id (x := (l.length : Int)) (by omega), if_pos (by omega), bX_some, if_pos rfl, rdI_e (by omega), z3, w6, rdI_e (by omega), z2, w7, lf, bX_some, aBit (by omega) (by omega), b2i_bit, ← hq]
      refine WP_call call (fun y hy' => WP_some.2 ⟨by show (i : Int) + 1 = _; omega, ?_, ?_⟩)
      · obtain ⟨⟨y1, y2, y3⟩, y4⟩ := hy'
        exact ⟨b2.tr y1 (fun _ _ g => g), y2, y3⟩
      · obtain ⟨⟨y1, y2, y3⟩, y4⟩ := hy'
        intro nf
        have yv := y4 nf
        have le1 : MkLe (MI i) (MI (i + 1)) := mle (i + 1) i (by omega) (by omega)
        have kp : ∀ j, j < i → aJ G (MI (i + 1)) l u (i + 1) j = aJ G (MI i) l u i j := fun j hj => by
          unfold aJ
          rw [if_pos (by omega), if_pos hj]
          exact inN_le le1 (v3 j hj)
        have at' : aJ G (MI (i + 1)) l u (i + 1) i = y.1 := by
          unfold aJ
          rw [if_pos (by omega), ← hx, ← hq, yv]
        have ab : ∀ j, i < j → aJ G (MI (i + 1)) l u (i + 1) j = aJ G (MI i) l u i j := fun j hj => by
          unfold aJ
          rw [if_neg (by omega), if_neg (by omega)]
        have one : ∀ (j : Nat) (a : Int), a = aJ G (MI i) l u i j → (if (i : Int) = (j : Int) then y.1 else a) = aJ G (MI (i + 1)) l u (i + 1) j := fun j a ea => by
          by_cases g : i = j
          · subst g; rw [if_pos rfl, at']
          · rw [if_neg (by omega), ea]
            rcases Nat.lt_or_gt_of_ne g with g | g
            · exact (ab j g).symm
            · exact (kp j g).symm
        exact ⟨one 0 _ e0, one 1 _ e1, one 2 _ e2⟩
  · obtain ⟨t0, t1, t2, ti, z⟩ := st
    obtain ⟨b1, b2, b5⟩ := hI'
    dsimp only at b1 b2 b5
    subst b1
    unfold mX12_gate_L154
    dsimp only
    rw [if_neg (by omega), bX_some, if_neg (by decide)]
    exact WP_some.2 ⟨b2, b5⟩
end KGATE
