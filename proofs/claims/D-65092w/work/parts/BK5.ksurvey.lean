/-! the class surveys a design -/
theorem aXor_b {s b : Nat} (hs : s < 2147483648) (hb : b < 2) : aXor (s : Int) (b : Int) = (xr1 s b : Int) := by
  unfold xr1
  rcases (show b = 0 ∨ b = 1 by omega) with rfl | rfl
  · rw [if_pos rfl, aXor_nat hs (by omega), Nat.xor_zero]
  · rw [if_neg (by decide)]
    show aXor (s : Int) 1 = _
    rw [aXor_1 (by omega)]
    by_cases q : s % 2 = 0
    · rw [if_pos (by omega), if_pos q]; omega
    · rw [if_neg (by omega), if_neg q]; omega
theorem aShr1_n {l : Nat} (h : l < 2147483648) : aShr (l : Int) 1 = ((l / 2 : Nat) : Int) := by rw [aShr_1, w32_id (by omega)]; omega
theorem aAnd1_n {l : Nat} : aAnd (l : Int) 1 = ((l % 2 : Nat) : Int) := by rw [aAnd_1]; omega
def prt (G : Dsg) (i n : Nat) : Prop := ∃ i', i' < i ∧ rtL G i' / 2 = n
noncomputable def pus (G : Dsg) (i n : Nat) : Nat := smN (fun i' => bo (rtL G i' / 2 = n)) i
def useW (w : Nat → Prop) (x : Nat) : Nat → Prop := fun n => w n ∨ x / 2 = n
noncomputable def useU (u : Nat → Nat) (x : Nat) : Nat → Nat := fun n => u n + bo (x / 2 = n)
/-- wanted, uses: labels lw, lu -/
def SvX (z : Sto) (G : Dsg) (lw lu : Nat) (w : Nat → Prop) (u : Nat → Nat) : Prop := ∀ n, n < gNo G → gI z lw n = (bo (w n) : Int) ∧ gI z lu n = (u n : Int)
def SdX (z : Sto) (G : Dsg) (la lb : Nat) (lo : Nat) : Prop := ∀ n, lo ≤ n → AndG G n → gI z la n = (lA G n : Int) ∧ gI z lb n = (lB G n : Int)
/-- a survey's end -/
def SvE (z : Sto) (G : Dsg) (lw lu lr la lb : Nat) : Prop := SvX z G lw lu (Wt G) (usN G (gJ G)) ∧ (∀ n, gFi G ≤ n → n < gNo G → gI z lr n = (bo (Rt G n) : Int)) ∧ SdX z G la lb (gFi G)
def KGx (S : Sto) (d : Nat) (G : Dsg) : Prop := gR S 198 0 = 273 + 9 * d ∧ RepG S (273 + 9 * d) G
section SURVEY
variable {S z : Sto} {G : Dsg} {d x n : Nat} {w : Nat → Prop} {u : Nat → Nat}
theorem bo_or {p q : Prop} (h : ¬ q) : bo (p ∨ q) = bo p := bo_cg ⟨fun g => g.resolve_right h, .inl⟩
theorem SvX.use {lw lu : Nat} (ne : lw ≠ lu) (h : SvX S G lw lu w u) (hx : x < 2 * gNo G) (hu : ∀ n, n < gNo G → u n ≤ 5000) : SvX (sI (sI S lw (x / 2) 1) lu (x / 2) ((u (x / 2) : Int) + 1)) G lw lu (useW w x) (useU u x) := fun n hn => by
  obtain ⟨h1, h2⟩ := h n hn
  have b := hu n hn
  unfold useW useU
  by_cases q : n = x / 2
  · subst q
    rw [hI_sI_a ne, gI_set, gI_set, bo_t (.inr rfl), bo_t rfl]
    exact ⟨rfl, by rw [w32_id (by omega)]; omega⟩
  · have q' : ¬ x / 2 = n := fun e => q e.symm
    rw [hI_sI_a ne, hI_sI_i q, hI_sI_i q, hI_sI_a (fun e => ne e.symm), bo_or q', bo_f q', Nat.add_zero]
    exact ⟨h1, h2⟩
theorem KGx.mv (h : KGx S d G) (e : ∀ a i, 273 + 9 * d ≤ a → a ≤ 273 + 9 * d + 8 → gI z a i = gI S a i) (eR : gR z 198 0 = gR S 198 0) : KGx z d G := ⟨eR.trans h.1, h.2.cg e⟩
theorem KGx.ch {lo hi : Nat} (h : KGx S d G) (g : Ch lo hi S z) (q : hi < 273) : KGx z d G := h.mv (fun a i l1 l2 => g.1 a i (by omega)) (g.2.2.1 _ _)
theorem no_le (w : WFG G) : gNo G ≤ 1013 := by have := w.nums; omega
theorem k_sweep {L l : Nat} (r : RepG S L G) (w : WFG G) (hl : l < 2 * gNo G) : mX20_sweep S L (l : Int) = some (swN G l : Int) := by
  have hn := no_le w
  have s6 := w.st6 (n := l / 2) (by omega)
  have e := (r.2.2.1 (l / 2) (by omega)).1
  unfold mX20_sweep
  rw [aShr1_n (by omega), rdI_e (by omega), Int.toNat_natCast, e, aAnd1_n, s6.1, aXor_b (by omega) (by omega)]
  rfl
theorem k_use (h : SvX S G 201 202 w u) (hn : gNo G ≤ 1013) (hx : x < 2 * gNo G) : mX12_use S (x : Int) = some (sI (sI S 201 (x / 2) 1) 202 (x / 2) ((u (x / 2) : Int) + 1)) := by
  unfold mX12_use
  rw [aShr1_n (by omega), wrI_e (by omega), Int.toNat_natCast, rdI_e (by omega), Int.toNat_natCast, hI_sI_a (by omega), (h (x / 2) (by omega)).2, wrI_e (by omega), Int.toNat_natCast]
theorem pus_le {i : Nat} : pus G i n ≤ i := by
  have := smN_le (f := fun i' => bo (rtL G i' / 2 = n)) (n := i) (b := 1) (fun _ _ => bo_le)
  unfold pus; omega
theorem usN_le {j : Nat} : usN G j n ≤ nRt G + 2 * j := by
  induction j with
  | zero =>
    have := smN_le (f := fun i' => bo (rtL G i' / 2 = n)) (n := nRt G) (b := 1) (fun _ _ => bo_le)
    show smN _ _ ≤ _; omega
  | succ j ih =>
    have a : cG (wtN G j (gNo G - 1 - j)) (bo (aN' G (gNo G - 1 - j) = n) + bo (bN' G (gNo G - 1 - j) = n)) 0 ≤ 2 := by
      have b1 := @bo_le (aN' G (gNo G - 1 - j) = n)
      have b2 := @bo_le (bN' G (gNo G - 1 - j) = n)
      by_cases q : wtN G j (gNo G - 1 - j)
      · rw [cG_t q]; omega
      · rw [cG_f q]; omega
    show usN G j n + _ ≤ _
    omega
theorem prt_succ {i : Nat} : prt G (i + 1) = useW (prt G i) (rtL G i) := funext fun n => propext ⟨fun ⟨i', h1, h2⟩ => by
    by_cases q : i' = i
    · subst q; exact .inr h2
    · exact .inl ⟨i', by omega, h2⟩, fun h => h.elim (fun ⟨i', h1, h2⟩ => ⟨i', by omega, h2⟩) (fun h => ⟨i, by omega, h⟩)⟩
theorem pus_succ {i : Nat} : pus G (i + 1) = useU (pus G i) (rtL G i) := rfl
/-- a stage of the way down -/
theorem stage_w {j : Nat} (h : wtN G j (gNo G - 1 - j)) : useW (useW (wtN G j) (swN G (G 4 (gNo G - 1 - j)).toNat)) (swN G (G 5 (gNo G - 1 - j)).toNat) = wtN G (j + 1) := funext fun n => propext (by
  show (wtN G j n ∨ _) ∨ _ ↔ wtN G j n ∨ _
  unfold aN' bN' lA lB
  by_cases q : swN G (G 4 (gNo G - 1 - j)).toNat ≤ swN G (G 5 (gNo G - 1 - j)).toNat
  · rw [Nat.min_eq_left q, Nat.max_eq_right q]
    exact ⟨fun g => g.elim (fun g => g.elim .inl (fun g => .inr ⟨h, .inl g⟩)) (fun g => .inr ⟨h, .inr g⟩), fun g => g.elim (fun g => .inl (.inl g)) (fun g => g.2.elim (fun g => .inl (.inr g)) .inr)⟩
  · rw [Nat.min_eq_right (by omega), Nat.max_eq_left (by omega)]
    exact ⟨fun g => g.elim (fun g => g.elim .inl (fun g => .inr ⟨h, .inr g⟩)) (fun g => .inr ⟨h, .inl g⟩), fun g => g.elim (fun g => .inl (.inl g)) (fun g => g.2.elim .inr (fun g => .inl (.inr g)))⟩)
theorem stage_u {j : Nat} (h : wtN G j (gNo G - 1 - j)) : useU (useU (usN G j) (swN G (G 4 (gNo G - 1 - j)).toNat)) (swN G (G 5 (gNo G - 1 - j)).toNat) = usN G (j + 1) := funext fun n => by
  show usN G j n + _ + _ = usN G j n + _
  rw [cG_t h]
  unfold aN' bN' lA lB
  by_cases q : swN G (G 4 (gNo G - 1 - j)).toNat ≤ swN G (G 5 (gNo G - 1 - j)).toNat
  · rw [Nat.min_eq_left q, Nat.max_eq_right q]; omega
  · rw [Nat.min_eq_right (by omega), Nat.max_eq_left (by omega)]; omega
theorem stage_no {j : Nat} (h : ¬ wtN G j (gNo G - 1 - j)) : wtN G (j + 1) = wtN G j ∧ usN G (j + 1) = usN G j := ⟨funext fun n => propext ⟨fun g => g.elim id (fun g => absurd g.1 h), .inl⟩, funext fun n => by
  show usN G j n + _ = _
  rw [cG_f h, Nat.add_zero]⟩
theorem stage_0 : wtN G 0 = prt G (nRt G) ∧ usN G 0 = pus G (nRt G) := ⟨rfl, rfl⟩
/-- roots, as they are marked -/
def RtX (z : Sto) (G : Dsg) (lr i : Nat) : Prop := ∀ n, gFi G ≤ n → n < gNo G → gI z lr n = (bo (prt G i n) : Int)
theorem RtX.set {lr i : Nat} {v : Int} (h : RtX S G lr i) (hv : gFi G ≤ rtL G i / 2 → w32 v = 1) : RtX (sI S lr (rtL G i / 2) v) G lr (i + 1) := fun n h1 h2 => by
  rw [prt_succ]
  unfold useW
  by_cases q : n = rtL G i / 2
  · subst q; rw [gI_set, bo_t (.inr rfl)]; exact hv h1
  · rw [hI_sI_i q, bo_or (fun e => q e.symm)]; exact h n h1 h2
theorem k_sv2 (h : KGx S d G) (w : WFG G) (hd : d < 6) : WP (lpF mX12_survey_L2 (0, S)) (fun z => Ch 199 203 S z ∧ SvX z G 201 202 (prt G 0) (pus G 0) ∧ RtX z G 203 0) := by
  have hn := no_le w
  have wn := w.n
  refine WP_cnt (gNo G) (fun i z => z.1 = (i : Int) ∧ Ch 199 203 S z.2 ∧ ∀ n, n < i → gI z.2 201 n = 0 ∧ gI z.2 202 n = 0 ∧ gI z.2 203 n = 0) (by unfold cFU; omega) ⟨rfl, Ch.refl, fun n h => absurd h (Nat.not_lt_zero _)⟩ (fun i z hi hI => ?_) (fun z hI => ?_)
  · obtain ⟨z1, z2⟩ := z
    obtain ⟨b1, b2, b3⟩ := hI
    dsimp only at b1 b2 b3
    subst b1
    have hz := h.ch b2 (by omega)
    have e3 := hz.2.1.2.2.2.1
    rw [wn] at e3
    unfold mX12_survey_L2
    dsimp only
    rw [hz.1, gk_dsg hd, e3, w32_id (by omega), w32_id (by omega), if_pos (by omega), wrI_e (by omega), wrI_e (by omega), wrI_e (by omega), Int.toNat_natCast]
    refine WP_some.2 ⟨by show (i : Int) + 1 = _; omega, ((b2.sI (by omega)).sI (by omega)).sI (by omega), fun n hn' => ?_⟩
    dsimp only
    by_cases q : n = i
    · subst q
      rw [hI_sI_a (by omega), hI_sI_a (by omega), gI_set, hI_sI_a (by omega), gI_set, gI_set]; exact ⟨rfl, rfl, rfl⟩
    · rw [hI_sI_i q, hI_sI_i q, hI_sI_i q, hI_sI_i q, hI_sI_i q, hI_sI_i q, hI_sI_i q, hI_sI_i q, hI_sI_i q]; exact b3 n (by omega)
  · obtain ⟨z1, z2⟩ := z
    obtain ⟨b1, b2, b3⟩ := hI
    dsimp only at b1 b2 b3
    subst b1
    have hz := h.ch b2 (by omega)
    have e3 := hz.2.1.2.2.2.1
    rw [wn] at e3
    unfold mX12_survey_L2
    dsimp only
    rw [hz.1, gk_dsg hd, e3, if_neg (by omega)]
    have p0 : ∀ n, ¬ prt G 0 n := fun n ⟨i, h, _⟩ => absurd h (Nat.not_lt_zero _)
    refine WP_some.2 ⟨b2, fun n hn' => ⟨by rw [bo_f (p0 n)]; exact (b3 n hn').1, (b3 n hn').2.1⟩, fun n _ hn' => by rw [bo_f (p0 n)]; exact (b3 n hn').2.2⟩
theorem k_sv42 (h : KGx S d G) (w : WFG G) (hd : d < 6) (h1 : SvX S G 201 202 (prt G 0) (pus G 0)) (h2 : RtX S G 203 0) : WP (lpF mX12_survey_L42 (0, S)) (fun z => Ch 201 203 S z ∧ SvX z G 201 202 (prt G (gOu G)) (pus G (gOu G)) ∧ RtX z G 203 (gOu G)) := by
  have hn := no_le w
  have wo := w.o
  have wn := w.n
  have nn := w.nums
  refine WP_cnt (gOu G) (fun i z => z.1 = (i : Int) ∧ Ch 201 203 S z.2 ∧ SvX z.2 G 201 202 (prt G i) (pus G i) ∧ RtX z.2 G 203 i) (by unfold cFU; omega) ⟨rfl, Ch.refl, h1, h2⟩ (fun i z hi hI => ?_) (fun z hI => ?_)
  · obtain ⟨z1, z2⟩ := z
    obtain ⟨b1, b2, b3, b4⟩ := hI
    dsimp only at b1 b2 b3 b4
    subst b1
    have hz := h.ch b2 (by omega)
    have e6 := hz.2.1.2.2.1
    rw [wo] at e6
    have g7 := w.2.2.2.1 i hi
    have r7 := hz.2.2.2.2.1 i hi
    have rt : rtL G i = swN G (G 7 i).toNat := if_pos hi
    have rl := rtL_lt w (i := i) (by unfold nRt; omega)
    have e7 : G 7 i = ((G 7 i).toNat : Int) := by omega
    unfold mX12_survey_L42
    dsimp only
    rw [hz.1, gk_dsg hd, e6, w32_id (by omega), w32_id (by omega), if_pos (by omega), gk_dsg hd, gk_dsg hd, rdI_e (by omega), Int.toNat_natCast, r7, e7, k_sweep hz.2 w (by omega), bX_some, ← rt, k_use b3 hn rl, bX_some, aShr1_n (by omega), wrI_e (by omega), Int.toNat_natCast]
    have s1 := b3.use (by decide) rl (fun n _ => by have := pus_le (G := G) (n := n) (i := i); omega)
    rw [← prt_succ, ← pus_succ] at s1
    refine WP_some.2 ⟨by show (i : Int) + 1 = _; omega, ((b2.sI (by omega)).sI (by omega)).sI (by omega), fun n hn' => ?_, ?_⟩
    · dsimp only
      rw [hI_sI_a (by omega), hI_sI_a (by omega)]; exact s1 n hn'
    · refine RtX.set (fun n q1 q2 => ?_) (fun _ => rfl)
      rw [hI_sI_a (by omega), hI_sI_a (by omega)]; exact b4 n q1 q2
  · obtain ⟨z1, z2⟩ := z
    obtain ⟨b1, b2, b3, b4⟩ := hI
    dsimp only at b1 b2 b3 b4
    subst b1
    have hz := h.ch b2 (by omega)
    have e6 := hz.2.1.2.2.1
    rw [wo] at e6
    unfold mX12_survey_L42
    dsimp only
    rw [hz.1, gk_dsg hd, e6, if_neg (by omega)]
    exact WP_some.2 ⟨b2, b3, b4⟩
theorem k_sv92 (h : KGx S d G) (w : WFG G) (hd : d < 6) (h1 : SvX S G 201 202 (prt G (gOu G)) (pus G (gOu G))) (h2 : RtX S G 203 (gOu G)) : WP (lpF mX12_survey_L92 (0, S)) (fun z => Ch 201 203 S z ∧ SvX z G 201 202 (prt G (nRt G)) (pus G (nRt G)) ∧ RtX z G 203 (nRt G)) := by
  have hn := no_le w
  have ws := w.s
  have wn := w.n
  have nn := w.nums
  refine WP_cnt (gSt G) (fun i z => z.1 = (i : Int) ∧ Ch 201 203 S z.2 ∧ SvX z.2 G 201 202 (prt G (gOu G + i)) (pus G (gOu G + i)) ∧ RtX z.2 G 203 (gOu G + i)) (by unfold cFU; omega) ⟨rfl, Ch.refl, h1, h2⟩ (fun i z hi hI => ?_) (fun z hI => ?_)
  · obtain ⟨z1, z2⟩ := z
    obtain ⟨b1, b2, b3, b4⟩ := hI
    dsimp only at b1 b2 b3 b4
    subst b1
    have hz := h.ch b2 (by omega)
    have e6 := hz.2.1.2.1
    rw [ws] at e6
    have g7 := w.2.2.2.2.1 i hi
    have r7 := hz.2.2.2.2.2.1 i hi
    have rt : rtL G (gOu G + i) = swN G (G 8 i).toNat := by
      unfold rtL
      rw [if_neg (by omega), Nat.add_sub_cancel_left]
    have rl := rtL_lt w (i := gOu G + i) (by unfold nRt; omega)
    have e7 : G 8 i = ((G 8 i).toNat : Int) := by omega
    unfold mX12_survey_L92
    dsimp only
    rw [hz.1, gk_dsg hd, e6, w32_id (by omega), w32_id (by omega), if_pos (by omega), gk_dsg hd, gk_dsg hd, rdI_e (by omega), Int.toNat_natCast, r7, e7, k_sweep hz.2 w (by omega), bX_some, ← rt, k_use b3 hn rl, bX_some, aShr1_n (by omega), wrI_e (by omega), Int.toNat_natCast]
    have s1 := b3.use (by decide) rl (fun n _ => by have := pus_le (G := G) (n := n) (i := gOu G + i); omega)
    rw [← prt_succ, ← pus_succ] at s1
    refine WP_some.2 ⟨by show (i : Int) + 1 = _; omega, ((b2.sI (by omega)).sI (by omega)).sI (by omega), fun n hn' => ?_, ?_⟩
    · dsimp only
      rw [hI_sI_a (by omega), hI_sI_a (by omega)]; exact s1 n hn'
    · refine RtX.set (fun n q1 q2 => ?_) (fun _ => rfl)
      rw [hI_sI_a (by omega), hI_sI_a (by omega)]; exact b4 n q1 q2
  · obtain ⟨z1, z2⟩ := z
    obtain ⟨b1, b2, b3, b4⟩ := hI
    dsimp only at b1 b2 b3 b4
    subst b1
    have hz := h.ch b2 (by omega)
    have e6 := hz.2.1.2.1
    rw [ws] at e6
    unfold mX12_survey_L92
    dsimp only
    rw [hz.1, gk_dsg hd, e6, if_neg (by omega)]
    exact WP_some.2 ⟨b2, b3, b4⟩
theorem k_sv150 (h : KGx S d G) (w : WFG G) (hd : d < 6) (h1 : SvX S G 201 202 (wtN G 0) (usN G 0)) : WP (lpF mX12_survey_L150 ((gNo G : Int) - 1, S)) (fun z => Ch 199 202 S z ∧ SvX z G 201 202 (Wt G) (usN G (gJ G)) ∧ SdX z G 199 200 (gFi G)) := by
  have hn := no_le w
  have wn := w.n
  have nn := w.nums
  have jj : gJ G = gNo G - gFi G := rfl
  refine WP_cnt (gJ G) (fun j z => z.1 = (gNo G : Int) - 1 - (j : Int) ∧ Ch 199 202 S z.2 ∧ SvX z.2 G 201 202 (wtN G j) (usN G j) ∧ SdX z.2 G 199 200 (gNo G - j)) (by unfold cFU; omega) ⟨by dsimp only; omega, Ch.refl, h1, fun n q1 q2 => by have := q2.2.1; omega⟩ (fun j z hj hI => ?_) (fun z hI => ?_)
  · obtain ⟨z1, z2⟩ := z
    obtain ⟨b1, b2, b3, b4⟩ := hI
    dsimp only at b1 b2 b3 b4
    obtain ⟨m, hm⟩ : ∃ m : Nat, m = gNo G - 1 - j := ⟨_, rfl⟩
    have ez : z1 = (m : Int) := by omega
    subst ez
    have hz := h.ch b2 (by omega)
    have mN : gFi G ≤ m ∧ m < gNo G := by omega
    obtain ⟨l1, l2, l3, l4⟩ := w.lo mN.1 mN.2
    have rl := hz.2.2.1 m mN.1 mN.2
    have bw := (b3 m mN.2).1
    rw [hm] at bw
    have rng : ∀ n, n < gNo G → usN G j n ≤ 4000 := fun n _ => by
      have := usN_le (G := G) (j := j) (n := n); unfold nRt at this; omega
    unfold mX12_survey_L150
    dsimp only
    rw [hz.1, gk_dsg hd, k_first hz.2 w, bX_some, w32_id (by omega), w32_id (by omega), if_pos (by omega), rdZ_e (by omega), Int.toNat_natCast, w32_bz, hm, bw, ← hm]
    by_cases q : wtN G j (gNo G - 1 - j)
    · have x1 := swN_lt w (l := (G 4 m).toNat) (by omega)
      have x2 := swN_lt w (l := (G 5 m).toNat) (by omega)
      have s1 : SvX (sI (sI z2 199 m (lA G m)) 200 m (lB G m)) G 201 202 (wtN G j) (usN G j) := fun n hn' => by
        rw [hI_sI_a (by omega), hI_sI_a (by omega), hI_sI_a (by omega), hI_sI_a (by omega)]; exact b3 n hn'
      have s2 := s1.use (by decide) x1.2 (fun n hn' => by have := rng n hn'; omega)
      have s3 := s2.use (by decide) x2.2 (fun n hn' => by
        have := rng n hn'
        have := @bo_le (swN G (G 4 m).toNat / 2 = n)
        unfold useU; omega)
      have u1 := k_use s1 hn x1.2
      have u2 := k_use s2 hn x2.2
      have mi : min (swN G (G 4 m).toNat : Int) (swN G (G 5 m).toNat : Int) = (lA G m : Int) := by unfold lA; omega
      have ma : max (swN G (G 4 m).toNat : Int) (swN G (G 5 m).toNat : Int) = (lB G m : Int) := by unfold lB; omega
      have e1 : bz ((1 : Nat) : Int) = 1 := rfl
      have q' := q
      rw [← hm] at q'
      rw [bo_t q', e1, if_neg (by decide), gk_dsg hd, gk_dsg hd, rdI_e (by omega), Int.toNat_natCast, rl.1, l3, k_sweep hz.2 w (by omega), bX_some, gk_dsg hd, gk_dsg hd, rdI_e (by omega), Int.toNat_natCast, rl.2, l4, k_sweep hz.2 w (by omega), bX_some, min_e (by omega) (by omega), bX_some, mi, wrI_e (by omega), Int.toNat_natCast, max_e (by omega) (by omega), bX_some, ma, wrI_e (by omega), Int.toNat_natCast, u1, bX_some, u2, bX_some, bX_some]
      obtain ⟨Z, hZ⟩ : ∃ Z, Z = sI (sI (sI (sI (sI (sI z2 199 m (lA G m)) 200 m (lB G m)) 201 (swN G (G 4 m).toNat / 2) 1) 202 (swN G (G 4 m).toNat / 2) ((usN G j (swN G (G 4 m).toNat / 2) : Int) + 1)) 201 (swN G (G 5 m).toNat / 2) 1) 202 (swN G (G 5 m).toNat / 2) ((useU (usN G j) (swN G (G 4 m).toNat) (swN G (G 5 m).toNat / 2) : Int) + 1) := ⟨_, rfl⟩
      rw [← hZ]
      rw [← hZ] at s3
      have es := stage_w q
      have eu := stage_u q
      rw [← hm] at es eu
      rw [es, eu] at s3
      have z1 : ∀ n, gI Z 199 n = if n = m then (lA G m : Int) else gI z2 199 n := fun n => by
        rw [hZ, hI_sI_a (by omega), hI_sI_a (by omega), hI_sI_a (by omega), hI_sI_a (by omega), hI_sI_a (by omega)]
        by_cases g : n = m
        · rw [g, gI_set, if_pos rfl, w32_id (by unfold lA; omega)]
        · rw [hI_sI_i g, if_neg g]
      have z2' : ∀ n, gI Z 200 n = if n = m then (lB G m : Int) else gI z2 200 n := fun n => by
        rw [hZ, hI_sI_a (by omega), hI_sI_a (by omega), hI_sI_a (by omega), hI_sI_a (by omega)]
        by_cases g : n = m
        · rw [g, gI_set, if_pos rfl, w32_id (by unfold lB; omega)]
        · rw [hI_sI_i g, if_neg g, hI_sI_a (by omega)]
      have cZ : Ch 199 202 S Z := by
        rw [hZ]
        exact (((((b2.sI (by omega)).sI (by omega)).sI (by omega)).sI (by omega)).sI (by omega)).sI (by omega)
      refine WP_some.2 ⟨by show (m : Int) + -1 = _; omega, cZ, s3, fun n q1 q2 => ?_⟩
      dsimp only
      rw [z1, z2']
      by_cases g : n = m
      · rw [if_pos g, if_pos g, g]; exact ⟨rfl, rfl⟩
      · rw [if_neg g, if_neg g]; exact b4 n (by omega) q2
    · have es := stage_no q
      have e0 : bz ((0 : Nat) : Int) = 0 := rfl
      have q' := q
      rw [← hm] at q'
      rw [bo_f q', e0, if_pos rfl, bX_some]
      refine WP_some.2 ⟨by show (m : Int) + -1 = _; omega, b2, by rw [es.1, es.2]; exact b3, fun n q1 q2 => ?_⟩
      dsimp only
      by_cases g : n = m
      · exfalso
        subst g
        have := (Wt_at w mN.1 mN.2).1 q2.2.2
        rw [show gNo G - 1 - n = j by omega, hm] at this
        exact q this
      · exact b4 n (by omega) q2
  · obtain ⟨z1, z2⟩ := z
    obtain ⟨b1, b2, b3, b4⟩ := hI
    dsimp only at b1 b2 b3 b4
    have hz := h.ch b2 (by omega)
    unfold mX12_survey_L150
    dsimp only
    rw [hz.1, gk_dsg hd, k_first hz.2 w, bX_some, b1, w32_id (by omega), w32_id (by omega), if_neg (by omega)]
    rw [show gNo G - gJ G = gFi G by omega] at b4
    exact WP_some.2 ⟨b2, b3, b4⟩
theorem k_sv253 (h : KGx S d G) (w : WFG G) (hd : d < 6) (h1 : SvX S G 201 202 (Wt G) (usN G (gJ G))) (h2 : RtX S G 203 (nRt G)) : WP (lpF mX12_survey_L253 ((gFi G : Int), S)) (fun z => Ch 203 203 S z ∧ ∀ n, gFi G ≤ n → n < gNo G → gI z 203 n = (bo (Rt G n) : Int)) := by
  have hn := no_le w
  have wn := w.n
  have nn := w.nums
  refine WP_cnt (gNo G - gFi G) (fun j z => z.1 = ((gFi G + j : Nat) : Int) ∧ Ch 203 203 S z.2 ∧ (∀ n, gFi G ≤ n → n < gFi G + j → gI z.2 203 n = (bo (Rt G n) : Int)) ∧ ∀ n, gFi G + j ≤ n → gI z.2 203 n = gI S 203 n) (by unfold cFU; omega) ⟨rfl, Ch.refl, fun n q1 q2 => by omega, fun n _ => rfl⟩ (fun j z hj hI => ?_) (fun z hI => ?_)
  · obtain ⟨z1, z2⟩ := z
    obtain ⟨b1, b2, b3, b4⟩ := hI
    dsimp only at b1 b2 b3 b4
    obtain ⟨m, hm⟩ : ∃ m : Nat, m = gFi G + j := ⟨_, rfl⟩
    rw [← hm] at b1
    subst b1
    have hz := h.ch b2 (by omega)
    have e3 := hz.2.1.2.2.2.1
    rw [wn] at e3
    have mN : m < gNo G := by omega
    have ur := usN_le (G := G) (j := gJ G) (n := m)
    have jj : gJ G = gNo G - gFi G := rfl
    have e1 : gI z2 201 m = (bo (Wt G m) : Int) := (b2.1 _ _ (by omega)).trans (h1 m mN).1
    have e2 : gI z2 202 m = (usN G (gJ G) m : Int) := (b2.1 _ _ (by omega)).trans (h1 m mN).2
    have e4 : gI z2 203 m = (bo (prt G (nRt G) m) : Int) := (b4 m (by omega)).trans (h2 m (by omega) mN)
    have val : (bX (if ¬ w32 (bz (gI z2 201 m)) = 0 then rdZ 1013 z2 203 (m : Int) fun v51 => if w32 v51 = 0 then rdI 1013 z2 202 (m : Int) fun v52 => if 1 < w32 v52 then some true else some false else some true else some false) fun b => if b = true then some (1 : Int) else some 0) = some ((bo (Rt G m) : Nat) : Int) := by
      unfold nRt at ur
      rw [w32_bz, e1]
      by_cases q : Wt G m
      · rw [bo_t q, if_pos (by decide), rdZ_e (by omega), Int.toNat_natCast, w32_bz, e4]
        by_cases r : prt G (nRt G) m
        · rw [bo_t r, if_neg (by decide), bX_some, if_pos rfl, bo_t (show Rt G m from .inl r)]; rfl
        · rw [bo_f r, if_pos (by decide), rdI_e (by omega), Int.toNat_natCast, e2, w32_id (by omega)]
          by_cases t : 1 < usN G (gJ G) m
          · rw [if_pos (by omega), bX_some, if_pos rfl, bo_t (show Rt G m from .inr ⟨q, t⟩)]; rfl
          · rw [if_neg (by omega), bX_some, if_neg (by decide), bo_f (show ¬ Rt G m from fun g => g.elim r (fun g => t g.2))]; rfl
      · rw [bo_f q, if_neg (by decide), bX_some, if_neg (by decide), bo_f (show ¬ Rt G m from fun g => g.elim (fun g => q (root_Wt g)) (fun g => q g.1))]; rfl
    have o1 : ((bo (Rt G m) : Nat) : Int) = 0 ∨ ((bo (Rt G m) : Nat) : Int) = 1 := by have := @bo_le (Rt G m); omega
    unfold mX12_survey_L253
    dsimp only
    rw [hz.1, gk_dsg hd, e3, w32_id (by omega), w32_id (by omega), if_pos (by omega), rdZ_e (by omega), Int.toNat_natCast, val, bX_some, w1_o1 o1, wrI_e (by omega), Int.toNat_natCast]
    refine WP_some.2 ⟨by show (m : Int) + 1 = _; omega, b2.sI (by omega), fun n q1 q2 => ?_, fun n q1 => ?_⟩
    · dsimp only
      by_cases g : n = m
      · rw [g, gI_set, w32_id (by omega)]
      · rw [hI_sI_i g]; exact b3 n q1 (by omega)
    · dsimp only
      rw [hI_sI_i (by omega)]; exact b4 n (by omega)
  · obtain ⟨z1, z2⟩ := z
    obtain ⟨b1, b2, b3, b4⟩ := hI
    dsimp only at b1 b2 b3 b4
    have hz := h.ch b2 (by omega)
    have e3 := hz.2.1.2.2.2.1
    rw [wn] at e3
    unfold mX12_survey_L253
    dsimp only
    rw [hz.1, gk_dsg hd, e3, b1, w32_id (by omega), w32_id (by omega), if_neg (by omega)]
    exact WP_some.2 ⟨b2, fun n q1 q2 => b3 n q1 (by omega)⟩
theorem k_survey (h : KGx S d G) (w : WFG G) (hd : d < 6) : WP (mX12_survey S) (fun z => Ch 199 203 S z ∧ SvE z G 201 202 203 199 200) := by
  have hn := no_le w
  have wn := w.n
  unfold mX12_survey
  refine WP_call (k_sv2 h w hd) (fun x1 h1 => ?_)
  have hx1 := h.ch h1.1 (by omega)
  refine WP_call (k_sv42 hx1 w hd h1.2.1 h1.2.2) (fun x2 h2 => ?_)
  have c2 := h1.1.tr h2.1 (by omega) (by omega)
  have hx2 := h.ch c2 (by omega)
  refine WP_call (k_sv92 hx2 w hd h2.2.1 h2.2.2) (fun x3 h3 => ?_)
  have c3 := c2.tr h3.1 (by omega) (by omega)
  have hx3 := h.ch c3 (by omega)
  have e3 := hx3.2.1.2.2.2.1
  rw [wn] at e3
  rw [hx3.1, gk_dsg hd, e3]
  refine WP_call (k_sv150 hx3 w hd h3.2.1) (fun x4 h4 => ?_)
  have c4 := c3.tr h4.1 (by omega) (by omega)
  have hx4 := h.ch c4 (by omega)
  rw [hx4.1, gk_dsg hd, k_first hx4.2 w, bX_some]
  refine WP_call (k_sv253 hx4 w hd h4.2.1 (fun n q1 q2 => (h4.1.1 _ _ (by omega)).trans (h3.2.2 n q1 q2))) (fun x5 h5 => WP_some.2 ⟨c4.tr h5.1 (by omega) (by omega), fun n hn' => ?_, h5.2, fun n q1 q2 => ?_⟩)
  · rw [h5.1.1 _ _ (by omega), h5.1.1 _ _ (by omega)]; exact h4.2.1 n hn'
  · rw [h5.1.1 _ _ (by omega), h5.1.1 _ _ (by omega)]; exact h4.2.2 n q1 q2
end SURVEY
