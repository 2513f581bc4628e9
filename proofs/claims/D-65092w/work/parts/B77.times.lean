/-! times of nets; when their values come -/
def kDl (C : Chp) (g : Nat) : Int := C 12 (kC C g)
def kTime (C : Chp) (n : Nat) : Int := if n < kI C then 0 else (if n < kB C then 3 else kDl C (n - kB C)) + kMany C n - 1 + (if C 16 0 = 0 then 0 else kWire C n / 4)
def kBest (late : Bool) (v : Nat → Int) (f : Nat → Nat) : Nat → Int
  | 0 => if late = true then 0 else 1000000
  | j + 1 => if late = true then max (kBest late v f j) (v (f j)) else min (kBest late v f j) (v (f j))
def kArrN (C : Chp) (late : Bool) : Nat → Nat → Int
  | 0, n => kTime C n
  | g + 1, n => if n = kB C + g then kTime C n + kBest late (kArrN C late g) (kP C g) (kAr C g) else kArrN C late g n
def kArr (C : Chp) (late : Bool) (n : Nat) : Int := kArrN C late (kG C) n
theorem kBest_cg {late : Bool} {v v' : Nat → Int} {f : Nat → Nat} {m : Nat} (h : ∀ j, j < m → v (f j) = v' (f j)) : kBest late v f m = kBest late v' f m := by
  induction m with
  | zero => rfl
  | succ m ih =>
    show (if late = true then max (kBest late v f m) (v (f m)) else min (kBest late v f m) (v (f m))) = (if late = true then max (kBest late v' f m) (v' (f m)) else min (kBest late v' f m) (v' (f m)))
    rw [ih (fun j hj => h j (by omega)), h m (by omega)]
theorem kBest_rng {late : Bool} {v : Nat → Int} {f : Nat → Nat} {m : Nat} {b : Int} (hb : 0 ≤ b ∧ b ≤ 1000000) (h : ∀ j, j < m → 0 ≤ v (f j) ∧ v (f j) ≤ b) : 0 ≤ kBest late v f m ∧ kBest late v f m ≤ 1000000 ∧ (1 ≤ m → kBest late v f m ≤ b) := by
  induction m with
  | zero => refine ⟨?_, ?_, fun g => absurd g (by omega)⟩ <;> (show _ ≤ _; unfold kBest; split <;> omega)
  | succ m ih =>
    have i := ih (fun j hj => h j (by omega))
    have hm := h m (by omega)
    have e : kBest late v f (m + 1) = (if late = true then max (kBest late v f m) (v (f m)) else min (kBest late v f m) (v (f m))) := rfl
    have x := min_facts (kBest late v f m) (v (f m))
    have y := max_facts (kBest late v f m) (v (f m))
    rw [e]
    generalize min (kBest late v f m) (v (f m)) = X at x ⊢
    generalize max (kBest late v f m) (v (f m)) = Y at y ⊢
    by_cases z : 1 ≤ m
    · have := i.2.2 z
      split <;> refine ⟨?_, ?_, fun _ => ?_⟩ <;> omega
    · have : m = 0 := by omega
      subst this
      cases late with
      | false => simp only [Bool.false_eq_true, if_false]; refine ⟨?_, ?_, fun _ => ?_⟩ <;> omega
      | true =>
        have k0 : kBest true v f 0 = 0 := rfl
        rw [k0] at y i
        simp only [if_true]; refine ⟨?_, ?_, fun _ => ?_⟩ <;> omega
section KTIME
variable {C : Chp}
theorem kTime_rng (w : WFC C) (wp : WFP C) {n : Nat} (h : n < kN C) : 0 ≤ kTime C n ∧ kTime C n ≤ 800 := by
  have hn := w.nums
  have pm := kMany_pos w h
  have pl := kMany_le w (n := n)
  unfold kTime
  by_cases q : n < kI C
  · rw [if_pos q]; omega
  · rw [if_neg q]
    have d : 0 ≤ (if n < kB C then 3 else kDl C (n - kB C) : Int) ∧ (if n < kB C then 3 else kDl C (n - kB C) : Int) ≤ 100 := by
      by_cases z : n < kB C
      · rw [if_pos z]; omega
      · rw [if_neg z]
        have c := w.c (g := n - kB C) (by omega)
        have := w.2.1 _ c.2
        unfold kDl; omega
    have e : 0 ≤ (if C 16 0 = 0 then 0 else kWire C n / 4 : Int) ∧ (if C 16 0 = 0 then 0 else kWire C n / 4 : Int) ≤ 25 := by
      by_cases z : C 16 0 = 0
      · rw [if_pos z]; omega
      · rw [if_neg z]
        have := kWire_rng w wp z n pm
        omega
    omega
theorem kArrN_old {late : Bool} {g n : Nat} (h : n < kB C + g) : ∀ {g'}, g ≤ g' → kArrN C late g' n = kArrN C late g n := by
  intro g' hg
  induction g' with
  | zero => have : g = 0 := by omega
            subst this; rfl
  | succ g' ih =>
    by_cases e : g = g' + 1
    · subst e; rfl
    · show (if n = kB C + g' then _ else kArrN C late g' n) = _
      rw [if_neg (by omega), ih (by omega)]
theorem kArr_src {late : Bool} {n : Nat} (h : n < kB C) : kArr C late n = kTime C n := kArrN_old (g := 0) h (Nat.zero_le _)
theorem kArr_gate (w : WFC C) {late : Bool} {g : Nat} (h : g < kG C) : kArr C late (kB C + g) = kTime C (kB C + g) + kBest late (kArr C late) (kP C g) (kAr C g) := by
  have e : kArr C late (kB C + g) = kArrN C late (g + 1) (kB C + g) := kArrN_old (g := g + 1) (by omega) h
  rw [e]
  show (if kB C + g = kB C + g then _ else _) = _
  rw [if_pos rfl]
  congr 1
  exact kBest_cg (fun j hj => (kArrN_old (w.p h hj).2 (Nat.le_of_lt h)).symm)
theorem kArr_rng (w : WFC C) (wp : WFP C) {late : Bool} : ∀ g, g ≤ kG C → ∀ n, n < kB C + g → 0 ≤ kArr C late n ∧ kArr C late n ≤ 800 * (g + 1) := by
  have hn := w.nums
  intro g
  induction g with
  | zero =>
    intro _ n h
    have := kTime_rng w wp (n := n) (by omega)
    rw [kArr_src (by omega)]; omega
  | succ g ih =>
    intro hg n h
    have i := ih (by omega)
    by_cases e : n < kB C + g
    · have := i n e; omega
    · have e : n = kB C + g := by omega
      subst e
      have := kTime_rng w wp (n := kB C + g) (by omega)
      have ar := w.ar (g := g) (by omega)
      have b := kBest_rng (late := late) (v := kArr C late) (f := kP C g) (m := kAr C g) (b := 800 * (g + 1)) (by omega) (fun j hj => i _ (w.p (by omega) hj).2)
      rw [kArr_gate w (by omega)]
      have := b.2.2 ar.1
      omega
theorem kArr_rng' (w : WFC C) (wp : WFP C) {late : Bool} {n : Nat} (h : n < kN C) : 0 ≤ kArr C late n ∧ kArr C late n ≤ 200000 := by
  have hn := w.nums
  have := kArr_rng w wp (late := late) (kG C) (Nat.le_refl _) n (by omega)
  omega
end KTIME
/-! the class's times -/
def KTimes (S : Sto) (C : Chp) (m : Nat) : Prop := ∀ n, n < m → (gI S 245 n) = kTime C n ∧ (gI S 246 n) = kArr C true n ∧ (gI S 247 n) = kArr C false n
theorem KPins.fr {S S' : Sto} {C : Chp} {s : Pst} (h : KPins S C s) (e : ∀ a i, 219 ≤ a → a ≤ 225 → gI S' a i = gI S a i) : KPins S' C s := by
  obtain ⟨h1, h2, h3⟩ := h
  refine ⟨(e _ _ (by omega) (by omega)).trans h1, fun p hp => ?_, fun n hn => ?_⟩
  · rw [e _ _ (by omega) (by omega), e _ _ (by omega) (by omega), e _ _ (by omega) (by omega), e _ _ (by omega) (by omega)]; exact h2 p hp
  · rw [e _ _ (by omega) (by omega), e _ _ (by omega) (by omega)]; exact h3 n hn
theorem gnz_4 {τ : Type} {K : Option τ} : gnz 4 K = K := if_neg (by decide)
section KTAKE
variable {S : Sto} {L k : Nat} {C : Chp}
theorem k_timeOf (h : KPins S C (kPins C)) (hk : k < 4) (hL : L = 344 + 22 * k) (hg : gR S 219 0 = L) (hT : gR S 244 1 = L) (r : RepK S L C) (w : WFC C) (wp : WFP C) (rP : RepP S L C) {n : Nat} (hn : n < kN C) : mX17_timeOf S (n : Int) = some (kTime C n) := by
  have hnn := w.nums
  have e1 := r.1.1
  rw [w.i] at e1
  have hp := k_hasPlaces rP wp
  have pm := kMany_pos w hn
  have pl := kMany_le w (n := n)
  have v15 : gI S 223 n = (kMany C n : Int) := (h.2.2 n hn).2
  unfold mX17_timeOf kTime
  rw [hT, hL]
  simp only [gk_chip hk]
  rw [← hL, e1, w32_id (by omega), w32_id (by omega)]
  by_cases q : n < kI C
  · rw [if_pos (by omega), if_pos q]
  · rw [if_neg (by omega), if_neg q, hp, bX_some]
    have y5 : (if ¬ w32 (if C 16 0 = 0 then 0 else 1) = 0 then bX (mX13_wire S (n : Int)) fun x4 => gnz 4 (some (aDiv x4 4)) else some 0) = some (if C 16 0 = 0 then 0 else kWire C n / 4) := by
      by_cases z : C 16 0 = 0
      · rw [if_pos z, if_pos z, if_neg (by decide)]
      · have := kWire_rng w wp z n pm
        rw [if_neg z, if_neg z, if_pos (by decide), k_wire h hk hL hg w wp rP z hn, bX_some, gnz_4, aDiv_nn (by omega) (by omega)]
    rw [y5, bX_some, k_bits r w, bX_some, w32_id (by omega)]
    have y14 : (if (n : Int) < (kB C : Int) then some 3 else bX (some (kB C : Int)) fun x11 => rdI 150 S (L + 6) ((n : Int) - x11) fun v12 => rdI 12 S (L + 1 + 4) v12 fun v13 => some v13) = some (if n < kB C then 3 else kDl C (n - kB C)) := by
      by_cases z : n < kB C
      · rw [if_pos (by omega), if_pos z]
      · have c := w.c (g := n - kB C) (by omega)
        have e6 := r.2.1 (n - kB C) (by omega)
        have e5 := (r.2.2.2.2.2 _ c.2).2.2.2
        have zt : ((n : Int) - (kB C : Int)).toNat = n - kB C := by omega
        rw [if_neg (by omega), if_neg z, bX_some, rdI_e (by omega), zt, e6, c.1, rdI_e (by omega), Int.toNat_natCast, e5]; rfl
    rw [y14, bX_some, rdI_e (by omega), Int.toNat_natCast, v15]
theorem k_t98 (hk : k < 4) (hL : L = 344 + 22 * k) (hT : gR S 244 1 = L) (r : RepK S L C) (w : WFC C) (wp : WFP C) {g : Nat} (hg : g < kG C) {T : Sto} (hl : ∀ n, n < kB C + g → gI S 246 n = kArr C true n ∧ gI S 247 n = kArr C false n) :
    WP (lpF (mX17_take_L98 S (((kB C + g : Nat) : Int), T) (kB C : Int)) (0, 1000000, 0)) (fun z => z = (kBest true (kArr C true) (kP C g) (kAr C g), kBest false (kArr C false) (kP C g) (kAr C g))) := by
  have hn := w.nums
  have ar := w.ar hg
  have zz : ((kB C + g : Nat) : Int) - (kB C : Int) = (g : Int) := by omega
  refine WP_cnt (kAr C g) (fun i z => z = (kBest true (kArr C true) (kP C g) i, kBest false (kArr C false) (kP C g) i, (i : Int))) (by unfold cFU; omega) rfl (fun i z hi hI => ?_) (fun z hI => ?_)
  · subst hI
    have io := k_inputsOf r w (p := (g : Int)) (by omega)
    rw [Int.toNat_natCast] at io
    have pp := w.p hg hi
    have e5 := r.2.2.1 (3 * g + i) (by omega)
    rw [pp.1] at e5
    have hh := hl _ pp.2
    have zt : (3 * (g : Int) + (i : Int)).toNat = 3 * g + i := by omega
    have bt := kBest_rng (late := true) (v := kArr C true) (f := kP C g) (m := i) (b := 200000) (by omega) (fun j hj => kArr_rng' w wp (by have := (w.p hg (k := j) (by omega)).2; omega))
    have bf := kBest_rng (late := false) (v := kArr C false) (f := kP C g) (m := i) (b := 200000) (by omega) (fun j hj => kArr_rng' w wp (by have := (w.p hg (k := j) (by omega)).2; omega))
    have at' := kArr_rng' w wp (late := true) (n := kP C g i) (by omega)
    have af := kArr_rng' w wp (late := false) (n := kP C g i) (by omega)
    unfold mX17_take_L98
    dsimp only
    rw [hT, hL]
    simp only [gk_chip hk]
    rw [← hL, zz, io, bX_some, w32_id (by omega), w32_id (by omega), if_pos (by omega), rdI_e (by omega), zt, e5, rdI_e (by omega), Int.toNat_natCast, hh.1, max_e (by omega) (by omega), bX_some, rdI_e (by omega), zt, e5, rdI_e (by omega), Int.toNat_natCast, hh.2, min_e (by omega) (by omega), bX_some]
    exact WP_some.2 rfl
  · subst hI
    have io := k_inputsOf r w (p := (g : Int)) (by omega)
    rw [Int.toNat_natCast] at io
    unfold mX17_take_L98
    dsimp only
    rw [hT, hL]
    simp only [gk_chip hk]
    rw [← hL, zz, io, bX_some, if_neg (by omega)]
    exact WP_some.2 rfl
theorem k_t18 (hk : k < 4) (hL : L = 344 + 22 * k) (h : KPins S C (kPins C)) (hg : gR S 219 0 = L) (hT : gR S 244 1 = L) (r : RepK S L C) (w : WFC C) (wp : WFP C) (rP : RepP S L C) :
    WP (lpF mX17_take_L18 (0, S)) (fun z => KTimes z C (kN C) ∧ Ch 245 247 S z) := by
  have hnn := w.nums
  refine WP_cnt (kN C) (fun i z => z.1 = (i : Int) ∧ Ch 245 247 S z.2 ∧ KTimes z.2 C i) (by unfold cFU; omega) ⟨rfl, Ch.refl, fun n hn => absurd hn (Nat.not_lt_zero _)⟩ (fun i z hi hI => ?_) (fun z hI => ?_)
  · obtain ⟨b1, b2, b3⟩ := hI
    have rz := r.ch b2 (by omega)
    have tm := k_timeOf (n := i) (h.fr (fun a j l1 l2 => b2.1 a j (by omega))) hk hL ((b2.2.2.1 _ _).trans hg) ((b2.2.2.1 _ _).trans hT) rz w wp (rP.ch b2 (by omega)) hi
    have tr := kTime_rng w wp hi
    obtain ⟨z1, z2⟩ := z
    have b1 : z1 = (i : Int) := b1
    subst b1
    dsimp only at b2 b3 rz tm
    have g1 := (b2.2.2.1 244 1).trans hT
    obtain ⟨S12, hS⟩ : ∃ S12, sI (sI (sI z2 245 i (kTime C i)) 246 i (kTime C i)) 247 i (kTime C i) = S12 := ⟨_, rfl⟩
    have c12 : Ch 245 247 S S12 := by rw [← hS]; exact ((b2.sI (by omega)).sI (by omega)).sI (by omega)
    have r12 := r.ch c12 (by omega)
    have g12 := (c12.2.2.1 244 1).trans hT
    have kt : ∀ n, n < i → gI S12 245 n = kTime C n ∧ gI S12 246 n = kArr C true n ∧ gI S12 247 n = kArr C false n := fun n hn => by
      rw [← hS]; simp (disch := omega) only [gI_sIn]; exact b3 n hn
    have ki : gI S12 245 i = kTime C i ∧ gI S12 246 i = kTime C i ∧ gI S12 247 i = kTime C i := by
      rw [← hS]; simp (disch := omega) only [gI_sIn, gI_sIe, w32_id]; exact ⟨trivial, trivial, trivial⟩
    unfold mX17_take_L18
    dsimp only
    rw [g1, hL, gk_chip hk, ← hL, k_nets rz w, bX_some, w32_id (by omega), w32_id (by omega), if_pos (by omega), tm, bX_some, wrI_e (by omega), Int.toNat_natCast, rdI_e (by omega), Int.toNat_natCast, gI_set, w32_id (by omega), wrI_e (by omega), Int.toNat_natCast, rdI_e (by omega), Int.toNat_natCast, hI_sI_a (by omega), gI_set, w32_id (by omega), wrI_e (by omega), Int.toNat_natCast, hS, g12, hL]
    simp only [gk_chip hk]
    rw [← hL, k_bits r12 w, bX_some, w32_id (by omega)]
    by_cases q : i < kB C
    · rw [if_pos (by omega), bX_some]
      refine WP_some.2 ⟨by show (i : Int) + 1 = _; omega, c12, fun n hn => ?_⟩
      show gI S12 245 n = _ ∧ gI S12 246 n = _ ∧ gI S12 247 n = _
      by_cases e : n = i
      · subst e; rw [kArr_src q, kArr_src q]; exact ki
      · exact kt n (by omega)
    · obtain ⟨g, rfl⟩ : ∃ g, i = kB C + g := ⟨i - kB C, by omega⟩
      have at1 := kArr_rng' w wp (late := true) hi
      have af1 := kArr_rng' w wp (late := false) hi
      have ga := kArr_gate w (late := true) (g := g) (by omega)
      have gf := kArr_gate w (late := false) (g := g) (by omega)
      rw [if_neg (by omega), bX_some]
      refine WP_bX.2 (WP_call (k_t98 (g := g) (T := z2) hk hL g12 r12 w wp (by omega) (fun n hn => (kt n hn).2)) (fun y hy => ?_))
      subst hy
      dsimp only
      rw [rdI_e (by omega), Int.toNat_natCast, ki.2.1, wrI_e (by omega), Int.toNat_natCast, rdI_e (by omega), Int.toNat_natCast, hI_sI_a (by omega), ki.2.2, wrI_e (by omega), Int.toNat_natCast, ← ga, ← gf]
      refine WP_some.2 (WP_some.2 ⟨by show ((kB C + g : Nat) : Int) + 1 = _; omega, (c12.sI (by omega)).sI (by omega), fun n hn => ?_⟩)
      dsimp only
      by_cases e : n = kB C + g
      · subst e
        simp (disch := omega) only [gI_sIn, gI_sIe, w32_id]
        exact ⟨ki.1, trivial, trivial⟩
      · simp (disch := omega) only [gI_sIn]
        exact kt n (by omega)
  · obtain ⟨b1, b2, b3⟩ := hI
    have rz := r.ch b2 (by omega)
    have g1 := (b2.2.2.1 244 1).trans hT
    unfold mX17_take_L18
    rw [g1, hL, gk_chip hk, ← hL, k_nets rz w, bX_some, b1, if_neg (by omega)]
    exact WP_some.2 ⟨b3, b2⟩
theorem k_times (hk : k < 4) (hL : L = 344 + 22 * k) (r : RepK S L C) (w : WFC C) (wp : WFP C) (rP : RepP S L C) : WP (mX17_take S L) (fun z => KTimes z C (kN C) ∧ KPins z C (kPins C) ∧ gR z 219 0 = L ∧ gR z 244 1 = L ∧ Ch 219 247 (sR (sR S 244 1 L) 219 0 L) z) := by
  unfold mX17_take
  rw [wfR_eq]
  have g1 : gR (sR S 244 1 L) 244 1 = L := by rw [gR_sR, if_pos ⟨rfl, rfl⟩]
  rw [g1, hL, gk_chip hk, ← hL]
  refine WP_call (k_take (S := sR S 244 1 L) r w hk hL) (fun x hx => ?_)
  obtain ⟨x1, x2, x3⟩ := hx
  have gx : gR x 244 1 = L := (x3.2.2.1 244 1).trans (by rw [gR_sRn (by omega)]; exact g1)
  have r0 : RepK (sR (sR S 244 1 L) 219 0 L) L C := r
  have p0 : RepP (sR (sR S 244 1 L) 219 0 L) L C := rP
  refine WP_call (k_t18 hk hL x1 x2 gx (r0.ch x3 (by omega)) w wp (p0.ch x3 (by omega))) (fun y hy => ?_)
  exact WP_some.2 ⟨hy.1, x1.fr (fun a i l1 l2 => hy.2.1 a i (by omega)), (hy.2.2.2.1 _ _).trans x2, (hy.2.2.2.1 _ _).trans gx, (Ch.refl.tr x3 (Nat.le_refl _) (by omega)).tr hy.2 (by omega) (by omega)⟩
end KTAKE
