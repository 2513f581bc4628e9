/-! a stretch of labels alone is changed -/
def Ch (lo hi : Nat) (S S' : Sto) : Prop := (∀ a i, (a < lo ∨ hi < a) → gI S' a i = gI S a i) ∧ (∀ a i, (a < lo ∨ hi < a) → gL S' a i = gL S a i) ∧ (∀ a i, gR S' a i = gR S a i) ∧ nC S' = nC S ∧ nS S' = nS S
theorem Ch.refl {lo hi : Nat} {S : Sto} : Ch lo hi S S := ⟨fun _ _ _ => rfl, fun _ _ _ => rfl, fun _ _ => rfl, rfl, rfl⟩
theorem Ch.tr {lo hi lo' hi' : Nat} {S S' S'' : Sto} (h : Ch lo hi S S') (g : Ch lo' hi' S' S'') (h1 : lo ≤ lo') (h2 : hi' ≤ hi) : Ch lo hi S S'' :=
  ⟨fun a i q => (g.1 a i (by omega)).trans (h.1 a i q), fun a i q => (g.2.1 a i (by omega)).trans (h.2.1 a i q), fun a i => (g.2.2.1 a i).trans (h.2.2.1 a i), g.2.2.2.1.trans h.2.2.2.1, g.2.2.2.2.trans h.2.2.2.2⟩
theorem Ch.sI {lo hi : Nat} {S S' : Sto} (h : Ch lo hi S S') {a i : Nat} {v : Int} (h1 : lo ≤ a ∧ a ≤ hi) : Ch lo hi S (sI S' a i v) :=
  ⟨fun b j q => (hI_sI_a (by omega)).trans (h.1 b j q), h.2.1, h.2.2.1, h.2.2.2.1, h.2.2.2.2⟩
theorem Ch.sL {lo hi : Nat} {S S' : Sto} (h : Ch lo hi S S') {a i : Nat} {v : Int64} (h1 : lo ≤ a ∧ a ≤ hi) : Ch lo hi S (sL S' a i v) :=
  ⟨h.1, fun b j q => by rw [gL_sL, if_neg (by omega)]; exact h.2.1 b j q, h.2.2.1, h.2.2.2.1, h.2.2.2.2⟩
theorem Ch.of {W : List (Nat × Option Nat)} {lo hi : Nat} {S S' : Sto} (h : Fr W [] false S S') (ho : W.all (fun z => Nat.ble lo z.1 && Nat.ble z.1 hi) = true) : Ch lo hi S S' := by
  have ok : ∀ a i, (a < lo ∨ hi < a) → okP W a i := fun a i q => okP_lab (fun z hz e => by
    have := List.all_eq_true.1 ho z hz
    rw [Bool.and_eq_true, Nat.ble_eq, Nat.ble_eq] at this
    omega)
  exact ⟨fun a i q => h.gi (ok a i q), fun a i q => h.gl (ok a i q), fun a i => h.rf okP_nil, h.heap.1, h.heap.2⟩
theorem RepK.ch {S S' : Sto} {L : Nat} {C : Chp} {lo hi : Nat} (h : RepK S L C) (g : Ch lo hi S S') (q : L + 21 < lo ∨ hi < L) : RepK S' L C := h.cg (fun a i l1 l2 => g.1 a i (by omega))
theorem RefK.ch {S S' : Sto} {k : Nat} {C : Chp} {lo hi : Nat} (h : RefK S k C) (g : Ch lo hi S S') (q : 2120 < lo ∨ hi < 2106) : RefK S' k C := h.cg (fun a i l1 l2 => g.1 a i (by omega))
theorem RepP.cg {S S' : Sto} {L : Nat} {C : Chp} (h : RepP S L C) (e : ∀ a i, L ≤ a → a ≤ L + 21 → gI S' a i = gI S a i) : RepP S' L C := by unfold RepP at h ⊢; simp (disch := omega) only [e]; exact h
theorem RepP.ch {S S' : Sto} {L : Nat} {C : Chp} {lo hi : Nat} (h : RepP S L C) (g : Ch lo hi S S') (q : L + 21 < lo ∨ hi < L) : RepP S' L C := h.cg (fun a i l1 l2 => g.1 a i (by omega))
theorem RefP.cg {S S' : Sto} {k : Nat} {C : Chp} (h : RefP S k C) (e : ∀ a i, 2122 ≤ a → a ≤ 2125 → gI S' a i = gI S a i) : RefP S' k C := by unfold RefP at h ⊢; simp (disch := omega) only [e]; exact h
theorem RefP.ch {S S' : Sto} {k : Nat} {C : Chp} {lo hi : Nat} (h : RefP S k C) (g : Ch lo hi S S') (q : 2125 < lo ∨ hi < 2122) : RefP S' k C := h.cg (fun a i l1 l2 => g.1 a i (by omega))
/-! the class gathers its pins -/
section TAKE
variable {S : Sto} {L k : Nat} {C : Chp} {s : Pst}
theorem k_addC (h : KPins S C s) (w : WFC C) {net o : Int} {j : Nat} (hc : s.1 < 640) (hn : net < kN C ∧ -2 ≤ net) (ho : -2 ≤ o ∧ o < 1000) (hj : j < 1000) : WP (mX13_add S net o (j : Int)) (fun S' => KPins S' C (pAdd s net o j) ∧ Ch 219 225 S S') :=
  ((k_add h w hc hn ho hj).pc fr_mX13_add).mono (fun z hz => ⟨hz.1, Ch.of hz.2 rfl⟩)
theorem pAdd_neg {net o : Int} {j : Nat} (h : net < 0) : pAdd s net o j = s := if_pos h
theorem k_addM (h : KPins S C s) (w : WFC C) {net o : Int} {j : Nat} (h' : net < 0 ∧ -2147483648 ≤ net) : mX13_add S net o (j : Int) = some S := by
  unfold mX13_add; rw [w32_id (by omega), if_pos h'.1]
theorem pOuts_le (w : WFC C) {i : Nat} (h : i ≤ kO C) : (pOuts C i).1 ≤ 28 := by
  have := (pOuts_ok w i h).2; have := w.nums; omega
theorem pEls_le (w : WFC C) {e : Nat} (h : e ≤ kE C) : (pEls C e).1 ≤ 28 + 4 * e := by
  have a := (pEls_ok w e h).2
  have := w.nums
  split at a <;> omega
theorem pEls_le2 (w : WFC C) {e : Nat} (h : e < kE C) : (pEls C e).1 + kSz C e ≤ 640 := by
  have a := (pEls_ok w e (by omega)).2
  have hn := w.nums
  have sz := kSz_rng w h
  unfold kE at h
  by_cases q : e < kR C
  · rw [if_pos q] at a; omega
  · rw [if_neg q] at a; omega
theorem k_take12 (r : RepK S L C) (w : WFC C) (hk : k < 4) (hL : L = 344 + 22 * k) (hg : gR S 219 0 = L) (h1 : gI S 219 1 = 0) : WP (lpF mX13_take_L12 (0, S)) (fun z => KPins z C (pIns 0) ∧ Ch 219 225 S z) := by
  have hn := w.nums
  subst hL
  refine WP_cnt (kN C) (fun i z => z.1 = (i : Int) ∧ Ch 219 225 S z.2 ∧ gI z.2 219 1 = 0 ∧ ∀ n, n < i → gI z.2 224 n = -1 ∧ gI z.2 223 n = 0) (by unfold cFU; omega) ⟨rfl, Ch.refl, h1, fun n h => absurd h (Nat.not_lt_zero _)⟩ (fun i z hi hI => ?_) (fun z hI => ?_)
  · obtain ⟨b1, b2, b3, b4⟩ := hI
    have g := (b2.2.2.1 219 0).trans hg
    have rz := r.ch b2 (by omega)
    unfold mX13_take_L12
    rw [g, gk_chip hk, k_nets rz w, bX_some, b1, w32_id (by omega), w32_id (by omega), if_pos (by omega), wrI_e (by omega), wrI_e (by omega), Int.toNat_natCast]
    refine WP_some.2 ⟨by show (i : Int) + 1 = _; omega, (b2.sI (by omega)).sI (by omega), ?_, fun n hn' => ?_⟩
    · show gI (sI (sI z.2 223 i 0) 224 i (-1)) 219 1 = 0
      rw [hI_sI_a (by omega), hI_sI_a (by omega)]; exact b3
    · show gI (sI (sI z.2 223 i 0) 224 i (-1)) 224 n = -1 ∧ gI (sI (sI z.2 223 i 0) 224 i (-1)) 223 n = 0
      by_cases q : n = i
      · subst q; simp (disch := omega) only [gI_sIn, gI_sIe]; exact ⟨rfl, rfl⟩
      · simp (disch := omega) only [gI_sIn]; exact b4 n (by omega)
  · obtain ⟨b1, b2, b3, b4⟩ := hI
    have g := (b2.2.2.1 219 0).trans hg
    have rz := r.ch b2 (by omega)
    unfold mX13_take_L12
    rw [g, gk_chip hk, k_nets rz w, bX_some, b1, if_neg (by omega)]
    exact WP_some.2 ⟨⟨b3, fun p hp => absurd hp (Nat.not_lt_zero _), fun n hn' => b4 n hn'⟩, b2⟩
theorem k_take45 (r : RepK S L C) (w : WFC C) (hk : k < 4) (hL : L = 344 + 22 * k) (hg : gR S 219 0 = L) (h1 : KPins S C (pIns 0)) : WP (lpF mX13_take_L45 (0, S)) (fun z => KPins z C (pOuts C 0) ∧ Ch 219 225 S z) := by
  have hn := w.nums
  subst hL
  refine WP_cnt (kI C) (fun i z => z.1 = (i : Int) ∧ Ch 219 225 S z.2 ∧ KPins z.2 C (pIns i)) (by unfold cFU; omega) ⟨rfl, Ch.refl, h1⟩ (fun i z hi hI => ?_) (fun z hI => ?_)
  · obtain ⟨b1, b2, b3⟩ := hI
    have g := (b2.2.2.1 219 0).trans hg
    have rz := r.ch b2 (by omega)
    have e1 := rz.1.1
    rw [w.i] at e1
    unfold mX13_take_L45
    rw [g, gk_chip hk, e1, b1, w32_id (by omega), w32_id (by omega), if_pos (by omega)]
    have c := (pIns_ok w i (by omega)).2
    refine WP_call (k_addC b3 w (by omega) (by omega) (by omega) (by omega)) (fun x hx => ?_)
    exact WP_some.2 ⟨by show (i : Int) + 1 = _; omega, b2.tr hx.2 (by omega) (by omega), hx.1⟩
  · obtain ⟨b1, b2, b3⟩ := hI
    have g := (b2.2.2.1 219 0).trans hg
    have rz := r.ch b2 (by omega)
    have e1 := rz.1.1
    rw [w.i] at e1
    unfold mX13_take_L45
    rw [g, gk_chip hk, e1, b1, if_neg (by omega)]
    exact WP_some.2 ⟨b3, b2⟩
theorem k_take71 (r : RepK S L C) (w : WFC C) (hk : k < 4) (hL : L = 344 + 22 * k) (hg : gR S 219 0 = L) (h1 : KPins S C (pOuts C 0)) : WP (lpF mX13_take_L71 (0, S)) (fun z => KPins z C (pEls C 0) ∧ Ch 219 225 S z) := by
  have hn := w.nums
  subst hL
  refine WP_cnt (kO C) (fun i z => z.1 = (i : Int) ∧ Ch 219 225 S z.2 ∧ KPins z.2 C (pOuts C i)) (by unfold cFU; omega) ⟨rfl, Ch.refl, h1⟩ (fun i z hi hI => ?_) (fun z hI => ?_)
  · obtain ⟨b1, b2, b3⟩ := hI
    have g := (b2.2.2.1 219 0).trans hg
    have rz := r.ch b2 (by omega)
    have e1 := rz.1.2.2.1
    rw [w.o] at e1
    have e6 := rz.2.2.2.1 i hi
    have w6 := w.2.2.2.1 i hi
    rw [w.i, w.r, w.g] at w6
    unfold mX13_take_L71
    rw [g, gk_chip hk, e1, b1, w32_id (by omega), w32_id (by omega), if_pos (by omega), gk_chip hk, rdI_e (by omega), Int.toNat_natCast, e6]
    have c := pOuts_le w (i := i) (by omega)
    refine WP_call (k_addC b3 w (by omega) (by omega) (by omega) (by omega)) (fun x hx => ?_)
    exact WP_some.2 ⟨by show (i : Int) + 1 = _; omega, b2.tr hx.2 (by omega) (by omega), hx.1⟩
  · obtain ⟨b1, b2, b3⟩ := hI
    have g := (b2.2.2.1 219 0).trans hg
    have rz := r.ch b2 (by omega)
    have e1 := rz.1.2.2.1
    rw [w.o] at e1
    unfold mX13_take_L71
    rw [g, gk_chip hk, e1, b1, if_neg (by omega)]
    exact WP_some.2 ⟨b3, b2⟩
theorem k_take119 (r : RepK S L C) (w : WFC C) (hk : k < 4) (hL : L = 344 + 22 * k) (hg : gR S 219 0 = L) {e : Nat} (he : e < kE C) {T : Sto} (h1 : KPins S C (pEls C e)) : WP (lpF (mX13_take_L119 ((e : Int), T)) (0, S)) (fun z => KPins z C (pEls C (e + 1)) ∧ Ch 219 225 S z) := by
  have hn := w.nums
  have sz := kSz_rng w he
  have se := kSz_eq he
  have he' : e < kR C + kG C := he
  subst hL
  refine WP_cnt (kSz C e) (fun i z => z.1 = (i : Int) ∧ Ch 219 225 S z.2 ∧ KPins z.2 C (pEl C (pEls C e) e i)) (by unfold cFU; omega) ⟨rfl, Ch.refl, h1⟩ (fun i z hi hI => ?_) (fun z hI => ?_)
  · obtain ⟨b1, b2, b3⟩ := hI
    have g := (b2.2.2.1 219 0).trans hg
    have rz := r.ch b2 (by omega)
    have ks := k_size rz w (p := (e : Int)) (by omega)
    rw [se] at ks
    unfold mX13_take_L119
    rw [g, gk_chip hk, ks, bX_some, b1, w32_id (by omega), w32_id (by omega), if_pos (by omega), gk_chip hk]
    have np := kNp_lt w he hi
    have c1 := pEls_le2 w he
    have c := (pEl_ok w (pEls_ok w e (by omega)).1 he i (by omega)).2.1
    refine WP_call (k_netOfPin rz w he hi) (fun x hx => ?_)
    rcases hx with rfl | ⟨hx, rfl⟩
    · refine WP_call (k_addC b3 w (by omega) (by omega) (by omega) (by omega)) (fun x hx => ?_)
      exact WP_some.2 ⟨by show (i : Int) + 1 = _; omega, b2.tr hx.2 (by omega) (by omega), hx.1⟩
    · rw [k_addM b3 w (by omega), bX_some]
      refine WP_some.2 ⟨by show (i : Int) + 1 = _; omega, b2, ?_⟩
      show KPins z.2 C (pAdd (pEl C (pEls C e) e i) (kNp C e i) e i)
      rw [pAdd_neg hx]; exact b3
  · obtain ⟨b1, b2, b3⟩ := hI
    have g := (b2.2.2.1 219 0).trans hg
    have rz := r.ch b2 (by omega)
    have ks := k_size rz w (p := (e : Int)) (by omega)
    rw [se] at ks
    unfold mX13_take_L119
    rw [g, gk_chip hk, ks, bX_some, b1, if_neg (by omega)]
    exact WP_some.2 ⟨b3, b2⟩
theorem k_take106 (r : RepK S L C) (w : WFC C) (hk : k < 4) (hL : L = 344 + 22 * k) (hg : gR S 219 0 = L) (h1 : KPins S C (pEls C 0)) : WP (lpF mX13_take_L106 (0, S)) (fun z => KPins z C (kPins C) ∧ Ch 219 225 S z) := by
  have hn := w.nums
  have hE : kE C = kR C + kG C := rfl
  refine WP_cnt (kE C) (fun i z => z.1 = (i : Int) ∧ Ch 219 225 S z.2 ∧ KPins z.2 C (pEls C i)) (by unfold cFU; omega) ⟨rfl, Ch.refl, h1⟩ (fun i z hi hI => ?_) (fun z hI => ?_)
  · obtain ⟨b1, b2, b3⟩ := hI
    have g := (b2.2.2.1 219 0).trans hg
    have rz := r.ch b2 (by omega)
    have el := k_elements rz w
    obtain ⟨z1, z2⟩ := z
    have b1 : z1 = (i : Int) := b1
    subst b1
    unfold mX13_take_L106
    rw [g, hL, gk_chip hk, ← hL, el, bX_some, w32_id (by omega), w32_id (by omega), if_pos (by omega)]
    refine WP_call (k_take119 (T := z2) rz w hk hL g hi b3) (fun x hx => ?_)
    exact WP_some.2 ⟨by show (i : Int) + 1 = _; omega, b2.tr hx.2 (by omega) (by omega), hx.1⟩
  · obtain ⟨b1, b2, b3⟩ := hI
    have g := (b2.2.2.1 219 0).trans hg
    have rz := r.ch b2 (by omega)
    have el := k_elements rz w
    unfold mX13_take_L106
    rw [g, hL, gk_chip hk, ← hL, el, bX_some, b1, hE, if_neg (by omega)]
    exact WP_some.2 ⟨b3, b2⟩
theorem k_take (r : RepK S L C) (w : WFC C) (hk : k < 4) (hL : L = 344 + 22 * k) : WP (mX13_take S L) (fun z => KPins z C (kPins C) ∧ gR z 219 0 = L ∧ Ch 219 225 (sR S 219 0 L) z) := by
  unfold mX13_take
  rw [wfR_eq, wf_eq]
  have r0 : RepK (sI (sR S 219 0 L) 219 1 0) L C := r.cg (fun a i l1 l2 => by rw [hI_sI_a (by omega)]; rfl)
  have g0 : gR (sI (sR S 219 0 L) 219 1 0) 219 0 = L := by rw [gR_sI, gR_sR, if_pos ⟨rfl, rfl⟩]
  have c0 : Ch 219 225 (sR S 219 0 L) (sI (sR S 219 0 L) 219 1 0) := Ch.refl.sI (by omega)
  refine WP_call (k_take12 r0 w hk hL g0 (by rw [gI_set]; rfl)) (fun x hx => ?_)
  have c1 := c0.tr hx.2 (by omega) (by omega)
  have r1 := r0.ch hx.2 (by omega)
  have g1 := (hx.2.2.2.1 219 0).trans g0
  refine WP_call (k_take45 r1 w hk hL g1 hx.1) (fun x hx => ?_)
  have c1 := c1.tr hx.2 (by omega) (by omega)
  have r1 := r1.ch hx.2 (by omega)
  have g1 := (hx.2.2.2.1 219 0).trans g1
  refine WP_call (k_take71 r1 w hk hL g1 hx.1) (fun x hx => ?_)
  have c1 := c1.tr hx.2 (by omega) (by omega)
  have r1 := r1.ch hx.2 (by omega)
  have g1 := (hx.2.2.2.1 219 0).trans g1
  refine WP_call (k_take106 r1 w hk hL g1 hx.1) (fun x hx => ?_)
  exact WP_some.2 ⟨hx.1, (hx.2.2.2.1 219 0).trans g1, c1.tr hx.2 (by omega) (by omega)⟩
end TAKE
