/-! the class's scanner: the next token -/
section KNX
variable {S S' : Sto} {a0 : Nat} {u : Nat → Int} {n : Nat}
/-- the fields of the token at a place -/
def Fld (u : Nat → Int) (n : Nat) (S : Sto) (a0 b : Nat) : Prop := (tK u n b = 5 → gI S a0 3 = 0) ∧ (tK u n b = 1 → gI S a0 3 = 1 ∧ gI S a0 7 = 0) ∧ (tK u n b = 6 → gI S a0 3 = 1 ∧ gI S a0 7 = tV u n b) ∧ (tK u n b = 2 → gI S a0 3 = 2 ∧ gI S a0 6 = tV u n b) ∧ (tK u n b = 3 → (tV u n b < 256 → gI S a0 3 = 3 ∧ gI S a0 6 = tV u n b) ∧ (tV u n b = 256 → gI S a0 3 = 4) ∧ (tV u n b = 257 → gI S a0 3 = 5))
def ScP (u : Nat → Int) (n : Nat) (S : Sto) (a0 b : Nat) : Prop := gI S a0 8 = 0 ∧ gI S a0 2 = (tE u n b : Nat) ∧ gI S a0 4 = (b : Nat) ∧ gI S a0 5 = (tE u n b : Nat) ∧ tK u n b ≠ 4 ∧ Fld u n S a0 b
def MidP (u : Nat → Int) (n : Nat) (S : Sto) (a0 b : Nat) (y : Sto) : Prop := gI y a0 2 = (tE u n b : Nat) ∧ (tK u n b = 4 → gI y a0 3 = 6) ∧ (tK u n b ≠ 4 → gI y a0 3 ≠ 6 ∧ Fld u n y a0 b) ∧ ChW (fun a i => a = a0 ∧ (i = 2 ∨ i = 3 ∨ i = 5 ∨ i = 6 ∨ i = 7)) S y
theorem L72_eq (t : TpK S a0 u n) {p : Nat} (hp : p ≤ 100000) (hs : gI S a0 2 = (p : Nat)) : mX3_next_L72 a0 S = (if p < n ∧ ldg (u p) = true then some (Sum.inl (sI S a0 2 ((p : Int) + 1))) else some (Sum.inr S)) := by
  unfold mX3_next_L72
  simp only [hs, k_sign t hp, bX_some, k_isLetter (sgA_rng t.u), k_isDigit (sgA_rng t.u), sgA_ltr t.u, sgA_dgt t.u, w32_b2i, b2i_eq0, wf_eq]
  by_cases h : p < n <;> cases h1 : ltr (u p) <;> cases h2 : dgt (u p) <;> simp [h, ldg, h1, h2, bX_some]
theorem L180_eq (t : TpK S a0 u n) {p : Nat} (hp : p ≤ 100000) (hs : gI S a0 2 = (p : Nat)) : mX3_next_L180 a0 S = (if p < n ∧ dgt (u p) = true then some (Sum.inl (sI (sI S a0 6 (if gI S a0 6 < 1000000 then 10 * gI S a0 6 + u p - 48 else gI S a0 6)) a0 2 ((p : Int) + 1))) else some (Sum.inr S)) := by
  have hb := t.b
  unfold mX3_next_L180
  simp only [hs, k_sign t hp, bX_some, k_isDigit (sgA_rng t.u), sgA_dgt t.u, w32_b2i, b2i_eq0, wf_eq, w32_gI]
  by_cases h : p < n
  · cases h2 : dgt (u p)
    · rw [if_neg (by simp), if_neg (by simp)]
    · have hd := of_decide_eq_true h2
      have hx : ¬ ((decide (p < n) && true) = false) := by simp [h]
      rw [if_pos hx, if_pos (show p < n ∧ true = true from ⟨h, rfl⟩), gk_tp t.r, rdI_e (by omega), Int.toNat_natCast, t.t p h, show rw8 (u p) = u p by unfold rw8; rw [if_pos (by omega)]]
      have e2 : ∀ v, gI (sI S a0 6 v) a0 2 = p := fun v => by rw [hI_sI_i (by decide)]; exact hs
      by_cases g : gI S a0 6 < 1000000
      · rw [if_pos g, if_pos g, bX_some, e2]
      · rw [if_neg g, if_neg g, bX_some, e2]
  · rw [if_neg (by simp [h]), if_neg (fun g => h g.1)]
theorem k_run (t : TpK S a0 u n) {b : Nat} (hb : b < n) (h2 : gI S a0 2 = (b : Nat)) (g : ltr (u b) = true) : WP (lpF (mX3_next_L72 a0) S) (fun y => gI y a0 2 = (wE u n b : Nat) ∧ ChW (PB2 a0) S y) := by
  have hn := t.b
  obtain ⟨r1, r2, r3, r4⟩ := rnE_spec (P := ldg) (u := u) (n - b) b
  have hw := wE_rng (u := u) hb g
  have ew : rnE ldg u (n - b) b = wE u n b := rfl
  rw [ew] at r1 r2 r3 r4
  refine WP_cnt (wE u n b - b) (fun k s => gI s a0 2 = ((b + k : Nat) : Int) ∧ ChW (PB2 a0) S s) (by show _ < 1000000000000; omega) ⟨h2, ChW.refl⟩ (fun k s hk hs => ?_) (fun s hs => ?_)
  · obtain ⟨s1, s2⟩ := hs
    have tz : TpK s a0 u n := t.ch s2 (fun h => absurd h.2 (by omega)) (fun i h => t.a h.1.symm)
    rw [L72_eq tz (by omega) s1, if_pos ⟨by omega, r3 _ (by omega) (by omega)⟩]
    refine WP_some.2 ⟨?_, s2.sI ⟨rfl, rfl⟩⟩
    rw [gI_sI_eq, w32_id (by omega)]; omega
  · obtain ⟨s1, s2⟩ := hs
    have tz : TpK s a0 u n := t.ch s2 (fun h => absurd h.2 (by omega)) (fun i h => t.a h.1.symm)
    have e : b + (wE u n b - b) = wE u n b := by omega
    rw [e] at s1
    rw [L72_eq tz (by omega) s1, if_neg (fun h => by have := r4 (by omega); rw [this] at h; exact absurd h.2 (by decide))]
    exact WP_some.2 ⟨s1, s2⟩
theorem k_dgts (t : TpK S a0 u n) {b : Nat} (hb : b < n) (h2 : gI S a0 2 = (b : Nat)) (h6 : gI S a0 6 = 0) (g : dgt (u b) = true) : WP (lpF (mX3_next_L180 a0) S) (fun y => gI y a0 2 = (nE u n b : Nat) ∧ (nE u n b - b ≤ 6 → gI y a0 6 = dv u b (nE u n b - b)) ∧ ChW (fun a i => a = a0 ∧ (i = 2 ∨ i = 6)) S y) := by
  have hn := t.b
  obtain ⟨r1, r2, r3, r4⟩ := rnE_spec (P := dgt) (u := u) (n - b) b
  have hw := nE_rng (u := u) hb g
  have ew : rnE dgt u (n - b) b = nE u n b := rfl
  rw [ew] at r1 r2 r3 r4
  refine WP_cnt (nE u n b - b) (fun k s => gI s a0 2 = ((b + k : Nat) : Int) ∧ (k ≤ 6 → gI s a0 6 = dv u b k) ∧ ChW (fun a i => a = a0 ∧ (i = 2 ∨ i = 6)) S s) (by show _ < 1000000000000; omega) ⟨h2, fun _ => h6, ChW.refl⟩ (fun k s hk hs => ?_) (fun s hs => ?_)
  · obtain ⟨s1, s3, s2⟩ := hs
    have tz : TpK s a0 u n := t.ch s2 (fun h => absurd h.2 (by omega)) (fun i h => t.a h.1.symm)
    rw [L180_eq tz (by omega) s1, if_pos ⟨by omega, r3 _ (by omega) (by omega)⟩]
    refine WP_some.2 ⟨?_, fun hk6 => ?_, (s2.sI ⟨rfl, Or.inr rfl⟩).sI ⟨rfl, Or.inl rfl⟩⟩
    · rw [gI_sI_eq, w32_id (by omega)]; omega
    · have hd1 := dv_rng (u := u) (p := b) (k := k) (fun i hi => r3 (b + i) (by omega) (by omega))
      have hd2 := dv_rng (u := u) (p := b) (k := k + 1) (fun i hi => r3 (b + i) (by omega) (by omega))
      have p1 : (10 : Int) ^ k ≤ 10 ^ 5 := by
        have := Nat.pow_le_pow_right (n := 10) (by omega) (show k ≤ 5 by omega)
        exact_mod_cast this
      have p2 : (10 : Int) ^ (k + 1) ≤ 10 ^ 6 := by
        have := Nat.pow_le_pow_right (n := 10) (by omega) (show k + 1 ≤ 6 by omega)
        exact_mod_cast this
      have e5 : (10 : Int) ^ 5 = 100000 := by decide
      have e6 : (10 : Int) ^ 6 = 1000000 := by decide
      rw [hI_sI_i (by decide), gI_sI_eq, s3 (by omega), if_pos (by omega)]
      show w32 (dv u b (k + 1)) = _
      rw [w32_id (by omega)]
  · obtain ⟨s1, s3, s2⟩ := hs
    have tz : TpK s a0 u n := t.ch s2 (fun h => absurd h.2 (by omega)) (fun i h => t.a h.1.symm)
    have e : b + (nE u n b - b) = nE u n b := by omega
    rw [e] at s1
    rw [L180_eq tz (by omega) s1, if_neg (fun h => by have := r4 (by omega); rw [this] at h; exact absurd h.2 (by decide))]
    exact WP_some.2 ⟨s1, s3, s2⟩
/-- the branch of letters -/
theorem k_letters (t : TpK S a0 u n) {b : Nat} (hb : b < n) (h2 : gI S a0 2 = (b : Nat)) (h4 : gI S a0 4 = (b : Nat)) (h7 : gI S a0 7 = 0) (g : ltr (u b) = true) : WP (bX (lpF (mX3_next_L72 a0) S) fun y17 => wf y17 a0 3 (if 12 < w32 ((gI y17 a0 2) - (gI y17 a0 4)) then 6 else 1) fun S18 => wf S18 a0 5 (gI S18 a0 2) fun S19 => bX (if w32 (gI S19 a0 3) = 1 then bX (mX3_wordOf S19 a0) fun x20 => some x20 else some 0) fun y21 => wf S19 a0 7 y21 fun S22 => some S22) (MidP u n S a0 b) := by
  have hn := t.b
  have hw := wE_rng (u := u) hb g
  obtain ⟨k1, k2, k3⟩ := tK_ltr (n := n) hb g
  refine WP_call (k_run t hb h2 g) (fun y hy => ?_)
  obtain ⟨y1, y2⟩ := hy
  have y4 : gI y a0 4 = (b : Nat) := by rw [y2.1 _ _ (fun q => absurd q.2 (by decide))]; exact h4
  have y7 : gI y a0 7 = 0 := by rw [y2.1 _ _ (fun q => absurd q.2 (by decide))]; exact h7
  have yc : ChW (fun a i => a = a0 ∧ (i = 2 ∨ i = 3 ∨ i = 5 ∨ i = 6 ∨ i = 7)) S y := ChW.refl.tr y2 (fun a i q => ⟨q.1, Or.inl q.2⟩)
  rw [y1, y4, w32_id (by omega), wf_eq, wf_eq]
  by_cases gl : 12 < wE u n b - b
  · rw [if_pos (show 12 < ((wE u n b : Nat) : Int) - (b : Int) by omega)]
    rw [if_pos gl] at k3
    rw [if_neg (show ¬ w32 (gI (sI (sI y a0 3 6) a0 5 (gI (sI y a0 3 6) a0 2)) a0 3) = 1 by rw [hI_sI_i (by decide), gI_sI_eq]; decide), bX_some, wf_eq]
    refine WP_some.2 ⟨?_, fun _ => ?_, fun q => absurd k3 q, ((yc.sI ⟨rfl, by omega⟩).sI ⟨rfl, by omega⟩).sI ⟨rfl, by omega⟩⟩
    · rw [hI_sI_i (by decide), hI_sI_i (by decide), hI_sI_i (by decide), y1, k1]
    · rw [hI_sI_i (by decide), hI_sI_i (by decide), gI_sI_eq]; rfl
  · rw [if_neg (show ¬ 12 < ((wE u n b : Nat) : Int) - (b : Int) by omega)]
    rw [if_neg gl] at k3
    rw [if_pos (show w32 (gI (sI (sI y a0 3 1) a0 5 (gI (sI y a0 3 1) a0 2)) a0 3) = 1 by rw [hI_sI_i (by decide), gI_sI_eq]; decide)]
    have y2' : gI (sI y a0 3 1) a0 2 = (wE u n b : Nat) := by rw [hI_sI_i (by decide)]; exact y1
    have tz : TpK (sI (sI y a0 3 1) a0 5 (gI (sI y a0 3 1) a0 2)) a0 u n := t.ch ((yc.sI ⟨rfl, by omega⟩).sI ⟨rfl, by omega⟩) (fun h => absurd h.2 (by omega)) (fun i h => t.a h.1.symm)
    rw [k_wordOf tz (b := b) (e := wE u n b) (by rw [hI_sI_i (by decide), hI_sI_i (by decide)]; exact y4) (by rw [gI_sI_eq, y2', w32_id (by omega)]) (by omega), bX_some, bX_some, wf_eq]
    have hwd := wdOf_rng (u := u) (b := b) (e := wE u n b)
    have f3 : ∀ v w, gI (sI (sI (sI y a0 3 1) a0 5 v) a0 7 w) a0 3 = 1 := fun v w => by rw [hI_sI_i (by decide), hI_sI_i (by decide), gI_sI_eq]; rfl
    have f7 : ∀ v, gI (sI (sI (sI y a0 3 1) a0 5 v) a0 7 (wdOf u b (wE u n b))) a0 7 = wdOf u b (wE u n b) := fun v => by rw [gI_sI_eq, w32_id (by omega)]
    refine WP_some.2 ⟨?_, fun q => ?_, fun _ => ⟨by rw [f3]; decide, fun q => ?_, fun q => ⟨f3 _ _, ?_⟩, fun q => ⟨f3 _ _, by rw [f7, k2]⟩, fun q => ?_, fun q => ?_⟩, ((yc.sI ⟨rfl, by omega⟩).sI ⟨rfl, by omega⟩).sI ⟨rfl, by omega⟩⟩
    · rw [hI_sI_i (by decide), hI_sI_i (by decide), hI_sI_i (by decide), y1, k1]
    · rw [k3] at q; split at q <;> omega
    · rw [k3] at q; split at q <;> omega
    · rw [k3] at q; rw [f7]
      by_cases e : 0 < wdOf u b (wE u n b)
      · rw [if_pos e] at q; omega
      · omega
    · rw [k3] at q; split at q <;> omega
    · rw [k3] at q; split at q <;> omega
/-- the branch of digits -/
theorem k_digits (t : TpK S a0 u n) {b : Nat} (hb : b < n) (h2 : gI S a0 2 = (b : Nat)) (h4 : gI S a0 4 = (b : Nat)) (h6 : gI S a0 6 = 0) (g0 : ltr (u b) = false) (g : dgt (u b) = true) : WP (bX (lpF (mX3_next_L180 a0) S) fun y33 => wf y33 a0 3 (if 6 < w32 ((gI y33 a0 2) - (gI y33 a0 4)) then 6 else 2) fun S34 => some S34) (MidP u n S a0 b) := by
  have hn := t.b
  have hw := nE_rng (u := u) hb g
  obtain ⟨k1, k2, k3⟩ := tK_dgt (n := n) hb g0 g
  refine WP_call (k_dgts t hb h2 h6 g) (fun y hy => ?_)
  obtain ⟨y1, y3, y2⟩ := hy
  have y4 : gI y a0 4 = (b : Nat) := by rw [y2.1 _ _ (fun q => absurd q.2 (by decide))]; exact h4
  have yc : ChW (fun a i => a = a0 ∧ (i = 2 ∨ i = 3 ∨ i = 5 ∨ i = 6 ∨ i = 7)) S y := ChW.refl.tr y2 (fun a i q => ⟨q.1, by omega⟩)
  rw [y1, y4, w32_id (by omega), wf_eq]
  by_cases gl : 6 < nE u n b - b
  · rw [if_pos (by omega)]
    rw [if_pos gl] at k3
    refine WP_some.2 ⟨?_, fun _ => ?_, fun q => absurd k3 q, yc.sI ⟨rfl, by omega⟩⟩
    · rw [hI_sI_i (by decide), y1, k1]
    · rw [gI_sI_eq]; rfl
  · rw [if_neg (by omega)]
    rw [if_neg gl] at k3
    refine WP_some.2 ⟨?_, fun q => ?_, fun _ => ⟨?_, fun q => ?_, fun q => ?_, fun q => ?_, fun q => ⟨?_, ?_⟩, fun q => ?_⟩, yc.sI ⟨rfl, by omega⟩⟩
    · rw [hI_sI_i (by decide), y1, k1]
    · omega
    · rw [gI_sI_eq]; decide
    · omega
    · omega
    · omega
    · rw [gI_sI_eq]; rfl
    · rw [hI_sI_i (by decide), y3 (by omega), k2]
    · omega
def kSgs (S : Sto) (a0 : Nat) (v8 : Int) : Option Sto := wf S a0 2 ((gI S a0 2) + 1) fun S35 => bX (bX (if w32 v8 = 60 then bX (mX3_sign S35 a0 (gI S35 a0 2)) fun x36 => if w32 x36 = 45 then some true else some false else some false) fun b => if b = true then some 1 else some 0) fun y37 => bX (bX (if w32 v8 = 61 then bX (mX3_sign S35 a0 (gI S35 a0 2)) fun x38 => if w32 x38 = 61 then some true else some false else some false) fun b => if b = true then some 1 else some 0) fun y39 => bX (bX (if w32 y37 = 0 then if ¬ w32 y39 = 0 then some true else some false else some true) fun b => if b = true then some 1 else some 0) fun y40 => wf S35 a0 2 ((gI S35 a0 2) + y40) fun S41 => bX (if ¬ w32 y37 = 0 then some 4 else if ¬ w32 y39 = 0 then some 5 else bX (mX3_isSign v8) fun x42 => if ¬ w32 x42 = 0 then some 3 else some 6) fun y43 => wf S41 a0 3 y43 fun S44 => some S44
theorem k_signs (t : TpK S a0 u n) {b : Nat} (hb : b < n) (h2 : gI S a0 2 = (b : Nat)) (h6 : gI S a0 6 = rw8 (u b)) (g0 : ltr (u b) = false) (g : dgt (u b) = false) : WP (kSgs S a0 (rw8 (u b))) (MidP u n S a0 b) := by
  have hn := t.b
  have hu := t.u b hb
  have hr := rw8_rng hu
  obtain ⟨k1, k2, k3⟩ := tK_oth (n := n) hb g0 g
  have t1 : TpK (sI S a0 2 ((b : Int) + 1)) a0 u n := t.ch (ChW.refl.sI (P := PB2 a0) ⟨rfl, rfl⟩) (fun h => absurd h.2 (by omega)) (fun i h => t.a h.1.symm)
  have e2 : gI (sI S a0 2 ((b : Int) + 1)) a0 2 = ((b + 1 : Nat) : Int) := by rw [gI_sI_eq, w32_id (by omega)]; omega
  have c45 : (sgA u n (b + 1) = 45) = (chA u n (b + 1) = 45) := sgA_k t.u (by omega)
  have c61 : (sgA u n (b + 1) = 61) = (chA u n (b + 1) = 61) := sgA_k t.u (by omega)
  have c60' : (rw8 (u b) = 60) = (u b = 60) := rw8_eq hu (by omega)
  have c61' : (rw8 (u b) = 61) = (u b = 61) := rw8_eq hu (by omega)
  have hsg := sgA_rng (n := n) t.u (p := b + 1)
  unfold kSgs
  rw [h2, wf_eq, e2, k_sign t1 (by omega)]
  simp only [bX_some, w32_id hsg, w32_id (show -2147483648 ≤ rw8 (u b) ∧ rw8 (u b) < 2147483648 by omega), c45, c61, c60', c61', k_isSign (show -2147483648 ≤ rw8 (u b) ∧ rw8 (u b) < 2147483648 by omega), rw8_sgn hu, w32_b2i, b2i_eq0]
  have m37 : (bX (if u b = 60 then (if chA u n (b + 1) = 45 then some true else some false) else some false) fun b => if b = true then some (1 : Int) else some 0) = some (b2i (isAr u n b)) := by
    unfold isAr b2i
    by_cases q1 : u b = 60 <;> by_cases q2 : chA u n (b + 1) = 45 <;> simp [q1, q2, bX_some]
  have m39 : (bX (if u b = 61 then (if chA u n (b + 1) = 61 then some true else some false) else some false) fun b => if b = true then some (1 : Int) else some 0) = some (b2i (isEq u n b)) := by
    unfold isEq b2i
    by_cases q1 : u b = 61 <;> by_cases q2 : chA u n (b + 1) = 61 <;> simp [q1, q2, bX_some]
  rw [m37, bX_some, m39, bX_some]
  simp only [w32_b2i, b2i_eq0]
  have cb : ChW (fun a i => a = a0 ∧ (i = 2 ∨ i = 3 ∨ i = 5 ∨ i = 6 ∨ i = 7)) S (sI S a0 2 ((b : Int) + 1)) := ChW.refl.sI ⟨rfl, by omega⟩
  have f2 : ∀ (v w : Int), gI (sI (sI (sI S a0 2 ((b : Int) + 1)) a0 2 v) a0 3 w) a0 2 = w32 v := fun v w => by rw [hI_sI_i (by decide), gI_sI_eq]
  have f3 : ∀ (v w : Int), gI (sI (sI (sI S a0 2 ((b : Int) + 1)) a0 2 v) a0 3 w) a0 3 = w32 w := fun v w => gI_sI_eq _ _ _ _
  have f6 : ∀ (v w : Int), gI (sI (sI (sI S a0 2 ((b : Int) + 1)) a0 2 v) a0 3 w) a0 6 = rw8 (u b) := fun v w => by rw [hI_sI_i (by decide), hI_sI_i (by decide), hI_sI_i (by decide)]; exact h6
  cases hA : isAr u n b with
  | true =>
    rw [hA] at k1 k2 k3
    simp only [true_or, if_true] at k1 k2 k3
    simp only [Bool.true_eq_false, if_false, bX_some, if_true, not_false_eq_true, wf_eq]
    refine WP_some.2 ⟨?_, fun q => by omega, fun _ => ⟨?_, fun q => by omega, fun q => by omega, fun q => by omega, fun q => by omega, fun q => ⟨fun q => by omega, fun q => ?_, fun q => by omega⟩⟩, (cb.sI ⟨rfl, by omega⟩).sI ⟨rfl, by omega⟩⟩
    · rw [f2, k1, w32_id (by omega)]; omega
    · rw [f3]; decide
    · rw [f3]; rfl
  | false =>
    cases hE : isEq u n b with
    | true =>
      have u61 : u b = 61 := (of_decide_eq_true hE).1
      rw [hA, hE] at k1 k2; rw [hA] at k3
      simp only [or_true, if_true, Bool.false_eq_true, if_false, false_or] at k1 k2 k3
      rw [u61, if_pos (by decide)] at k3
      simp only [Bool.true_eq_false, if_false, bX_some, if_true, not_false_eq_true, not_true_eq_false, wf_eq]
      refine WP_some.2 ⟨?_, fun q => by omega, fun _ => ⟨?_, fun q => by omega, fun q => by omega, fun q => by omega, fun q => by omega, fun q => ⟨fun q => by omega, fun q => by omega, fun q => ?_⟩⟩, (cb.sI ⟨rfl, by omega⟩).sI ⟨rfl, by omega⟩⟩
      · rw [f2, k1, w32_id (by omega)]; omega
      · rw [f3]; decide
      · rw [f3]; rfl
    | false =>
      rw [hA, hE] at k1 k2
      rw [hA] at k3
      simp only [or_self, Bool.false_eq_true, if_false, false_or] at k1 k2 k3
      simp only [if_true, bX_some, if_false, Bool.false_eq_true, not_true_eq_false, wf_eq]
      cases hS : sgn (u b) with
      | true =>
        rw [hS, if_pos rfl] at k3
        have us : u b < 128 := by have := of_decide_eq_true hS; omega
        have er : rw8 (u b) = u b := by unfold rw8; rw [if_pos us]
        simp only [Bool.true_eq_false, not_false_eq_true, if_true, bX_some]
        refine WP_some.2 ⟨?_, fun q => by omega, fun _ => ⟨?_, fun q => by omega, fun q => by omega, fun q => by omega, fun q => by omega, fun q => ⟨fun q => ⟨?_, ?_⟩, fun q => by omega, fun q => by omega⟩⟩, (cb.sI ⟨rfl, by omega⟩).sI ⟨rfl, by omega⟩⟩
        · rw [f2, k1, w32_id (by omega)]; omega
        · rw [f3]; decide
        · rw [f3]; rfl
        · rw [f6, er, k2]
      | false =>
        rw [hS, if_neg (by decide)] at k3
        simp only [not_true_eq_false, if_false, bX_some]
        refine WP_some.2 ⟨?_, fun q => ?_, fun q => absurd k3 q, (cb.sI ⟨rfl, by omega⟩).sI ⟨rfl, by omega⟩⟩
        · rw [f2, k1, w32_id (by omega)]; omega
        · rw [f3]; rfl
/-- the next token, where no fault is yet -/
theorem k_next0 (t : TpK S a0 u n) {p : Nat} (hp : p ≤ n) (h2 : gI S a0 2 = (p : Nat)) (h8 : gI S a0 8 = 0) : WP (mX3_next S a0) (fun y => (tK u n (skE u n p) = 4 → gI y a0 8 = 1 ∧ gI y a0 9 = (skE u n p : Nat)) ∧ (tK u n (skE u n p) ≠ 4 → ScP u n y a0 (skE u n p)) ∧ ChW (PSc a0) S y) := by
  have hn := t.b
  have hs := skE_rng (u := u) hp
  unfold mX3_next mX3_ok
  rw [h8, bX_some, if_neg (by decide)]
  refine WP_call (k_blanks t hp h2) (fun y hy => ?_)
  obtain ⟨y2, yc⟩ := hy
  generalize skE u n p = b at *
  have ty : TpK y a0 u n := t.ch yc (fun h => absurd h.2 (by omega)) (fun i h => t.a h.1.symm)
  have y8 : gI y a0 8 = 0 := by rw [yc.1 _ _ (fun q => absurd q.2 (by decide))]; exact h8
  rw [y2, wf_eq, wf_eq]
  generalize hz : sI (sI y a0 4 (b : Int)) a0 7 0 = z
  have zc : ChW (PSc a0) S z := by
    rw [← hz]; exact ((ChW.refl.tr yc (fun a i q => ⟨q.1, by have := q.2; omega⟩)).sI ⟨rfl, by omega⟩).sI ⟨rfl, by omega⟩
  have tz : TpK z a0 u n := t.chS zc
  have z2 : gI z a0 2 = (b : Nat) := by rw [← hz, hI_sI_i (by decide), hI_sI_i (by decide)]; exact y2
  have z4 : gI z a0 4 = (b : Nat) := by rw [← hz, hI_sI_i (by decide), gI_sI_eq, w32_id (by omega)]
  have z7 : gI z a0 7 = 0 := by rw [← hz, gI_sI_eq]; rfl
  have z8 : gI z a0 8 = 0 := by rw [← hz, hI_sI_i (by decide), hI_sI_i (by decide)]; exact y8
  rw [z2, tz.n, w32_id (by omega), w32_id (by omega)]
  by_cases e : b = n
  · rw [if_pos (by omega), wf_eq]
    have k5 : tK u n b = 5 := tK_5.2 (by omega)
    have eE : tE u n b = b := tE_n (by omega)
    refine WP_some.2 ⟨fun q => by omega, fun _ => ⟨?_, ?_, ?_, ?_, by omega, fun _ => ?_, fun q => by omega, fun q => by omega, fun q => by omega, fun q => by omega⟩, (zc.sI ⟨rfl, by omega⟩).sI ⟨rfl, by omega⟩⟩
    · rw [hI_sI_i (by decide), hI_sI_i (by decide)]; exact z8
    · rw [hI_sI_i (by decide), hI_sI_i (by decide), eE]; exact z2
    · rw [hI_sI_i (by decide), hI_sI_i (by decide)]; exact z4
    · rw [gI_sI_eq, hI_sI_i (by decide), z2, w32_id (by omega), eE]
    · rw [hI_sI_i (by decide), gI_sI_eq]; rfl
  · rw [if_neg (by omega), gk_tp tz.r, rdI_e (by omega), Int.toNat_natCast, tz.t b (by omega), wf_eq]
    have hu := t.u b (by omega)
    have hr := rw8_rng hu
    generalize hx : sI z a0 6 (rw8 (u b)) = x
    have xc : ChW (PSc a0) S x := by rw [← hx]; exact zc.sI ⟨rfl, by omega⟩
    have tx : TpK x a0 u n := t.chS xc
    have x2 : gI x a0 2 = (b : Nat) := by rw [← hx, hI_sI_i (by decide)]; exact z2
    have x4 : gI x a0 4 = (b : Nat) := by rw [← hx, hI_sI_i (by decide)]; exact z4
    have x7 : gI x a0 7 = 0 := by rw [← hx, hI_sI_i (by decide)]; exact z7
    have x8 : gI x a0 8 = 0 := by rw [← hx, hI_sI_i (by decide)]; exact z8
    have x6 : gI x a0 6 = rw8 (u b) := by rw [← hx, gI_sI_eq, w32_id (by omega)]
    rw [k_isLetter (by omega), bX_some, rw8_ltr hu, k_isDigit (by omega), rw8_dgt hu]
    simp only [w32_b2i, b2i_eq0, bX_some]
    have mid : ∀ {m : Option Sto}, WP m (MidP u n x a0 b) → WP (bX m fun y45 => wf y45 a0 5 (gI y45 a0 2) fun S46 => bX (if w32 (gI S46 a0 3) = 6 then bX (mX3_fail S46 a0 1 (gI S46 a0 4)) fun x47 => some x47 else some S46) fun y48 => some y48) (fun y => (tK u n b = 4 → gI y a0 8 = 1 ∧ gI y a0 9 = (b : Nat)) ∧ (tK u n b ≠ 4 → ScP u n y a0 b) ∧ ChW (PSc a0) S y) := by
      intro m hm
      refine WP_call hm (fun w hw => ?_)
      obtain ⟨w2, wb, wf', wc⟩ := hw
      have w4 : gI w a0 4 = (b : Nat) := by rw [wc.1 _ _ (fun q => absurd q.2 (by decide))]; exact x4
      have w8' : gI w a0 8 = 0 := by rw [wc.1 _ _ (fun q => absurd q.2 (by decide))]; exact x8
      have cw : ChW (PSc a0) S w := xc.tr wc (fun a i q => ⟨q.1, by have := q.2; omega⟩)
      have hE := (tE_rng (u := u) (show b < n by omega))
      rw [w2, wf_eq, hI_sI_i (by decide), w32_gI]
      by_cases k4 : tK u n b = 4
      · rw [if_pos (wb k4)]
        unfold mX3_fail
        rw [hI_sI_i (by decide), hI_sI_i (by decide), w8', w4, if_neg (by decide), wf_eq, wf_eq, bX_some, bX_some]
        refine WP_some.2 ⟨fun _ => ⟨?_, ?_⟩, fun q => absurd k4 q, ((cw.sI ⟨rfl, by omega⟩).sI ⟨rfl, by omega⟩).sI ⟨rfl, by omega⟩⟩
        · rw [hI_sI_i (by decide), gI_sI_eq]; rfl
        · rw [gI_sI_eq, w32_id (by omega)]
      · obtain ⟨wn, wF⟩ := wf' k4
        rw [if_neg wn, bX_some]
        refine WP_some.2 ⟨fun q => absurd q k4, fun _ => ⟨?_, ?_, ?_, ?_, k4, ?_⟩, cw.sI ⟨rfl, by omega⟩⟩
        · rw [hI_sI_i (by decide)]; exact w8'
        · rw [hI_sI_i (by decide)]; exact w2
        · rw [hI_sI_i (by decide)]; exact w4
        · rw [gI_sI_eq, w32_id (by omega)]
        · unfold Fld at wF ⊢
          rw [hI_sI_i (by decide), hI_sI_i (by decide), hI_sI_i (by decide)]
          exact wF
    refine mid ?_
    cases hl : ltr (u b) with
    | true =>
      rw [if_pos (by decide)]
      exact k_letters tx (by omega) x2 x4 x7 hl
    | false =>
      rw [if_neg (by decide)]
      cases hd : dgt (u b) with
      | true =>
        rw [if_pos (by decide), wf_eq]
        have c6 : ChW (PSc a0) x (sI x a0 6 0) := ChW.refl.sI ⟨rfl, by omega⟩
        refine (k_digits (tx.chS c6) (by omega) (by rw [hI_sI_i (by decide)]; exact x2) (by rw [hI_sI_i (by decide)]; exact x4) (by rw [gI_sI_eq]; rfl) hl hd).mono (fun w hw => ?_)
        exact ⟨hw.1, hw.2.1, hw.2.2.1, ((ChW.refl (S := x)).sI ⟨rfl, by omega⟩).tr hw.2.2.2 (fun _ _ q => q)⟩
      | false =>
        rw [if_neg (by decide)]
        exact k_signs tx (by omega) x2 x6 hl hd
end KNX
