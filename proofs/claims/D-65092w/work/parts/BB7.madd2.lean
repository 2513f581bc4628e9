/-! a pattern added to the reference's set: the whole -/
section MADD2
variable {S : Sto} {k : Nat} {C : Chp}
def putS (set : Nat → Int) (n p i : Nat) : Int := if i = n then (p : Int) else set i
theorem m_addPattern (r : RefK S k C) (w : WFC C) (hk : k < 4) {set : Nat → Int} {n p : Nat} (g : MSet S k C set n) (hn : n < 1224) (hp : p < 2 ^ kB C) :
    WP (mX23_addPattern S (k : Int) (p : Int)) (fun z => MSet z k C (putS set n p) (n + 1) ∧ gI z 2174 (1280 * k + n) = 0 ∧ (∀ j, j ≠ 1280 * k + n → gI z 2174 j = gI S 2174 j) ∧ OutM k S z) := by
  have hnn := w.nums
  have fa := kFa_le w
  have p12 : 2 ^ kB C ≤ 4096 := Nat.pow_le_pow_right (n := 2) (by omega) hnn.2.1
  have s6 : aShr (p : Int) 6 = ((p / 64 : Nat) : Int) := by rw [aShr_6, w32_id (by omega)]; omega
  have zt : (1280 * (k : Int) + (n : Int)).toNat = 1280 * k + n := by omega
  unfold mX23_addPattern
  rw [rdI_e (by omega), Int.toNat_natCast, g.1, wrI_e (by omega), zt, wrI_e (by omega), zt]
  obtain ⟨T, hT⟩ : ∃ T, sI (sI S 2173 (1280 * k + n) (p : Int)) 2174 (1280 * k + n) 0 = T := ⟨_, rfl⟩
  have kT : KeM S T := by rw [← hT]; exact (KeM.refl.sI (by omega)).sI (by omega)
  have t2 : ∀ j, gI T 2172 j = gI S 2172 j := fun j => by rw [← hT, hI_sI_a (by omega), hI_sI_a (by omega)]
  have t3 : ∀ j, gI T 2173 j = if j = 1280 * k + n then (p : Int) else gI S 2173 j := fun j => by
    rw [← hT, hI_sI_a (by omega)]
    by_cases q : j = 1280 * k + n
    · rw [q, gI_set, if_pos rfl, w32_id (by omega)]
    · rw [hI_sI_i q, if_neg q]
  have t4 : ∀ j, gI T 2174 j = if j = 1280 * k + n then 0 else gI S 2174 j := fun j => by
    rw [← hT]
    by_cases q : j = 1280 * k + n
    · rw [q, gI_set, if_pos rfl]; rfl
    · rw [hI_sI_i q, hI_sI_a (by omega), if_neg q]
  have tL : ∀ j, gL T 2175 j = gL S 2175 j := fun j => by rw [← hT]; rfl
  rw [hT]
  have k1 : WP (lpF (mX23_addPattern_L36 (k : Int) (n : Int)) (0, T)) (fun z => (∀ a j, gI z a j = gI T a j) ∧ (∀ j, j < 20 → gL z 2175 (20 * (1280 * k + n) + j) = 0) ∧ ∀ j, (j < 20 * (1280 * k + n) ∨ 20 * (1280 * k + n + 1) ≤ j) → gL z 2175 j = gL T 2175 j) := by
    refine WP_cnt 20 (fun m z => z.1 = (m : Int) ∧ (∀ a j, gI z.2 a j = gI T a j) ∧ (∀ j, j < m → gL z.2 2175 (20 * (1280 * k + n) + j) = 0) ∧ ∀ j, (j < 20 * (1280 * k + n) ∨ 20 * (1280 * k + n + 1) ≤ j) → gL z.2 2175 j = gL T 2175 j) (by unfold cFU; omega) ⟨rfl, fun _ _ => rfl, fun j hj => absurd hj (Nat.not_lt_zero _), fun _ _ => rfl⟩ (fun m z hm hI => ?_) (fun z hI => ?_)
    · obtain ⟨b1, b2, b3, b4⟩ := hI
      have z1 : (20 * (1280 * (k : Int) + (n : Int)) + (m : Int)).toNat = 20 * (1280 * k + n) + m := by omega
      unfold mX23_addPattern_L36
      rw [b1, w32_id (by omega), if_pos (by omega), wrL_e (by omega), z1]
      refine WP_some.2 ⟨by show (m : Int) + 1 = _; omega, fun a j => b2 a j, fun j hj => ?_, fun j hj => ?_⟩
      · dsimp only
        by_cases q : j = m
        · rw [q, gL_sLe ⟨rfl, rfl⟩]
        · rw [gL_sLn (.inr (by omega))]; exact b3 j (by omega)
      · dsimp only; rw [gL_sLn (.inr (by omega))]; exact b4 j hj
    · obtain ⟨b1, b2, b3, b4⟩ := hI
      unfold mX23_addPattern_L36
      rw [b1, w32_id (by omega), if_neg (by omega)]
      exact WP_some.2 ⟨b2, b3, b4⟩
  refine WP_call k1 (fun y hy => ?_)
  obtain ⟨y1, y2, y3⟩ := hy
  have ky : KeM S y := fun a i q => (y1 a i).trans (kT a i q)
  rw [s6]
  refine WP_callF (m_layRight (ky.K r) w hk (by omega)) fr_mX23_layRight (fun x hx hg => ?_)
  have kx := ky.tr (KeM.fr hg rfl)
  have xL : ∀ j, gL x 2175 j = gL y 2175 j := fun j => hg.el rfl
  refine WP_call (m_add80 (kx.K r) w hk hn hp hx (fun j hj => (xL _).trans (y2 j hj))) (fun z hz => ?_)
  obtain ⟨z1, z2, z3⟩ := hz
  have i2 : ∀ j, gI z 2172 j = gI S 2172 j := fun j => (z1 2172 j (.inl rfl)).trans ((hg.ei rfl).trans ((y1 2172 j).trans (t2 j)))
  have i3 : ∀ j, gI z 2173 j = if j = 1280 * k + n then (p : Int) else gI S 2173 j := fun j => (z1 2173 j (.inr (.inl rfl))).trans ((hg.ei rfl).trans ((y1 2173 j).trans (t3 j)))
  have i4 : ∀ j, gI z 2174 j = if j = 1280 * k + n then 0 else gI S 2174 j := fun j => (z1 2174 j (.inr (.inr (.inl rfl)))).trans ((hg.ei rfl).trans ((y1 2174 j).trans (t4 j)))
  rw [rdI_e (by omega), Int.toNat_natCast, i2, g.1, wrI_e (by omega), Int.toNat_natCast]
  refine WP_some.2 ⟨⟨by rw [gI_set, w32_id (by omega)]; omega, by omega, fun i hi => ?_, fun i f hi hf => ?_⟩, ?_, fun j hj => ?_, ⟨fun i q => by rw [hI_sI_i q, i2], fun i q => ⟨by rw [hI_sI_a (by omega), i3, if_neg (by omega)], by rw [hI_sI_a (by omega), i4, if_neg (by omega)]⟩, fun i q => by rw [gL_sI, z2 _ (by omega), xL, y3 _ (by omega), tL], fun i => by rw [hI_sI_a (by omega), z1 _ _ (.inr (.inr (.inr rfl)))]; exact (hg.ei rfl).trans ((y1 _ _).trans (by rw [← hT, hI_sI_a (by omega), hI_sI_a (by omega)]))⟩⟩
  · rw [hI_sI_a (by omega), i3]
    unfold putS
    by_cases q : i = n
    · rw [if_pos (by omega), if_pos q]
    · rw [if_neg (by omega), if_neg q]; exact g.2.2.1 i (by omega)
  · rw [gL_sI]
    unfold putS
    by_cases q : i = n
    · rw [if_pos q, q, z3 f hf, Int.toNat_natCast]
    · rw [if_neg q, z2 _ (by omega), xL, y3 _ (by omega), tL]; exact g.2.2.2 i f (by omega) hf
  · rw [hI_sI_a (by omega), i4, if_pos rfl]
  · rw [hI_sI_a (by omega), i4, if_neg hj]
end MADD2
