/-! faults: how many, where -/
section FLT
variable {S : Sto} {L k : Nat} {C : Chp}
theorem m_inputsOf (r : RefK S k C) (w : WFC C) (hk : k < 4) {τ : Type} {g : Nat} (hg : g < kG C) {K : Int → Option τ} : rdI 48 S 2117 ((12 * k + kC C g : Nat) : Int) K = K (kAr C g : Int) := by
  have hn := w.nums
  have hc := w.c hg
  have hl := w.li hc.2
  have e := (r.2.2.2.2.2 _ hc.2).1
  rw [hl.1] at e
  rw [rdI_e (by omega), Int.toNat_natCast, e]; rfl
theorem k_faults (r : RepK S L C) (w : WFC C) : mX19_faults S L = some (kFa C : Int) := by
  have hn := w.nums
  have eg := r.1.2.2.2.1
  rw [w.g] at eg
  unfold mX19_faults
  rw [k_nets r w, bX_some]
  have key : WP (lpF (mX19_faults_L9 S L) (2 * ((kN C : Nat) : Int), 0)) (fun z => z = (kFa C : Int)) := by
    refine WP_cnt (kG C) (fun i z => z.2 = (i : Int) ∧ z.1 = 2 * (kN C : Int) + 2 * (kArs C i : Int)) (by unfold cFU; omega) ⟨rfl, by show 2 * ((kN C : Nat) : Int) = 2 * (kN C : Int) + 2 * ((0 : Nat) : Int); omega⟩ (fun i z hi hI => ?_) (fun z hI => ?_)
    · obtain ⟨b1, b2⟩ := hI
      have eA : kArs C (i + 1) = kArs C i + kAr C i := rfl
      unfold mX19_faults_L9
      rw [b1, eg, w32_id (by omega), w32_id (by omega), if_pos (by omega), k_inputsOf r w (by omega), bX_some, Int.toNat_natCast]
      exact WP_some.2 ⟨by show (i : Int) + 1 = _; omega, by show z.1 + 2 * (kAr C i : Int) = _; omega⟩
    · obtain ⟨b1, b2⟩ := hI
      unfold mX19_faults_L9
      rw [b1, eg, w32_id (by omega), if_neg (by omega)]
      exact WP_some.2 (by show z.1 = _; unfold kFa; omega)
  rw [key.of, bX_some]
theorem m_faultCount (r : RefK S k C) (w : WFC C) (hk : k < 4) : mX23_faultCount S (k : Int) = some (kFa C : Int) := by
  have hn := w.nums
  have eg := r.1.2.2.2.1
  rw [w.g] at eg
  unfold mX23_faultCount
  rw [m_netCount r w hk, bX_some]
  have key : WP (lpF (mX23_faultCount_L10 S (k : Int)) (2 * ((kN C : Nat) : Int), 0)) (fun z => z = (kFa C : Int)) := by
    refine WP_cnt (kG C) (fun i z => z.2 = (i : Int) ∧ z.1 = 2 * (kN C : Int) + 2 * (kArs C i : Int)) (by unfold cFU; omega) ⟨rfl, by show 2 * ((kN C : Nat) : Int) = 2 * (kN C : Int) + 2 * ((0 : Nat) : Int); omega⟩ (fun i z hi hI => ?_) (fun z hI => ?_)
    · obtain ⟨b1, b2⟩ := hI
      have eA : kArs C (i + 1) = kArs C i + kAr C i := rfl
      unfold mX23_faultCount_L10
      rw [rdI_e (by omega), Int.toNat_natCast, b1, eg, w32_id (by omega), w32_id (by omega), if_pos (by omega), m_cellOf r w hk (by omega), bX_some, Int.toNat_natCast, m_inputsOf r w hk hi]
      exact WP_some.2 ⟨by show (i : Int) + 1 = _; omega, by show z.1 + 2 * (kAr C i : Int) = _; omega⟩
    · obtain ⟨b1, b2⟩ := hI
      unfold mX23_faultCount_L10
      rw [rdI_e (by omega), Int.toNat_natCast, b1, eg, w32_id (by omega), if_neg (by omega)]
      exact WP_some.2 (by show z.1 = _; unfold kFa; omega)
  rw [key.of, bX_some]
theorem kPin_step {f g l : Nat} (h : ¬ l < kAr C g) : kPin C (f + 1) g l = kPin C f (g + 1) (l - kAr C g) := if_neg h
theorem kPin_stop {f g l : Nat} (h : l < kAr C g) : kPin C (f + 1) g l = 3 * g + l := if_pos h
/-- an input's place: the class -/
theorem k_pinOf (r : RepK S (344 + 22 * k) C) (w : WFC C) (hk : k < 4) (hR : gR S 264 0 = 344 + 22 * k) {f : Nat} (h1 : 2 * kN C ≤ f) (h2 : f < kFa C) : mX19_pinOf S (f : Int) = some (kFpn C f) := by
  have hn := w.nums
  have fa := kFa_le w
  have eF : kFa C = 2 * kN C + 2 * kArs C (kG C) := rfl
  have d : aDiv ((f : Int) - 2 * ((kN C : Nat) : Int)) 2 = (((f - 2 * kN C) / 2 : Nat) : Int) := by
    rw [aDiv_nn (by omega) (by omega)]; omega
  obtain ⟨x, hx⟩ : ∃ x, (f - 2 * kN C) / 2 = x := ⟨_, rfl⟩
  have hx' : x < kArs C (kG C) := by omega
  have key : WP (lpF (mX19_pinOf_L16 S) ((x : Int), 0)) (fun z => 3 * z.2 + z.1 = (kPin C (kG C) 0 x : Int)) := by
    refine WP_cnt (kG C) (fun i z => ∃ l : Nat, z.2 = (i : Int) ∧ z.1 = (l : Int) ∧ l + kArs C i < kArs C (kG C) ∧ kPin C (kG C - i) i l = kPin C (kG C) 0 x) (by unfold cFU; omega) ⟨x, rfl, rfl, by show x + 0 < _; omega, rfl⟩ (fun i z hi hI => ?_) (fun z hI => ?_)
    · obtain ⟨l, b1, b2, b3, b4⟩ := hI
      have ar := w.ar hi
      have eA : kArs C (i + 1) = kArs C i + kAr C i := rfl
      rw [show kG C - i = (kG C - (i + 1)) + 1 by omega] at b4
      unfold mX19_pinOf_L16
      rw [hR, gk_chip hk, b1, b2, k_inputsOf r w (by omega), bX_some, Int.toNat_natCast, w32_id (by omega), w32_id (by omega)]
      by_cases q : l < kAr C i
      · rw [if_neg (by omega)]
        rw [kPin_stop q] at b4
        exact WP_some.2 (by show 3 * (i : Int) + (l : Int) = _; omega)
      · rw [if_pos (by omega), gk_chip hk, k_inputsOf r w (by omega), bX_some, Int.toNat_natCast]
        rw [kPin_step q] at b4
        exact WP_some.2 ⟨l - kAr C i, by show (i : Int) + 1 = _; omega, by show (l : Int) - (kAr C i : Int) = _; omega, by omega, b4⟩
    · obtain ⟨l, b1, b2, b3, b4⟩ := hI
      omega
  obtain ⟨z, gz, hz⟩ := key
  unfold mX19_pinOf
  rw [hR, gk_chip hk, k_nets r w, bX_some, gnz_nz (by decide), d, hx, gz, bX_some, hz]
  unfold kFpn
  rw [if_neg (by omega), hx]
/-- a fault's place: the reference -/
theorem m_findFault (r : RefK S k C) (w : WFC C) (hk : k < 4) {f : Nat} (h2 : f < kFa C) : WP (mX23_findFault S (k : Int) (f : Int)) (fun z => gI z 2000 221 = kFst C f ∧ gI z 2000 222 = kFpn C f ∧ Ch 2000 2000 S z) := by
  have hn := w.nums
  have fa := kFa_le w
  have eF : kFa C = 2 * kN C + 2 * kArs C (kG C) := rfl
  have d : aDiv (f : Int) 2 = ((f / 2 : Nat) : Int) := by
    rw [aDiv_nn (by omega) (by omega)]; omega
  unfold mX23_findFault
  rw [gnz_nz (by decide), wf_eq, wf_eq]
  have r2 : RefK (sI (sI S 2000 221 (-1)) 2000 222 (-1)) k C := (r.sI (by omega)).sI (by omega)
  have c2 : Ch 2000 2000 S (sI (sI S 2000 221 (-1)) 2000 222 (-1)) := (Ch.refl.sI (by omega)).sI (by omega)
  rw [m_netCount r2 w hk, bX_some, d, w32_id (by omega), w32_id (by omega)]
  unfold kFst kFpn
  by_cases q : f < 2 * kN C
  · rw [if_pos (by omega), if_pos q, if_pos q, wf_eq]
    refine WP_some.2 ⟨?_, ?_, c2.sI (by omega)⟩
    · rw [gI_set, w32_id (by omega)]
    · rw [hI_sI_i (by omega), gI_set]; rfl
  · rw [if_neg (by omega), if_neg q, if_neg q, bX_some]
    obtain ⟨x, hx⟩ : ∃ x, (f - 2 * kN C) / 2 = x := ⟨_, rfl⟩
    have hx' : x < kArs C (kG C) := by omega
    rw [show ((f / 2 : Nat) : Int) - ((kN C : Nat) : Int) = (x : Int) by omega, hx]
    have key : WP (lpF (mX23_findFault_L40 (sI (sI S 2000 221 (-1)) 2000 222 (-1)) (k : Int)) ((x : Int), 0)) (fun z => 3 * z.2 + z.1 = (kPin C (kG C) 0 x : Int) ∧ 0 ≤ z.2 ∧ z.2 < 150 ∧ 0 ≤ z.1 ∧ z.1 < 3) := by
      refine WP_cnt (kG C) (fun i z => ∃ l : Nat, z.2 = (i : Int) ∧ z.1 = (l : Int) ∧ l + kArs C i < kArs C (kG C) ∧ kPin C (kG C - i) i l = kPin C (kG C) 0 x) (by unfold cFU; omega) ⟨x, rfl, rfl, by show x + 0 < _; omega, rfl⟩ (fun i z hi hI => ?_) (fun z hI => ?_)
      · obtain ⟨l, b1, b2, b3, b4⟩ := hI
        have ar := w.ar hi
        have eA : kArs C (i + 1) = kArs C i + kAr C i := rfl
        rw [show kG C - i = (kG C - (i + 1)) + 1 by omega] at b4
        unfold mX23_findFault_L40
        rw [b1, b2, m_cellOf r2 w hk (by omega), bX_some, Int.toNat_natCast, m_inputsOf r2 w hk hi, w32_id (by omega), w32_id (by omega)]
        by_cases q : l < kAr C i
        · rw [if_neg (by omega)]
          rw [kPin_stop q] at b4
          exact WP_some.2 ⟨by show 3 * (i : Int) + (l : Int) = _; omega, by show 0 ≤ (i : Int); omega, by show (i : Int) < 150; omega, by show 0 ≤ (l : Int); omega, by show (l : Int) < 3; omega⟩
        · rw [if_pos (by omega), bX_some, m_inputsOf r2 w hk hi]
          rw [kPin_step q] at b4
          exact WP_some.2 ⟨l - kAr C i, by show (i : Int) + 1 = _; omega, by show (l : Int) - (kAr C i : Int) = _; omega, by omega, b4⟩
      · obtain ⟨l, b1, b2, b3, b4⟩ := hI
        omega
    refine WP_call key (fun z hz => ?_)
    rw [wf_eq]
    refine WP_some.2 ⟨?_, ?_, c2.sI (by omega)⟩
    · rw [hI_sI_i (by omega), hI_sI_i (by omega), gI_set]; rfl
    · rw [gI_set, w32_id (by omega), hz.1]
end FLT
