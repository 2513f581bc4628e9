/-! changes -/
section CHG
variable {c : Nat} {S : Sto} {k L : Nat} {C : Chp} {a b : Nat}
theorem kFl_lmx (w : WFC C) (wp : WFP C) {n : Nat} (hn : n ≤ kN C) (i : Nat) : 0 ≤ lmx ((kFl C a b n).take i) ∧ lmx ((kFl C a b n).take i) ≤ 1000000 :=
  lmx_rng (fun t ht => by have := kFl_mem w wp hn (List.mem_of_mem_take ht); omega)
theorem k_changesN (w : WFC C) (h : KWs S L C a b (kN C) (kFl C a b (kN C))) {n : Nat} (hn : n < kN C) : mX18_changes S (n : Int) = some ((kWo C a b (n + 1) : Int) - (kWo C a b n : Int)) := by
  have hnn := w.nums
  have f := h.2.1 n hn
  have zt : ((n : Int) + 1).toNat = n + 1 := by omega
  unfold mX18_changes
  rw [w32_id (by omega), if_neg (by omega), rdI_e (by omega), zt, f.2, rdI_e (by omega), Int.toNat_natCast, f.1, bX_some]
theorem k_changesL (h : KWs S L C a b (kN C) (kFl C a b (kN C))) : mX18_changes S (-1) = some (lmx (kFl C a b (kN C))) := by
  unfold mX18_changes
  rw [w32_id (by omega), if_pos rfl, h.2.2.2.1, bX_some]
theorem m_latest (w : WFC C) (wp : WFP C) (h20 : kWo C a b (kN C) ≤ 20000) (h : MWs S C a b (kN C) (kFl C a b (kN C))) : lpF (mX23_changes_L76 S) (0, 0) = some (lmx (kFl C a b (kN C))) := by
  have fl := kFl_len (C := C) (a := a) (b := b) (n := kN C)
  refine WP.of ?_
  refine WP_cnt (kWo C a b (kN C)) (fun i z => z.2 = (i : Int) ∧ z.1 = lmx ((kFl C a b (kN C)).take i)) (by unfold cFU; omega) ⟨rfl, rfl⟩ (fun i z hi hI => ?_) (fun z hI => ?_)
  · obtain ⟨z0, z1⟩ := z
    obtain ⟨b1, b2⟩ := hI
    dsimp only at b1 b2
    subst b1
    have hl : i < (kFl C a b (kN C)).length := by omega
    obtain ⟨s, hs⟩ : ∃ s, (kFl C a b (kN C))[i]? = some s := ⟨_, List.getElem?_eq_getElem hl⟩
    have e : gI S 2168 i = s := h.2.2 _ _ hs
    have rr := kFl_mem w wp (Nat.le_refl _) (List.mem_of_getElem? hs)
    have lr := kFl_lmx (a := a) (b := b) w wp (Nat.le_refl (kN C)) i
    have tk : (kFl C a b (kN C)).take (i + 1) = (kFl C a b (kN C)).take i ++ [s] := by rw [List.take_add_one, hs]; rfl
    have mf := max_facts (lmx ((kFl C a b (kN C)).take i)) s
    unfold mX23_changes_L76
    dsimp only
    rw [h.2.1, fl, w32_id (by omega), w32_id (by omega), if_pos (by omega), rdI_e (by omega), Int.toNat_natCast, e, b2, w32_id (by omega), w32_id (by omega)]
    by_cases q : lmx ((kFl C a b (kN C)).take i) < s
    · rw [if_pos q, rdI_e (by omega), Int.toNat_natCast, e, bX_some]
      refine WP_some.2 ⟨by show (i : Int) + 1 = _; omega, ?_⟩
      rw [tk, lmx_snoc]
      dsimp only
      omega
    · rw [if_neg q, bX_some]
      refine WP_some.2 ⟨by show (i : Int) + 1 = _; omega, ?_⟩
      rw [tk, lmx_snoc]
      dsimp only
      omega
  · obtain ⟨b1, b2⟩ := hI
    unfold mX23_changes_L76
    rw [h.2.1, fl, b1, w32_id (by omega), if_neg (by omega)]
    exact WP_some.2 (by show z.1 = _; rw [b2, List.take_of_length_le (by omega)])
/-- the answer -/
def kChg (C : Chp) (a b : Nat) (p : Int) : Int := if p = -1 then lmx (kFl C a b (kN C)) else (kWo C a b (p.toNat + 1) : Int) - (kWo C a b p.toNat : Int)
theorem k_changes (w : WFC C) (h : KWs S L C a b (kN C) (kFl C a b (kN C))) {p : Int} (hp : -1 ≤ p ∧ p < (kN C : Int)) : mX18_changes S p = some (kChg C a b p) := by
  unfold kChg
  by_cases q : p = -1
  · rw [if_pos q, q, k_changesL h]
  · obtain ⟨n, rfl⟩ : ∃ n : Nat, p = (n : Int) := ⟨p.toNat, by omega⟩
    rw [if_neg q, Int.toNat_natCast, k_changesN w h (by omega)]
theorem m_changesEnd (w : WFC C) (wp : WFP C) (h20 : kWo C a b (kN C) ≤ 20000) (h : MWs S C a b (kN C) (kFl C a b (kN C))) {p : Int} (hp : -1 ≤ p ∧ p < (kN C : Int)) : (bX (lpF (mX23_changes_L76 S) (0, 0)) fun y11 => bX (if w32 p = (-1) then some y11 else rdI 257 S 2169 (p + 1) fun v12 => rdI 257 S 2169 p fun v13 => some (v12 - v13)) fun y14 => some (y14, S)) = some (kChg C a b p, S) := by
  have hnn := w.nums
  rw [m_latest w wp h20 h, bX_some, w32_id (by omega)]
  unfold kChg
  by_cases q : p = -1
  · rw [if_pos q, if_pos q, bX_some]
  · obtain ⟨n, rfl⟩ : ∃ n : Nat, p = (n : Int) := ⟨p.toNat, by omega⟩
    have f := h.1 n (by omega)
    have zt : ((n : Int) + 1).toNat = n + 1 := by omega
    rw [if_neg q, if_neg q, rdI_e (by omega), zt, f.2, rdI_e (by omega), Int.toNat_natCast, f.1, bX_some]
/-- the reference's gate keeper -/
theorem m_netOrAll {S1 : Sto} (ch : mX23_isChip S1 (k : Int) = some 1) (m1 : RefK S1 k C) (w : WFC C) (hk : k < 4) {p : Int} (hp : i32 p) :
    (if ¬ w32 (1 : Int) = 0 then if ¬ w32 p = (-1) then bX (mX23_isNet S1 (k : Int) p) fun x2 => if w32 x2 = 0 then some true else some false else some false else some true) = some (!decide (-1 ≤ p ∧ p < (kN C : Int))) := by
  have hp' := hp
  unfold i32 at hp'
  rw [if_pos (by decide), w32_id hp']
  by_cases q : p = -1
  · rw [if_neg (fun g => g q), decide_eq_true (by omega)]; rfl
  · rw [if_pos q]
    by_cases q1 : 0 ≤ p ∧ p < (kN C : Int)
    · obtain ⟨n, rfl⟩ : ∃ n : Nat, p = (n : Int) := ⟨p.toNat, by omega⟩
      rw [m_isNet_t ch m1 w hk (by omega), bX_some, if_neg (by decide), decide_eq_true (by omega)]; rfl
    · rw [m_isNet_f ch m1 w hk hp q1, bX_some, if_pos (by decide), decide_eq_false (by omega)]; rfl
end CHG
