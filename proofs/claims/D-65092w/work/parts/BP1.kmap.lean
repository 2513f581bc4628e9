/-! the class maps: the library's copy, roots that are turned leaves -/
def tlQ (p : Nat) : Prop := 1 < p ∧ p % 2 = 1
def trlN (G : Dsg) (m : Nat) : Prop := ∃ i, i < m ∧ tlQ (rtL G i)
section KMAP
variable {S z : Sto} {G : Dsg} {B : Lib} {d n i k l p : Nat}
theorem WFL.f2 (wl : WFL B) {c : Nat} (h : c < liN B) : 0 ≤ B 2 c ∧ B 2 c < 256 := by
  obtain ⟨h1, h2, h3, h4, _⟩ := wl.2 c h
  refine ⟨h3, ?_⟩
  have e : B 1 c = 1 ∨ B 1 c = 2 ∨ B 1 c = 3 := by omega
  rcases e with e | e | e <;> rw [e] at h4
  · exact Int.lt_of_lt_of_le h4 (by decide)
  · exact Int.lt_of_lt_of_le h4 (by decide)
  · exact Int.lt_of_lt_of_le h4 (by decide)
theorem k_copy (wl : WFL B) (hk : k < 4) (hl : l < 3) (r : RepL S (328 + 5 * l) B) : WP (mX21_copy S (344 + 22 * k + 1) (328 + 5 * l)) (fun z => RepL z (344 + 22 * k + 1) B ∧ ChW (fun a _ => 344 + 22 * k + 1 ≤ a ∧ a ≤ 344 + 22 * k + 5) S z) := by
  have hn := wl.nums
  have wn := wl.n
  unfold mX21_copy
  rw [wf_eq, r.1, wn]
  obtain ⟨T, hT⟩ : ∃ T, T = sI S (344 + 22 * k + 1) 0 (liN B : Int) := ⟨_, rfl⟩
  rw [← hT]
  have T0 : gI T (344 + 22 * k + 1) 0 = (liN B : Int) := by rw [hT, gI_set, w32_id (by omega)]
  have cT : ChW (fun a _ => 344 + 22 * k + 1 ≤ a ∧ a ≤ 344 + 22 * k + 5) S T := by rw [hT]; exact ChW.refl.sI ⟨by omega, by omega⟩
  refine WP_call (R := fun z => RepL z (344 + 22 * k + 1) B ∧ ChW (fun a _ => 344 + 22 * k + 1 ≤ a ∧ a ≤ 344 + 22 * k + 5) S z) ?_ (fun z h => WP_some.2 h)
  refine WP_cnt (liN B) (fun q st => st.1 = (q : Int) ∧ ChW (fun a _ => 344 + 22 * k + 1 ≤ a ∧ a ≤ 344 + 22 * k + 5) S st.2 ∧ gI st.2 (344 + 22 * k + 1) 0 = (liN B : Int) ∧ ∀ c, c < q → gI st.2 (344 + 22 * k + 1 + 1) c = B 1 c ∧ gI st.2 (344 + 22 * k + 1 + 2) c = B 2 c ∧ gI st.2 (344 + 22 * k + 1 + 3) c = B 3 c ∧ gI st.2 (344 + 22 * k + 1 + 4) c = B 4 c) (by unfold cFU; omega) ⟨rfl, cT, T0, fun c hc => absurd hc (Nat.not_lt_zero _)⟩ (fun q st hq hI => ?_) (fun st hI => ?_)
  · obtain ⟨s1, s2⟩ := st
    obtain ⟨b1, b2, b3, b4⟩ := hI
    dsimp only at b1 b2 b3 b4
    subst b1
    obtain ⟨r1, r2, r3, r4⟩ := r.2 q hq
    obtain ⟨v1, v2, _, _, v5, v6, v7, v8⟩ := wl.2 q hq
    obtain ⟨v3, v4⟩ := wl.f2 hq
    have o : ∀ a i, 328 + 5 * l ≤ a → a ≤ 328 + 5 * l + 4 → gI s2 a i = gI S a i := fun a i q1 q2 => b2.1 _ _ (by omega)
    unfold mX21_copy_L10
    dsimp only
    rw [b3, w32_id (by omega), w32_id (by omega), if_pos (by omega), rdI_e (by omega), Int.toNat_natCast, o _ _ (by omega) (by omega), r1, wrI_e (by omega), Int.toNat_natCast, rdI_e (by omega), Int.toNat_natCast, hI_sI_a (by omega), o _ _ (by omega) (by omega), r2, wrI_e (by omega), Int.toNat_natCast, rdI_e (by omega), Int.toNat_natCast, hI_sI_a (by omega), hI_sI_a (by omega), o _ _ (by omega) (by omega), r3, wrI_e (by omega), Int.toNat_natCast, rdI_e (by omega), Int.toNat_natCast, hI_sI_a (by omega), hI_sI_a (by omega), hI_sI_a (by omega), o _ _ (by omega) (by omega), r4, wrI_e (by omega), Int.toNat_natCast]
    refine WP_some.2 ⟨by show (q : Int) + 1 = _; omega, (((b2.sI (by omega)).sI (by omega)).sI (by omega)).sI (by omega), ?_, fun c hc => ?_⟩
    · dsimp only; rw [hI_sI_a (by omega), hI_sI_a (by omega), hI_sI_a (by omega), hI_sI_a (by omega)]; exact b3
    · dsimp only
      by_cases g : c = q
      · subst g
        refine ⟨?_, ?_, ?_, ?_⟩
        · rw [hI_sI_a (by omega), hI_sI_a (by omega), hI_sI_a (by omega), gI_set, w32_id (by omega)]
        · rw [hI_sI_a (by omega), hI_sI_a (by omega), gI_set, w32_id (by omega)]
        · rw [hI_sI_a (by omega), gI_set, w32_id (by omega)]
        · rw [gI_set, w32_id (by omega)]
      · obtain ⟨u1, u2, u3, u4⟩ := b4 c (by omega)
        refine ⟨?_, ?_, ?_, ?_⟩
        · rw [hI_sI_a (by omega), hI_sI_a (by omega), hI_sI_a (by omega), hI_sI_i g]; exact u1
        · rw [hI_sI_a (by omega), hI_sI_a (by omega), hI_sI_i g, hI_sI_a (by omega)]; exact u2
        · rw [hI_sI_a (by omega), hI_sI_i g, hI_sI_a (by omega), hI_sI_a (by omega)]; exact u3
        · rw [hI_sI_i g, hI_sI_a (by omega), hI_sI_a (by omega), hI_sI_a (by omega)]; exact u4
  · obtain ⟨s1, s2⟩ := st
    obtain ⟨b1, b2, b3, b4⟩ := hI
    dsimp only at b1 b2 b3 b4
    subst b1
    unfold mX21_copy_L10
    dsimp only
    rw [b3, if_neg (by omega)]
    exact WP_some.2 ⟨⟨b3.trans wn.symm, b4⟩, b2⟩
theorem k_turned (hp : p < 10000) : mX12_isTurnedLeaf (p : Int) = some (bo (tlQ p) : Int) := by
  unfold mX12_isTurnedLeaf
  rw [w32_id (by omega), aAnd1_n, w32_id (by omega)]
  by_cases g : tlQ p
  · obtain ⟨g1, g2⟩ := g
    rw [bo_t ⟨g1, g2⟩, if_pos (by omega), if_pos (by omega), bX_some, if_pos rfl, bX_some, gz_1]; rfl
  · rw [bo_f g]
    by_cases g1 : 1 < p
    · rw [if_pos (by omega), if_neg (fun e => g ⟨g1, by omega⟩), bX_some, if_neg (by decide), bX_some, gz_0]; rfl
    · rw [if_neg (by omega), bX_some, if_neg (by decide), bX_some, gz_0]; rfl
theorem aOr_bo {P Q : Prop} : aOr (bo P : Int) (bo Q : Int) = (bo (P ∨ Q) : Int) := by
  by_cases p : P
  · rw [bo_t p, bo_t (show P ∨ Q from .inl p)]
    by_cases q : Q
    · rw [bo_t q]; decide
    · rw [bo_f q]; decide
  · rw [bo_f p]
    by_cases q : Q
    · rw [bo_t q, bo_t (show P ∨ Q from .inr q)]; decide
    · rw [bo_f q, bo_f (show ¬ (P ∨ Q) from fun h => h.elim p q)]; decide
theorem trlN_s {m : Nat} : (trlN G m ∨ tlQ (rtL G m)) ↔ trlN G (m + 1) := by
  constructor
  · intro h
    rcases h with ⟨i, h1, h2⟩ | h
    · exact ⟨i, by omega, h2⟩
    · exact ⟨m, by omega, h⟩
  · intro ⟨i, h1, h2⟩
    by_cases g : i = m
    · exact .inr (g ▸ h2)
    · exact .inl ⟨i, by omega, h2⟩
theorem k_mp126 (w : WFG G) (hd : d < 6) (h : KGx S d G) : WP (lpF (mX12_map_L126 S) (0, 0)) (fun y => y = (bo (trlN G (gOu G)) : Int)) := by
  have ng := w.nums
  have wo := w.o
  have wn := w.n
  have hno := no_le w
  have e6 := h.2.1.2.2.1
  rw [wo] at e6
  refine WP_cnt (gOu G) (fun q st => st.1 = (bo (trlN G q) : Int) ∧ st.2 = (q : Int)) (by unfold cFU; omega) ⟨by rw [bo_f (fun ⟨i, h, _⟩ => absurd h (Nat.not_lt_zero _))]; rfl, rfl⟩ (fun q st hq hI => ?_) (fun st hI => ?_)
  · obtain ⟨s1, s2⟩ := st
    obtain ⟨b1, b2⟩ := hI
    dsimp only at b1 b2
    subst b1; subst b2
    have g7 := w.2.2.2.1 q hq
    have r7 := h.2.2.2.2.1 q hq
    have rt : rtL G q = swN G (G 7 q).toNat := if_pos hq
    have e7 : G 7 q = ((G 7 q).toNat : Int) := by omega
    have lt := (swN_lt (l := (G 7 q).toNat) w (by omega)).2
    unfold mX12_map_L126
    dsimp only
    rw [h.1, gk_dsg hd, e6, w32_id (by omega), w32_id (by omega), if_pos (by omega), gk_dsg hd, gk_dsg hd, rdI_e (by omega), Int.toNat_natCast, r7, e7, k_sweep h.2 w (by omega), bX_some, k_turned (by omega), bX_some, ← rt, aOr_bo, bo_cg trlN_s]
    exact WP_some.2 ⟨rfl, by show (q : Int) + 1 = _; omega⟩
  · obtain ⟨s1, s2⟩ := st
    obtain ⟨b1, b2⟩ := hI
    dsimp only at b1 b2
    subst b1; subst b2
    unfold mX12_map_L126
    dsimp only
    rw [h.1, gk_dsg hd, e6, if_neg (by omega)]
    exact WP_some.2 rfl
theorem k_mp173 (w : WFG G) (hd : d < 6) (h : KGx S d G) : WP (lpF (mX12_map_L173 S) ((bo (trlN G (gOu G)) : Int), 0)) (fun y => y = (bo (trlN G (nRt G)) : Int)) := by
  have ng := w.nums
  have wr := w.s
  have wn := w.n
  have hno := no_le w
  have nR : nRt G = gOu G + gSt G := rfl
  have e6 := h.2.1.2.1
  rw [wr] at e6
  refine WP_cnt (gSt G) (fun q st => st.1 = (bo (trlN G (gOu G + q)) : Int) ∧ st.2 = (q : Int)) (by unfold cFU; omega) ⟨rfl, rfl⟩ (fun q st hq hI => ?_) (fun st hI => ?_)
  · obtain ⟨s1, s2⟩ := st
    obtain ⟨b1, b2⟩ := hI
    dsimp only at b1 b2
    subst b1; subst b2
    have g7 := w.2.2.2.2.1 q hq
    have r7 := h.2.2.2.2.2.1 q hq
    have rt : rtL G (gOu G + q) = swN G (G 8 q).toNat := by
      unfold rtL
      rw [if_neg (by omega), Nat.add_sub_cancel_left]
    have e7 : G 8 q = ((G 8 q).toNat : Int) := by omega
    have lt := (swN_lt (l := (G 8 q).toNat) w (by omega)).2
    unfold mX12_map_L173
    dsimp only
    rw [h.1, gk_dsg hd, e6, w32_id (by omega), w32_id (by omega), if_pos (by omega), gk_dsg hd, gk_dsg hd, rdI_e (by omega), Int.toNat_natCast, r7, e7, k_sweep h.2 w (by omega), bX_some, k_turned (by omega), bX_some, ← rt, aOr_bo, bo_cg trlN_s]
    exact WP_some.2 ⟨rfl, by show (q : Int) + 1 = _; omega⟩
  · obtain ⟨s1, s2⟩ := st
    obtain ⟨b1, b2⟩ := hI
    dsimp only at b1 b2
    subst b1; subst b2
    unfold mX12_map_L173
    dsimp only
    rw [h.1, gk_dsg hd, e6, if_neg (by omega)]
    rw [nR]; exact WP_some.2 rfl
end KMAP
