/-! the class makes gates: nothing is made yet; the reference: nothing is made yet -/
section KMAKE2
variable {S z : Sto} {G : Dsg} {B : Lib} {d n i k l : Nat}
theorem k_mk2 (w : WFG G) (hd : d < 6) (h : KGx S d G) : WP (lpF mX12_make_L2 (0, S)) (fun z => ChW (fun a _ => a = 215 ∨ a = 216) S z ∧ ∀ n, n < gNo G → gI z 215 (2 * n) = -1 ∧ gI z 215 (2 * n + 1) = -1 ∧ gI z 216 n = -1) := by
  have hno := no_le w
  have wn := w.n
  refine WP_cnt (gNo G) (fun q st => st.1 = (q : Int) ∧ ChW (fun a _ => a = 215 ∨ a = 216) S st.2 ∧ ∀ n, n < q → gI st.2 215 (2 * n) = -1 ∧ gI st.2 215 (2 * n + 1) = -1 ∧ gI st.2 216 n = -1) (by unfold cFU; omega) ⟨rfl, ChW.refl, fun n h => absurd h (Nat.not_lt_zero _)⟩ (fun q st hq hI => ?_) (fun st hI => ?_)
  · obtain ⟨s1, s2⟩ := st
    obtain ⟨b1, b2, b3⟩ := hI
    dsimp only at b1 b2 b3
    subst b1
    have hz := h.cw b2 (fun a i g => by omega)
    have e3 := hz.2.1.2.2.2.1
    rw [wn] at e3
    have z0 : (2 * (q : Int)).toNat = 2 * q := by omega
    have z1 : (2 * (q : Int) + 1).toNat = 2 * q + 1 := by omega
    unfold mX12_make_L2
    dsimp only
    rw [hz.1, gk_dsg hd, e3, w32_id (by omega), w32_id (by omega), if_pos (by omega), wrI_e (by omega), z0, wrI_e (by omega), z1, wrI_e (by omega), Int.toNat_natCast]
    refine WP_some.2 ⟨by show (q : Int) + 1 = _; omega, ((b2.sI (.inl rfl)).sI (.inl rfl)).sI (.inr rfl), fun n hn => ?_⟩
    dsimp only
    by_cases g : n = q
    · subst g
      refine ⟨?_, ?_, ?_⟩
      · rw [hI_sI_a (by omega), hI_sI_i (by omega), gI_set]; rfl
      · rw [hI_sI_a (by omega), gI_set]; rfl
      · rw [gI_set]; rfl
    · obtain ⟨u1, u2, u3⟩ := b3 n (by omega)
      refine ⟨?_, ?_, ?_⟩
      · rw [hI_sI_a (by omega), hI_sI_i (by omega), hI_sI_i (by omega)]; exact u1
      · rw [hI_sI_a (by omega), hI_sI_i (by omega), hI_sI_i (by omega)]; exact u2
      · rw [hI_sI_i g, hI_sI_a (by omega), hI_sI_a (by omega)]; exact u3
  · obtain ⟨s1, s2⟩ := st
    obtain ⟨b1, b2, b3⟩ := hI
    dsimp only at b1 b2 b3
    subst b1
    have hz := h.cw b2 (fun a i g => by omega)
    have e3 := hz.2.1.2.2.2.1
    rw [wn] at e3
    unfold mX12_make_L2
    dsimp only
    rw [hz.1, gk_dsg hd, e3, if_neg (by omega)]
    exact WP_some.2 ⟨b2, b3⟩
theorem m_mp213 (w : WFG G) (hd : d < 6) (h : MGx S d G) : WP (lpF (mX23_map_L213 (d : Int)) (0, S)) (fun z => ChW (fun a _ => a = 2102) S z ∧ ∀ n, n < gNo G → gI z 2102 n = -1) := by
  have hno := no_le w
  have wn := w.n
  refine WP_cnt (gNo G) (fun q st => st.1 = (q : Int) ∧ ChW (fun a _ => a = 2102) S st.2 ∧ ∀ n, n < q → gI st.2 2102 n = -1) (by unfold cFU; omega) ⟨rfl, ChW.refl, fun n h => absurd h (Nat.not_lt_zero _)⟩ (fun q st hq hI => ?_) (fun st hI => ?_)
  · obtain ⟨s1, s2⟩ := st
    obtain ⟨b1, b2, b3⟩ := hI
    dsimp only at b1 b2 b3
    subst b1
    have hz := h.cw w b2 (fun a i g => by omega)
    have e3 := hz.2.1.2.2.2.1
    rw [wn] at e3
    unfold mX23_map_L213
    dsimp only
    rw [rdI_e (by omega), Int.toNat_natCast, e3, w32_id (by omega), w32_id (by omega), if_pos (by omega), wrI_e (by omega), Int.toNat_natCast]
    refine WP_some.2 ⟨by show (q : Int) + 1 = _; omega, b2.sI rfl, fun n hn => ?_⟩
    dsimp only
    by_cases g : n = q
    · subst g; rw [gI_set]; rfl
    · rw [hI_sI_i g]; exact b3 n (by omega)
  · obtain ⟨s1, s2⟩ := st
    obtain ⟨b1, b2, b3⟩ := hI
    dsimp only at b1 b2 b3
    subst b1
    have hz := h.cw w b2 (fun a i g => by omega)
    have e3 := hz.2.1.2.2.2.1
    rw [wn] at e3
    unfold mX23_map_L213
    dsimp only
    rw [rdI_e (by omega), Int.toNat_natCast, e3, if_neg (by omega)]
    exact WP_some.2 ⟨b2, b3⟩
theorem missN_0 : missN G ([], fun _ _ => -1) = 3 * gNo G := by
  unfold missN
  have e : bo (((([], fun _ _ => -1) : MkS).2 0 0) = -1) = 1 := bo_t rfl
  have key : ∀ N, smN (fun n => bo ((([], fun _ _ => -1) : MkS).2 n 0 = -1) + bo ((([], fun _ _ => -1) : MkS).2 n 1 = -1) + bo ((([], fun _ _ => -1) : MkS).2 n 2 = -1)) N = 3 * N := by
    intro N
    induction N with
    | zero => rfl
    | succ N ih =>
      show smN _ N + (bo _ + bo _ + bo _) = _
      rw [ih, bo_t rfl]; omega
  exact key _
end KMAKE2
