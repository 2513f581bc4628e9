/-! chips are played -/
theorem RepK.cg {S S' : Sto} {L : Nat} {C : Chp} (h : RepK S L C) (e : ∀ a i, L ≤ a → a ≤ L + 21 → gI S' a i = gI S a i) : RepK S' L C := by
  obtain ⟨h1, h2, h3, h4, h5, h6⟩ := h
  refine ⟨?_, fun g hg => ?_, fun g hg => ?_, fun g hg => ?_, fun g hg => ?_, fun g hg => ?_⟩
  · simp (disch := omega) only [e]; exact h1
  · rw [e _ _ (by omega) (by omega)]; exact h2 g hg
  · rw [e _ _ (by omega) (by omega)]; exact h3 g hg
  · rw [e _ _ (by omega) (by omega)]; exact h4 g hg
  · rw [e _ _ (by omega) (by omega)]; exact h5 g hg
  · simp (disch := omega) only [e]; exact h6 g hg
theorem RepK.sI {S : Sto} {L : Nat} {C : Chp} {T j : Nat} {v : Int} (h : RepK S L C) (hT : T < L ∨ L + 21 < T) : RepK (sI S T j v) L C := h.cg (fun a i h1 h2 => hI_sI_a (by omega))
theorem okR {W : List (Nat × Option Nat)} {lo hi : Nat} (h : W.all (fun z => Nat.blt z.1 lo || Nat.blt hi z.1) = true) {a i : Nat} (h1 : lo ≤ a) (h2 : a ≤ hi) : okP W a i := by
  intro z hz e
  have := List.all_eq_true.1 h z hz
  rw [Bool.or_eq_true, Nat.blt_eq, Nat.blt_eq] at this
  omega
theorem RepK.fr {S S' : Sto} {L : Nat} {C : Chp} {W V : List (Nat × Option Nat)} {G : Bool} (h : RepK S L C) (hf : Fr W V G S S') (hL : 344 ≤ L ∧ L ≤ 410) (ho : W.all (fun z => Nat.blt z.1 344 || Nat.blt 431 z.1) = true) : RepK S' L C := h.cg (fun a i h1 h2 => hf.gi (okR ho (by omega) (by omega)))
theorem RefK.cg {S S' : Sto} {k : Nat} {C : Chp} (h : RefK S k C) (e : ∀ a i, 2106 ≤ a → a ≤ 2120 → gI S' a i = gI S a i) : RefK S' k C := by
  obtain ⟨h1, h2, h3, h4, h5, h6⟩ := h
  refine ⟨?_, fun g hg => ?_, fun g hg => ?_, fun g hg => ?_, fun g hg => ?_, fun g hg => ?_⟩
  · simp (disch := omega) only [e]; exact h1
  · rw [e _ _ (by omega) (by omega)]; exact h2 g hg
  · rw [e _ _ (by omega) (by omega)]; exact h3 g hg
  · rw [e _ _ (by omega) (by omega)]; exact h4 g hg
  · rw [e _ _ (by omega) (by omega)]; exact h5 g hg
  · simp (disch := omega) only [e]; exact h6 g hg
theorem RefK.fr {S S' : Sto} {k : Nat} {C : Chp} {W V : List (Nat × Option Nat)} {G : Bool} (h : RefK S k C) (hf : Fr W V G S S') (ho : W.all (fun z => Nat.blt z.1 2106 || Nat.blt 2120 z.1) = true) : RefK S' k C := h.cg (fun a i h1 h2 => hf.gi (okR ho h1 h2))
theorem RefK.sI {S : Sto} {k : Nat} {C : Chp} {T j : Nat} {v : Int} (h : RefK S k C) (hT : T < 2106 ∨ 2120 < T) : RefK (sI S T j v) k C := h.cg (fun a i h1 h2 => hI_sI_a (by omega))
theorem RefK.sL {S : Sto} {k : Nat} {C : Chp} {T j : Nat} {v : Int64} (h : RefK S k C) : RefK (sL S T j v) k C := h.cg (fun a i h1 h2 => rfl)
/-- a pin of an output: tied or a net -/
def kBit (C : Chp) (p : Nat) (n : Int) : Bool := if n < 0 then decide (n = -2) else kVal C p n.toNat
def kTold (C : Chp) (p : Nat) : Nat := bitsN (kO C) (fun k => kBit C p (C 6 k))
def kMoved (C : Chp) (p : Nat) : Nat := bitsN (kR C) (fun k => kBit C p (C 7 k))
section KPLAY
variable {S : Sto} {L : Nat} {C : Chp}
theorem k_tells (h : RepK S L C) (w : WFC C) {p : Int} {s : Nat} (hp : 0 ≤ p ∧ p < kL C) (hs : s < 32) : mX21_tells S (L + 1) p (s : Int) = some (b2i ((kLf C p.toNat).testBit s)) := by
  have hn := w.nums
  have hl := w.lf (c := p.toNat) (by omega)
  have e2 := (h.2.2.2.2.2 p.toNat (by omega)).2.1
  simp (disch := omega) only [mX21_tells, rdI_e, rdZ_e, rdL_e, wrI_e, wrL_e, bX_some, bE_inl, bE_inr, bT_inl, bT_inr, bX_ite, ite_someI, ite_someL, ite_someB, tt_eq, iteb, gz_01, gz_b2i, wf_eq, wfL_eq, wfR_eq, w32_id, w32_gI, w32_bz, Int.toNat_natCast, Int.reduceToNat, Int.toNat_add, Int.toNat_mul, Int.ofNat_lt, Int.ofNat_le, Int.natCast_inj, e2, hl.1, aBit, w32_b2i, b2i_eq1, b2i_if, Bool.decide_eq_true]
theorem k_values (h : RepK S L C) (w : WFC C) {p T : Nat} (hp : p < 4096) (hT : T < L ∨ L + 21 < T) (hk : aN (kK T) = 162) : WP (mX22_values S L (p : Int) T) (fun S' => ∀ n, n < kN C → gI S' T n = b2i (kVal C p n)) := by
  have hn := w.nums
  unfold mX22_values
  refine WP_call (R := fun S' => RepK S' L C ∧ ∀ n, n < kB C → gI S' T n = b2i (kVal C p n)) ?_ (fun S1 h1 => ?_)
  · refine WP_cnt (kB C) (fun i s => s.1 = (i : Int) ∧ RepK s.2 L C ∧ ∀ n, n < i → gI s.2 T n = b2i (kVal C p n)) (by unfold cFU; omega) ⟨rfl, h, by grind⟩ (fun i s hi hI => ?_) (fun s hI => ?_)
    · obtain ⟨a1, a2, a3⟩ := hI
      have e : kVal C p i = p.testBit i := by show kValF C p (-1) (-1) false i = _; rw [kValF_src hi, if_neg (by omega)]
      simp (disch := omega) only [mX22_values_L2, k_bits a2 w, a1, hk, aBit, WP_ite, WP_some, WP_none, WE_inl, WE_inr, wf, wfL, wfR, rdI_e, rdZ_e, rdL_e, wrI_e, wrL_e, bX_some, bE_inl, bE_inr, bT_inl, bT_inr, bX_ite, ite_someI, ite_someL, ite_someB, tt_eq, iteb, gz_01, gz_b2i, w32_id, w32_gI, w32_bz, Int.toNat_natCast, Int.reduceToNat, Int.toNat_add, Int.toNat_mul, Int.ofNat_lt, Int.ofNat_le, Int.natCast_inj, w32_b2i, b2i_eq1, b2i_if, Bool.decide_eq_true]
      refine ⟨fun _ => ⟨by omega, a2.sI hT, fun n hn' => ?_⟩, fun _ => by omega⟩
      grind [hI_sI, w32_b2i]
    · obtain ⟨a1, a2, a3⟩ := hI
      simp (disch := omega) only [mX22_values_L2, k_bits a2 w, a1, hk, WP_ite, WP_some, WP_none, WE_inl, WE_inr, wf, wfL, wfR, rdI_e, rdZ_e, rdL_e, wrI_e, wrL_e, bX_some, bE_inl, bE_inr, bT_inl, bT_inr, bX_ite, ite_someI, ite_someL, ite_someB, tt_eq, iteb, gz_01, gz_b2i, w32_id, w32_gI, w32_bz, Int.toNat_natCast, Int.reduceToNat, Int.toNat_add, Int.toNat_mul, Int.ofNat_lt, Int.ofNat_le, Int.natCast_inj]
      grind
  · refine WP_call (R := fun S' => ∀ n, n < kN C → gI S' T n = b2i (kVal C p n)) ?_ (fun S2 h2 => WP_some.2 h2)
    refine WP_cnt (kG C) (fun i s => s.1 = (i : Int) ∧ RepK s.2 L C ∧ ∀ n, n < kB C + i → gI s.2 T n = b2i (kVal C p n)) (by unfold cFU; omega) ⟨rfl, h1.1, by grind⟩ (fun i s hi hI => ?_) (fun s hI => ?_)
    · obtain ⟨a1, a2, a3⟩ := hI
      have ha := w.ar hi
      have hc := w.c hi
      have e3 := a2.1.2.2.2.1
      rw [w.g] at e3
      simp (disch := omega) only [mX22_values_L35, a1, e3, WP_ite, WP_some, WP_none, WE_inl, WE_inr, wf, wfL, wfR, rdI_e, rdZ_e, rdL_e, wrI_e, wrL_e, bX_some, bE_inl, bE_inr, bT_inl, bT_inr, bX_ite, ite_someI, ite_someL, ite_someB, tt_eq, iteb, gz_01, gz_b2i, w32_id, w32_gI, w32_bz, Int.toNat_natCast, Int.reduceToNat, Int.toNat_add, Int.toNat_mul, Int.ofNat_lt, Int.ofNat_le, Int.natCast_inj]
      refine ⟨fun _ => ?_, fun _ => by omega⟩
      refine WP_call (R := fun x => x = ((kIdx C (kVal C p) (-1) false i : Nat) : Int)) ?_ (fun x hx => ?_)
      · refine WP_cnt (kAr C i) (fun k t => t.2 = (k : Int) ∧ t.1 = ((bitsN k (fun k => if ((3 * i + k : Nat) : Int) = -1 then false else kVal C p (kP C i k)) : Nat) : Int)) (by unfold cFU; omega) ⟨rfl, rfl⟩ (fun k t hkk hJ => ?_) (fun t hJ => ?_)
        · obtain ⟨b1, b2⟩ := hJ
          have hpk := w.p hi hkk
          have e4 := a2.2.2.1 (3 * i + k) (by omega)
          have e5 := a3 (kP C i k) (by omega)
          simp (disch := omega) only [mX22_values_L49, a1, b1, b2, k_inputsOf a2 w, hk, WP_ite, WP_some, WP_none, WE_inl, WE_inr, wf, wfL, wfR, rdI_e, rdZ_e, rdL_e, wrI_e, wrL_e, bX_some, bE_inl, bE_inr, bT_inl, bT_inr, bX_ite, ite_someI, ite_someL, ite_someB, tt_eq, iteb, gz_01, gz_b2i, w32_id, w32_gI, w32_bz, Int.toNat_natCast, Int.reduceToNat, Int.toNat_add, Int.toNat_mul, Int.ofNat_lt, Int.ofNat_le, Int.natCast_inj, e4, hpk.1, e5, bz_b2i, w32_b2i, b2i_eq0, Bool.not_eq_false]
          refine ⟨fun _ => ⟨by omega, ?_⟩, fun _ => by omega⟩
          exact aOr_bits' (by rw [if_neg (by omega)]) (by omega)
        · obtain ⟨b1, b2⟩ := hJ
          simp (disch := omega) only [mX22_values_L49, a1, b1, b2, k_inputsOf a2 w, hk, WP_ite, WP_some, WP_none, WE_inl, WE_inr, wf, wfL, wfR, rdI_e, rdZ_e, rdL_e, wrI_e, wrL_e, bX_some, bE_inl, bE_inr, bT_inl, bT_inr, bX_ite, ite_someI, ite_someL, ite_someB, tt_eq, iteb, gz_01, gz_b2i, w32_id, w32_gI, w32_bz, Int.toNat_natCast, Int.reduceToNat, Int.toNat_add, Int.toNat_mul, Int.ofNat_lt, Int.ofNat_le, Int.natCast_inj]
          grind [kIdx]
      · have hb := bitsN_lt (kAr C i) (fun k => if ((3 * i + k : Nat) : Int) = -1 then false else kVal C p (kP C i k))
        have hb2 : 2 ^ kAr C i ≤ 2 ^ 3 := Nat.pow_le_pow_right (by omega) ha.2
        have e6 := a2.2.1 i hi
        have e7 : kVal C p (kB C + i) = (kLf C (kC C i)).testBit (kIdx C (kVal C p) (-1) false i) := by
          show kValF C p (-1) (-1) false _ = _
          rw [kValF_gate w hi, if_neg (by omega)]; rfl
        have h8 : kIdx C (kVal C p) (-1) false i < 32 := by unfold kIdx; omega
        subst hx
        simp (disch := omega) only [a1, k_netOfGate a2 w, k_tells a2 w, hk, WP_ite, WP_some, WP_none, WE_inl, WE_inr, wf, wfL, wfR, rdI_e, rdZ_e, rdL_e, wrI_e, wrL_e, bX_some, bE_inl, bE_inr, bT_inl, bT_inr, bX_ite, ite_someI, ite_someL, ite_someB, tt_eq, iteb, gz_01, gz_b2i, w32_id, w32_gI, w32_bz, Int.toNat_natCast, Int.reduceToNat, Int.toNat_add, Int.toNat_mul, Int.ofNat_lt, Int.ofNat_le, Int.natCast_inj, e6, hc.1, w1_b2i]
        refine ⟨by omega, a2.sI hT, fun n hn' => ?_⟩
        grind [hI_sI, w32_b2i]
    · obtain ⟨a1, a2, a3⟩ := hI
      have e3 := a2.1.2.2.2.1
      rw [w.g] at e3
      simp (disch := omega) only [mX22_values_L35, a1, e3, WP_ite, WP_some, WP_none, WE_inl, WE_inr, wf, wfL, wfR, rdI_e, rdZ_e, rdL_e, wrI_e, wrL_e, bX_some, bE_inl, bE_inr, bT_inl, bT_inr, bX_ite, ite_someI, ite_someL, ite_someB, tt_eq, iteb, gz_01, gz_b2i, w32_id, w32_gI, w32_bz, Int.toNat_natCast, Int.reduceToNat, Int.toNat_add, Int.toNat_mul, Int.ofNat_lt, Int.ofNat_le, Int.natCast_inj]
      grind
theorem k_bit (w : WFC C) {T p : Nat} (hv : ∀ n, n < kN C → gI S T n = b2i (kVal C p n)) (hk : aN (kK T) = 162) {n : Int} (hn : -2 ≤ n ∧ n < kN C) : mX22_bit S T n = some (b2i (kBit C p n)) := by
  have := w.nums
  unfold mX22_bit kBit
  rw [w32_id (by omega)]
  by_cases h : n < 0
  · rw [if_pos h, if_pos h]
    have : n = -1 ∨ n = -2 := by omega
    rcases this with rfl | rfl <;> rfl
  · rw [if_neg h, if_neg h]
    have e := hv n.toNat (by omega)
    simp (disch := omega) only [hk, rdI_e, rdZ_e, rdL_e, wrI_e, wrL_e, bX_some, bE_inl, bE_inr, bT_inl, bT_inr, bX_ite, ite_someI, ite_someL, ite_someB, tt_eq, iteb, gz_01, gz_b2i, wf_eq, wfL_eq, wfR_eq, e, bz_b2i, w32_b2i, b2i_eq0, b2i_if, Bool.not_eq_false, Bool.decide_eq_true]
theorem k_told (h3 : gI S L 3 = C 2 0) (h8 : ∀ k, k < kO C → gI S (L + 8) k = C 6 k) (w : WFC C) {T p : Nat} (hv : ∀ n, n < kN C → gI S T n = b2i (kVal C p n)) (hk : aN (kK T) = 162) : mX22_told S L T = some ((kTold C p : Nat) : Int) := by
  have hn := w.nums
  unfold mX22_told
  refine WP.of (WP_call (R := fun x => x = ((kTold C p : Nat) : Int)) ?_ (fun S1 h1 => WP_some.2 h1))
  refine WP_cnt (kO C) (fun i s => s.2 = (i : Int) ∧ s.1 = ((bitsN i (fun k => kBit C p (C 6 k)) : Nat) : Int)) (by unfold cFU; omega) ⟨rfl, rfl⟩ (fun i s hi hI => ?_) (fun s hI => ?_)
  · obtain ⟨a1, a2⟩ := hI
    have e1 := h3
    rw [w.o] at e1
    have e2 := h8 i hi
    have e3 := w.2.2.2.1 i hi
    rw [w.i, w.r, w.g] at e3
    simp (disch := omega) only [mX22_told_L4, a1, a2, e1, e2, k_bit w hv hk, WP_ite, WP_some, WP_none, WE_inl, WE_inr, wf, wfL, wfR, rdI_e, rdZ_e, rdL_e, wrI_e, wrL_e, bX_some, bE_inl, bE_inr, bT_inl, bT_inr, bX_ite, ite_someI, ite_someL, ite_someB, tt_eq, iteb, gz_01, gz_b2i, w32_id, w32_gI, w32_bz, Int.toNat_natCast, Int.reduceToNat, Int.toNat_add, Int.toNat_mul, Int.ofNat_lt, Int.ofNat_le, Int.natCast_inj]
    exact ⟨fun _ => ⟨by omega, aOr_bits (f := fun k => kBit C p (C 6 k)) rfl (by omega)⟩, fun _ => by omega⟩
  · obtain ⟨a1, a2⟩ := hI
    have e1 := h3
    rw [w.o] at e1
    simp (disch := omega) only [mX22_told_L4, a1, a2, e1, WP_ite, WP_some, WP_none, WE_inl, WE_inr, wf, wfL, wfR, rdI_e, rdZ_e, rdL_e, wrI_e, wrL_e, bX_some, bE_inl, bE_inr, bT_inl, bT_inr, bX_ite, ite_someI, ite_someL, ite_someB, tt_eq, iteb, gz_01, gz_b2i, w32_id, w32_gI, w32_bz, Int.toNat_natCast, Int.reduceToNat, Int.toNat_add, Int.toNat_mul, Int.ofNat_lt, Int.ofNat_le, Int.natCast_inj]
    exact ⟨fun _ => by omega, fun _ => rfl⟩
theorem k_moved (h : RepK S L C) (w : WFC C) {T p : Nat} (hv : ∀ n, n < kN C → gI S T n = b2i (kVal C p n)) (hk : aN (kK T) = 162) : mX22_moved S L T = some ((kMoved C p : Nat) : Int) := by
  have hn := w.nums
  unfold mX22_moved
  refine WP.of (WP_call (R := fun x => x = ((kMoved C p : Nat) : Int)) ?_ (fun S1 h1 => WP_some.2 h1))
  refine WP_cnt (kR C) (fun i s => s.2 = (i : Int) ∧ s.1 = ((bitsN i (fun k => kBit C p (C 7 k)) : Nat) : Int)) (by unfold cFU; omega) ⟨rfl, rfl⟩ (fun i s hi hI => ?_) (fun s hI => ?_)
  · obtain ⟨a1, a2⟩ := hI
    have e1 := h.1.2.1
    rw [w.r] at e1
    have e2 := h.2.2.2.2.1 i hi
    have e3 := w.2.2.2.2.1 i hi
    rw [w.i, w.r, w.g] at e3
    simp (disch := omega) only [mX22_moved_L4, a1, a2, e1, e2, k_bit w hv hk, WP_ite, WP_some, WP_none, WE_inl, WE_inr, wf, wfL, wfR, rdI_e, rdZ_e, rdL_e, wrI_e, wrL_e, bX_some, bE_inl, bE_inr, bT_inl, bT_inr, bX_ite, ite_someI, ite_someL, ite_someB, tt_eq, iteb, gz_01, gz_b2i, w32_id, w32_gI, w32_bz, Int.toNat_natCast, Int.reduceToNat, Int.toNat_add, Int.toNat_mul, Int.ofNat_lt, Int.ofNat_le, Int.natCast_inj]
    exact ⟨fun _ => ⟨by omega, aOr_bits (f := fun k => kBit C p (C 7 k)) rfl (by omega)⟩, fun _ => by omega⟩
  · obtain ⟨a1, a2⟩ := hI
    have e1 := h.1.2.1
    rw [w.r] at e1
    simp (disch := omega) only [mX22_moved_L4, a1, a2, e1, WP_ite, WP_some, WP_none, WE_inl, WE_inr, wf, wfL, wfR, rdI_e, rdZ_e, rdL_e, wrI_e, wrL_e, bX_some, bE_inl, bE_inr, bT_inl, bT_inr, bX_ite, ite_someI, ite_someL, ite_someB, tt_eq, iteb, gz_01, gz_b2i, w32_id, w32_gI, w32_bz, Int.toNat_natCast, Int.reduceToNat, Int.toNat_add, Int.toNat_mul, Int.ofNat_lt, Int.ofNat_le, Int.natCast_inj]
    exact ⟨fun _ => by omega, fun _ => rfl⟩
end KPLAY
