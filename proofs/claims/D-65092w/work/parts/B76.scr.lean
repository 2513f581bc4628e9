/-! calls that change scratch cells alone -/
def Sc (S S' : Sto) : Prop := (∀ a i, kept a i = true → gI S' a i = gI S a i) ∧ (∀ a i, (a = 365 ∨ a = 387 ∨ a = 409 ∨ a = 431) ∨ a = 2175 ∨ a = 2178 → gL S' a i = gL S a i) ∧ nC S' = nC S ∧ nS S' = nS S
theorem Sc.refl {S : Sto} : Sc S S := ⟨fun _ _ _ => rfl, fun _ _ _ => rfl, rfl, rfl⟩
theorem Sc.tr {S S' S'' : Sto} (h : Sc S S') (g : Sc S' S'') : Sc S S'' := ⟨fun a i q => (g.1 a i q).trans (h.1 a i q), fun a i q => (g.2.1 a i q).trans (h.2.1 a i q), g.2.2.1.trans h.2.2.1, g.2.2.2.trans h.2.2.2⟩
theorem Sc.fr {S S' : Sto} {W V : List (Nat × Option Nat)} (hf : Fr W V false S S') (h1 : okK W = true) (h2 : W.all (fun z => !(Nat.beq z.1 365 || Nat.beq z.1 387 || Nat.beq z.1 409 || Nat.beq z.1 431 || Nat.beq z.1 2175 || Nat.beq z.1 2178)) = true) : Sc S S' := by
  refine ⟨fun a i q => hf.gi (okK_ok h1 q), fun a i q => hf.gl (okP_lab (fun z hz e => ?_)), hf.heap.1, hf.heap.2⟩
  have := List.all_eq_true.1 h2 z hz
  rw [e] at this
  rcases q with (rfl | rfl | rfl | rfl) | rfl | rfl <;> simp at this
theorem Sc.ch {S S' : Sto} {lo hi : Nat} (h : Ch lo hi S S') (q : ((Nat.ble 3 lo && Nat.ble hi 16) || (Nat.ble 171 lo && Nat.ble hi 191) || (Nat.ble 199 lo && Nat.ble hi 212) || (Nat.ble 214 lo && Nat.ble hi 272)) = true) : Sc S S' := by
  simp only [Bool.or_eq_true, Bool.and_eq_true, Nat.ble_eq] at q
  refine ⟨fun a i g => h.1 a i ?_, fun a i g => h.2.1 a i (by omega), h.2.2.2.1, h.2.2.2.2⟩
  unfold kept keptO keptN rowL at g
  simp only [Bool.or_eq_true, Bool.and_eq_true, Nat.beq_eq, Nat.ble_eq] at g
  omega
theorem Sc.sI {S S' : Sto} (h : Sc S S') {a i : Nat} {v : Int} (q : kept a i = false) : Sc S (sI S' a i v) := ⟨fun b j g => by
  rw [hI_sI, if_neg (fun e => by obtain ⟨rfl, rfl⟩ := e; rw [q] at g; exact (nomatch g))]; exact h.1 b j g, h.2⟩
theorem Sc.sR {S S' : Sto} (h : Sc S S') {a i v : Nat} : Sc S (sR S' a i v) := h
theorem Sc.K {S S' : Sto} (h : Sc S S') {k : Nat} {C : Chp} (hk : k < 4) (r : RepK S (344 + 22 * k) C) : RepK S' (344 + 22 * k) C := r.cg (fun a i l1 l2 => h.1 a i (kept_rng (by omega)))
theorem Sc.M {S S' : Sto} (h : Sc S S') {k : Nat} {C : Chp} (r : RefK S k C) : RefK S' k C := r.cg (fun a i l1 l2 => h.1 a i (kept_rng (by omega)))
theorem Sc.X {S S' : Sto} (h : Sc S S') {k : Nat} {C : Chp} (hk : k < 4) (r : RepX S (344 + 22 * k) C) : RepX S' (344 + 22 * k) C := r.cg (fun a i l1 l2 => h.1 a i (kept_rng (by omega))) (fun i => h.2.1 _ i (by omega))
theorem Sc.Y {S S' : Sto} (h : Sc S S') {k : Nat} {C : Chp} (w : WFC C) (wx : WFX C) (r : RefX S k C) : RefX S' k C := r.cg w wx (fun a i l => h.1 a i (ownC_kept l)) (fun i l => h.2.1 _ i (by omega))
theorem Inv.sc {c : Nat} {S S' : Sto} (h : Inv c S) (hc : c < 64) (g : Sc S S') : Inv (c + 1) S' := h.gen hc g.1 (fun a i q => g.2.1 a i (by omega)) (by rw [g.2.2.1]; omega) (by rw [g.2.2.2]; omega)
/-- between the two sides: the class's answer is kept -/
def Sm (S S' : Sto) (x : Int64) : Prop := (∀ a i, kept a i = true → gI S' a i = gI S a i) ∧ (∀ a i, (a = 365 ∨ a = 387 ∨ a = 409 ∨ a = 431) ∨ a = 2175 → gL S' a i = gL S a i) ∧ nC S' = nC S ∧ nS S' = nS S ∧ gL S' 2178 0 = x
theorem Sm.sc {S S' S'' : Sto} {x : Int64} (h : Sm S S' x) (g : Sc S' S'') : Sm S S'' x := ⟨fun a i q => (g.1 a i q).trans (h.1 a i q), fun a i q => (g.2.1 a i (by omega)).trans (h.2.1 a i q), g.2.2.1.trans h.2.2.1, g.2.2.2.trans h.2.2.2.1, (g.2.1 _ _ (by omega)).trans h.2.2.2.2⟩
theorem Sc.m {S S' : Sto} {x : Int64} (h : Sc S S') : Sm S (sL S' 2178 0 x) x := ⟨fun a i q => h.1 a i q, fun a i q => by rw [gL_sL, if_neg (by omega)]; exact h.2.1 a i (by omega), h.2.2.1, h.2.2.2, by rw [gL_sL, if_pos ⟨rfl, rfl⟩]⟩
theorem Sm.K {S S' : Sto} {x : Int64} (h : Sm S S' x) {k : Nat} {C : Chp} (hk : k < 4) (r : RepK S (344 + 22 * k) C) : RepK S' (344 + 22 * k) C := r.cg (fun a i l1 l2 => h.1 a i (kept_rng (by omega)))
theorem Sm.M {S S' : Sto} {x : Int64} (h : Sm S S' x) {k : Nat} {C : Chp} (r : RefK S k C) : RefK S' k C := r.cg (fun a i l1 l2 => h.1 a i (kept_rng (by omega)))
theorem Sm.X {S S' : Sto} {x : Int64} (h : Sm S S' x) {k : Nat} {C : Chp} (hk : k < 4) (r : RepX S (344 + 22 * k) C) : RepX S' (344 + 22 * k) C := r.cg (fun a i l1 l2 => h.1 a i (kept_rng (by omega))) (fun i => h.2.1 _ i (by omega))
theorem Sm.Y {S S' : Sto} {x : Int64} (h : Sm S S' x) {k : Nat} {C : Chp} (w : WFC C) (wx : WFX C) (r : RefX S k C) : RefX S' k C := r.cg w wx (fun a i l => h.1 a i (ownC_kept l)) (fun i l => h.2.1 _ i (by omega))
theorem Sm.chip {c : Nat} {S S' : Sto} {x : Int64} (g : Sm S S' x) (h : Inv c S) {p : Int} (hp : i32 p) (q : isCh S p) : mX23_isChip S' p = some 1 := m_isChip_w h (fun i => g.1 _ _ (kept_rng (by omega))) (fun i => g.1 _ _ (kept_rng (by omega))) hp q
theorem Inv.sm {c : Nat} {S S' : Sto} {x : Int64} (h : Inv c S) (hc : c < 64) (g : Sm S S' x) : Inv (c + 1) S' := h.gen hc g.1 g.2.1 (by rw [g.2.2.1]; omega) (by rw [g.2.2.2.1]; omega)
/-- both sides answer v, scratch cells alone are changed -/
theorem L_scr {c : Nat} {S : Sto} {m : Option ((Int × Sto) ⊕ (Nat × Sto))} {m1 : Sto → Option (Int × Sto)} {cs : List (Nat × Int)} (v : Int) (h : Inv c S) (hc : c < 64)
    (hx : WP m (WE (fun x => x.1 = v ∧ Sc S x.2) (fun _ => False)))
    (hm : ∀ S1, Sm S S1 (i2l v) → WP (m1 S1) (fun y => y.1 = v ∧ gI y.2 2000 0 = 0 ∧ Sc S1 y.2)) :
    WP (bX (bC m (fun x1 => wrL 1 x1.2 2178 0 (i2l x1.1) fun S2 => some (0, S2)) cs) fun x1 => bX (m1 x1.2) fun x2 => bX (mX23_thrown x2.2) fun x3 => if ¬ w32 x3 = w32 x1.1 then none else bX (if w32 x1.1 = 0 then rdL 1 x2.2 2178 0 fun v4 => if ¬ w32 (lCmp v4 (i2l x2.1)) = 0 then some true else some false else some false) fun b => if b = true then none else some x2.2) (Inv (c + 1)) := by
  refine L_modS (hx.mono fun z hz => ?_)
  cases z with
  | inr t => exact hz
  | inl x =>
    obtain ⟨x1, x2⟩ := hz
    show WP (m1 (sL x.2 2178 0 (i2l x.1))) _
    rw [x1]
    refine (hm _ x2.m).mono (fun y hy => ?_)
    have := (x2.m (x := i2l v)).sc hy.2.2
    exact ⟨hy.1, hy.2.1, this.2.2.2.2, h.sm hc this⟩
/-! wire -/
section WIRE
variable {c : Nat} {S : Sto}
theorem m_isNet {S1 : Sto} {k : Nat} {C : Chp} {p : Int} (hch : mX23_isChip S1 (k : Int) = some 1) (m : RefK S1 k C) (w : WFC C) (hk : k < 4) (hp : i32 p) : mX23_isNet S1 (k : Int) p = some (if ¬ p < 0 then (if p < (kN C : Int) then 1 else 0) else 0) := by
  have hn := w.nums
  unfold i32 at hp
  unfold mX23_isNet
  rw [hch, bX_some, if_pos (by decide), w32_id hp]
  by_cases q1 : p < 0
  · rw [if_neg (by omega), if_neg (by omega)]; rfl
  · rw [if_pos (by omega), if_pos q1, m_netCount m w hk, bX_some, w32_id (by omega)]
    by_cases q2 : p < (kN C : Int)
    · rw [if_pos q2, if_pos q2]; rfl
    · rw [if_neg q2, if_neg q2]; rfl
theorem m_isNet_t {S1 : Sto} {k n : Nat} {C : Chp} (hch : mX23_isChip S1 (k : Int) = some 1) (m : RefK S1 k C) (w : WFC C) (hk : k < 4) (h : n < kN C) : mX23_isNet S1 (k : Int) (n : Int) = some 1 := by
  have hn := w.nums
  rw [m_isNet hch m w hk (by unfold i32; omega), if_pos (by omega), if_pos (by omega)]
theorem m_isNet_f {S1 : Sto} {k : Nat} {p : Int} {C : Chp} (hch : mX23_isChip S1 (k : Int) = some 1) (m : RefK S1 k C) (w : WFC C) (hk : k < 4) (hp : i32 p) (h : ¬ (0 ≤ p ∧ p < (kN C : Int))) : mX23_isNet S1 (k : Int) p = some 0 := by
  rw [m_isNet hch m w hk hp]
  by_cases q : p < 0
  · rw [if_neg (by omega)]
  · rw [if_pos q, if_neg (by omega)]
theorem m_isNet_no {S1 : Sto} {p q : Int} (hch : mX23_isChip S1 p = some 0) : mX23_isNet S1 p q = some 0 := by
  unfold mX23_isNet; rw [hch]; rfl
theorem L30 {p1 p2 : Int} (h : Inv c S) (hc : c < 64) (h1 : i32 p1) (h2 : i32 p2) : WP (mL_30 S p1 p2) (Inv (c + 1)) := by
  have rx := h.1.x hc
  unfold mL_30 mX0_wire
  by_cases hq : isCh S p1
  · have hx := chipIn_t hq; obtain ⟨k, C, hk, rfl, w, r, m, wx, rX, mX⟩ := InvC.get h hq; rw [Int.toNat_natCast] at hx; have hn := w.nums; have eg := r.1.2.2.2.1; have em := m.1.2.2.2.1; rw [w.g] at eg em; have ei := r.1.1; have mi := m.1.1; rw [w.i] at ei mi; have er := r.1.2.1; have mr := m.1.2.1; rw [w.r] at er mr; have eo := r.1.2.2.1; have mo := m.1.2.2.1; rw [w.o] at eo mo; have el := r.1.2.2.2.2.1; have ml := m.1.2.2.2.2.1; rw [w.l] at el ml
    have h2' := h2
    unfold i32 at h2
    have kn := k_nets r w
    have hp := k_hasPlaces rX.1 wx.1
    have wp1 := wx.1.1
    have e16 := mX.1.1.1
    have mn : ∀ S1, (∀ a i, gI S1 a i = gI S a i) → mX23_isNet S1 (k : Int) p2 = _ := fun S1 eS => m_isNet (m_isChip_t h eS h1 hq) (m.cg (fun a i _ _ => eS a i)) w hk h2'
    by_cases q1 : p2 < -1 ∨ (kN C : Int) ≤ p2
    · refine L_modF (m1 := fun S1 => mX23_wire S1 _ _) 1 1 h hc ?_ rfl (by omega) (fun S1 eS => ?_)
      · rcases q1 with q1 | q1
        · simp (disch := omega) only [mX1_wire, hx, gI_thr, gz_0, gz_1, true_or, or_true, or_false, false_or, rdI_e, rdZ_e, rdL_e, wrI_e, wrL_e, bX_some, bE_inl, bE_inr, bT_inl, bT_inr, wf_eq, wfL_eq, wfR_eq, gkc_chip, gkc_dsg, gkc_lib, gk_chip, gk_dsg, gk_lib, gth_e rx, inside_0 rx, inside_1, need_0 rx, need_1, now_0 rx, now_1, roomX_0 rx, roomX_1, w32_id, w32_gI, ← Int.not_lt, not_true_eq_false, not_false_eq_true, if_true, if_false, reduceIte, Bool.false_eq_true, Int.toNat_natCast, Int.reduceToNat, Int.toNat_add, Int.toNat_mul, Int.reduceLT, Int.reduceEq, Int.reduceNeg, Nat.reduceAdd, hI_sI, and_self, Nat.reduceEqDiff, true_and, and_true, and_false, false_and, ne_eq, q1]
        · have q1' : ¬ p2 < -1 := by omega
          have q1'' : ¬ p2 < (kN C : Int) := by omega
          simp (disch := omega) only [mX1_wire, hx, gI_thr, gz_0, gz_1, true_or, or_true, or_false, false_or, rdI_e, rdZ_e, rdL_e, wrI_e, wrL_e, bX_some, bE_inl, bE_inr, bT_inl, bT_inr, wf_eq, wfL_eq, wfR_eq, gkc_chip, gkc_dsg, gkc_lib, gk_chip, gk_dsg, gk_lib, gth_e rx, inside_0 rx, inside_1, need_0 rx, need_1, now_0 rx, now_1, roomX_0 rx, roomX_1, w32_id, w32_gI, ← Int.not_lt, not_true_eq_false, not_false_eq_true, if_true, if_false, reduceIte, Bool.false_eq_true, Int.toNat_natCast, Int.reduceToNat, Int.toNat_add, Int.toNat_mul, Int.reduceLT, Int.reduceEq, Int.reduceNeg, Nat.reduceAdd, hI_sI, and_self, Nat.reduceEqDiff, true_and, and_true, and_false, false_and, ne_eq, q1', q1'', kn]
      · have q2 : ¬ p2 = -1 := by omega
        have q3 : ¬ (0 ≤ p2 ∧ p2 < (kN C : Int)) := by omega
        simp (disch := omega) only [mX23_wire, m_isChip_t h eS h1 hq, m_isNet_f (m_isChip_t h eS h1 hq) (m.cg (fun a i _ _ => eS a i)) w hk h2' q3, gI_thr, gz_0, gz_1, true_or, or_true, or_false, false_or, rdI_e, rdZ_e, rdL_e, wrI_e, wrL_e, bX_some, bE_inl, bE_inr, bT_inl, bT_inr, wf_eq, wfL_eq, wfR_eq, gkc_chip, gkc_dsg, gkc_lib, gk_chip, gk_dsg, gk_lib, gth_e rx, inside_0 rx, inside_1, need_0 rx, need_1, now_0 rx, now_1, roomX_0 rx, roomX_1, w32_id, w32_gI, ← Int.not_lt, not_true_eq_false, not_false_eq_true, if_true, if_false, reduceIte, Bool.false_eq_true, Int.toNat_natCast, Int.reduceToNat, Int.toNat_add, Int.toNat_mul, Int.reduceLT, Int.reduceEq, Int.reduceNeg, Nat.reduceAdd, hI_sI, and_self, Nat.reduceEqDiff, true_and, and_true, and_false, false_and, ne_eq, q2, w32_1, w32_0, gI_set, hI_sI_i]
    have q1a : ¬ p2 < -1 := by omega
    have q1b : p2 < (kN C : Int) := by omega
    by_cases q2 : C 16 0 = 0
    · rw [if_pos q2] at hp
      rw [q2] at e16
      refine L_modF (m1 := fun S1 => mX23_wire S1 _ _) 2 3 h hc ?_ rfl (by omega) (fun S1 eS => ?_)
      · simp (disch := omega) only [mX1_wire, hx, gI_thr, gz_0, gz_1, true_or, or_true, or_false, false_or, rdI_e, rdZ_e, rdL_e, wrI_e, wrL_e, bX_some, bE_inl, bE_inr, bT_inl, bT_inr, wf_eq, wfL_eq, wfR_eq, gkc_chip, gkc_dsg, gkc_lib, gk_chip, gk_dsg, gk_lib, gth_e rx, inside_0 rx, inside_1, need_0 rx, need_1, now_0 rx, now_1, roomX_0 rx, roomX_1, w32_id, w32_gI, ← Int.not_lt, not_true_eq_false, not_false_eq_true, if_true, if_false, reduceIte, Bool.false_eq_true, Int.toNat_natCast, Int.reduceToNat, Int.toNat_add, Int.toNat_mul, Int.reduceLT, Int.reduceEq, Int.reduceNeg, Nat.reduceAdd, hI_sI, and_self, Nat.reduceEqDiff, true_and, and_true, and_false, false_and, ne_eq, q1a, q1b, kn, hp]
      · by_cases q3 : p2 = -1
        · subst q3
          simp (disch := omega) only [mX23_wire, m_isChip_t h eS h1 hq, gI_thr, gz_0, gz_1, true_or, or_true, or_false, false_or, rdI_e, rdZ_e, rdL_e, wrI_e, wrL_e, bX_some, bE_inl, bE_inr, bT_inl, bT_inr, wf_eq, wfL_eq, wfR_eq, gkc_chip, gkc_dsg, gkc_lib, gk_chip, gk_dsg, gk_lib, gth_e rx, inside_0 rx, inside_1, need_0 rx, need_1, now_0 rx, now_1, roomX_0 rx, roomX_1, w32_id, w32_gI, ← Int.not_lt, not_true_eq_false, not_false_eq_true, if_true, if_false, reduceIte, Bool.false_eq_true, Int.toNat_natCast, Int.reduceToNat, Int.toNat_add, Int.toNat_mul, Int.reduceLT, Int.reduceEq, Int.reduceNeg, Nat.reduceAdd, hI_sI, and_self, Nat.reduceEqDiff, true_and, and_true, and_false, false_and, ne_eq, eS, e16, w32_1, w32_0, gI_set]
        · obtain ⟨n, rfl⟩ : ∃ n : Nat, p2 = (n : Int) := ⟨p2.toNat, by omega⟩
          simp (disch := omega) only [mX23_wire, m_isChip_t h eS h1 hq, m_isNet_t (m_isChip_t h eS h1 hq) (m.cg (fun a i _ _ => eS a i)) w hk (show n < kN C by omega), gI_thr, gz_0, gz_1, true_or, or_true, or_false, false_or, rdI_e, rdZ_e, rdL_e, wrI_e, wrL_e, bX_some, bE_inl, bE_inr, bT_inl, bT_inr, wf_eq, wfL_eq, wfR_eq, gkc_chip, gkc_dsg, gkc_lib, gk_chip, gk_dsg, gk_lib, gth_e rx, inside_0 rx, inside_1, need_0 rx, need_1, now_0 rx, now_1, roomX_0 rx, roomX_1, w32_id, w32_gI, ← Int.not_lt, not_true_eq_false, not_false_eq_true, if_true, if_false, reduceIte, Bool.false_eq_true, Int.toNat_natCast, Int.reduceToNat, Int.toNat_add, Int.toNat_mul, Int.reduceLT, Int.reduceEq, Int.reduceNeg, Nat.reduceAdd, hI_sI, and_self, Nat.reduceEqDiff, true_and, and_true, and_false, false_and, ne_eq, q3, eS, e16, w32_1, w32_0, gI_set]
    · rw [if_neg q2] at hp
      refine L_scr (m1 := fun S1 => mX23_wire S1 _ _) (if p2 = -1 then kTot C (kN C) else kWire C p2.toNat) h hc ?_ (fun S1 eS => ?_)
      · simp (disch := omega) only [mX1_wire, hx, gI_thr, gz_0, gz_1, true_or, or_true, or_false, false_or, rdI_e, rdZ_e, rdL_e, wrI_e, wrL_e, bX_some, bE_inl, bE_inr, bT_inl, bT_inr, wf_eq, wfL_eq, wfR_eq, gkc_chip, gkc_dsg, gkc_lib, gk_chip, gk_dsg, gk_lib, gth_e rx, inside_0 rx, inside_1, need_0 rx, need_1, now_0 rx, now_1, roomX_0 rx, roomX_1, w32_id, w32_gI, ← Int.not_lt, not_true_eq_false, not_false_eq_true, if_true, if_false, reduceIte, Bool.false_eq_true, Int.toNat_natCast, Int.reduceToNat, Int.toNat_add, Int.toNat_mul, Int.reduceLT, Int.reduceEq, Int.reduceNeg, Nat.reduceAdd, hI_sI, and_self, Nat.reduceEqDiff, true_and, and_true, and_false, false_and, ne_eq, q1a, q1b, kn, hp]
        refine WP_call (k_take r w hk rfl) (fun x hx => ?_)
        obtain ⟨x1, x2, x3⟩ := hx
        have sc : Sc S x := Sc.tr Sc.refl.sR (Sc.ch x3 rfl)
        by_cases q3 : p2 = -1
        · rw [if_pos q3, if_pos q3, k_total x1 hk rfl x2 (sc.K hk r) w wx.1 (sc.X hk rX).1 q2, bX_some, bX_some]
          exact WP_some.2 ⟨rfl, sc⟩
        · obtain ⟨n, rfl⟩ : ∃ n : Nat, p2 = (n : Int) := ⟨p2.toNat, by omega⟩
          rw [if_neg q3, if_neg q3, k_wire x1 hk rfl x2 w wx.1 (sc.X hk rX).1 q2 (show n < kN C by omega), bX_some, bX_some, Int.toNat_natCast]
          exact WP_some.2 ⟨rfl, sc⟩
      · have mS := eS.M m
        have e16' := (eS.Y w wx mX).1.1.1
        have fin : WP (bX (mX23_wholeWire (sI S1 2000 0 0) (k : Int)) fun x6 => bX (if p2 = -1 then some x6.1 else bX (mX23_wireOf x6.2 p2) fun x7 => some x7) fun y8 => some (y8, x6.2)) (fun y => y.1 = (if p2 = -1 then kTot C (kN C) else kWire C p2.toNat) ∧ gI y.2 2000 0 = 0 ∧ Sc S1 y.2) := by
          have s0 : Sc S1 (sI S1 2000 0 0) := Sc.refl.sI rfl
          refine WP_callF (m_wholeWire (s0.M mS) ((s0.Y w wx (eS.Y w wx mX)).1) w wx.1 q2 hk) fr_mX23_wholeWire (fun x hx hf => ?_)
          obtain ⟨x1, x2, x3⟩ := hx
          have sc := s0.tr (Sc.fr hf rfl rfl)
          have z0 : gI x.2 2000 0 = 0 := (hf.ei rfl).trans gI_set
          by_cases q3 : p2 = -1
          · rw [if_pos q3, if_pos q3, bX_some, x1]
            exact WP_some.2 ⟨rfl, z0, sc⟩
          · obtain ⟨n, rfl⟩ : ∃ n : Nat, p2 = (n : Int) := ⟨p2.toNat, by omega⟩
            rw [if_neg q3, if_neg q3, m_wireOf w q2 x2 (show n < kN C by omega), bX_some, bX_some, Int.toNat_natCast]
            exact WP_some.2 ⟨rfl, z0, sc⟩
        by_cases q3 : p2 = -1
        · subst q3
          simp (disch := omega) only [mX23_wire, eS.chip h h1 hq, gI_thr, gz_0, gz_1, true_or, or_true, or_false, false_or, rdI_e, rdZ_e, rdL_e, wrI_e, wrL_e, bX_some, bE_inl, bE_inr, bT_inl, bT_inr, wf_eq, wfL_eq, wfR_eq, gkc_chip, gkc_dsg, gkc_lib, gk_chip, gk_dsg, gk_lib, gth_e rx, inside_0 rx, inside_1, need_0 rx, need_1, now_0 rx, now_1, roomX_0 rx, roomX_1, w32_id, w32_gI, ← Int.not_lt, not_true_eq_false, not_false_eq_true, if_true, if_false, reduceIte, Bool.false_eq_true, Int.toNat_natCast, Int.reduceToNat, Int.toNat_add, Int.toNat_mul, Int.reduceLT, Int.reduceEq, Int.reduceNeg, Nat.reduceAdd, hI_sI, and_self, Nat.reduceEqDiff, true_and, and_true, and_false, false_and, ne_eq, e16', q2, w32_1, w32_0, gI_set]
          exact fin
        · obtain ⟨n, rfl⟩ : ∃ n : Nat, p2 = (n : Int) := ⟨p2.toNat, by omega⟩
          simp (disch := omega) only [mX23_wire, eS.chip h h1 hq, m_isNet_t (eS.chip h h1 hq) mS w hk (show n < kN C by omega), gI_thr, gz_0, gz_1, true_or, or_true, or_false, false_or, rdI_e, rdZ_e, rdL_e, wrI_e, wrL_e, bX_some, bE_inl, bE_inr, bT_inl, bT_inr, wf_eq, wfL_eq, wfR_eq, gkc_chip, gkc_dsg, gkc_lib, gk_chip, gk_dsg, gk_lib, gth_e rx, inside_0 rx, inside_1, need_0 rx, need_1, now_0 rx, now_1, roomX_0 rx, roomX_1, w32_id, w32_gI, ← Int.not_lt, not_true_eq_false, not_false_eq_true, if_true, if_false, reduceIte, Bool.false_eq_true, Int.toNat_natCast, Int.reduceToNat, Int.toNat_add, Int.toNat_mul, Int.reduceLT, Int.reduceEq, Int.reduceNeg, Nat.reduceAdd, hI_sI, and_self, Nat.reduceEqDiff, true_and, and_true, and_false, false_and, ne_eq, q3, e16', q2, w32_1, w32_0, gI_set]
          exact fin
  · refine L_modF (m1 := fun S1 => mX23_wire S1 _ _) 1 1 h hc ?_ rfl (by omega) (fun S1 eS => ?_)
    · rw [mX1_wire, chipIn_f hq rx h1]; rfl
    · unfold mX23_wire; rw [m_isChip_f h eS h1 hq]; rfl
end WIRE
