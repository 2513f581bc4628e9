/-! false pairs -/
def anyN (f : Nat → Bool) : Nat → Bool
  | 0 => false
  | n + 1 => anyN f n || f n
theorem anyN_t {f : Nat → Bool} {n : Nat} : anyN f n = true ↔ ∃ i, i < n ∧ f i = true := by
  induction n with
  | zero => exact ⟨fun h => (nomatch h), fun ⟨i, h, _⟩ => absurd h (Nat.not_lt_zero _)⟩
  | succ n ih =>
    show (anyN f n || f n) = true ↔ _
    rw [Bool.or_eq_true, ih]
    constructor
    · rintro (⟨i, h1, h2⟩ | h)
      · exact ⟨i, by omega, h2⟩
      · exact ⟨n, by omega, h⟩
    · rintro ⟨i, h1, h2⟩
      by_cases e : i = n
      · subst e; exact .inr h2
      · exact .inl ⟨i, by omega, h2⟩
def kFls (C : Chp) (n e : Int) : Bool := anyN (fun i => decide (C 26 i = n ∧ C 27 i = e)) (kFs C)
def kEnd (C : Chp) (e : Nat) : Int := if e < kO C then C 6 e else C 7 (e - kO C)
theorem kEnd_rng {C : Chp} (w : WFC C) {e : Nat} (h : e < kO C + kR C) : -2 ≤ kEnd C e ∧ kEnd C e < kN C := by
  have hn := w.nums
  unfold kEnd
  by_cases q : e < kO C
  · have := w.2.2.2.1 e q
    rw [w.i, w.r, w.g] at this
    rw [if_pos q]; omega
  · have := w.2.2.2.2.1 (e - kO C) (by omega)
    rw [w.i, w.r, w.g] at this
    rw [if_neg q]; omega
section FLS
variable {S : Sto} {L k : Nat} {C : Chp}
theorem k_isFalse (hk : k < 4) (hL : L = 344 + 22 * k) (hT : gR S 244 1 = L) (rF : RepF S L C) (wF : WFF C) {p1 p2 : Int} (h1 : i32 p1) (h2 : i32 p2) : mX17_isFalse S p1 p2 = some (b2i (kFls C p1 p2)) := by
  have w0 := wF.1
  have hf : kFs C ≤ 40 ∧ C 25 0 = (kFs C : Int) := by unfold kFs; omega
  have e22 := rF.1
  rw [hf.2] at e22
  have key : WP (lpF (mX17_isFalse_L2 S p1 p2) 0) (WE (fun _ => kFls C p1 p2 = false) (fun z => z = 1 ∧ kFls C p1 p2 = true)) := by
    refine WP_cnt (kFs C) (fun i z => z = (i : Int) ∧ anyN (fun i => decide (C 26 i = p1 ∧ C 27 i = p2)) i = false) (by unfold cFU; omega) ⟨rfl, rfl⟩ (fun i z hi hI => ?_) (fun z hI => ?_)
    · obtain ⟨rfl, b2⟩ := hI
      have ri := rF.2 i hi
      have wi := wF.2 i hi
      have go : ¬ (C 26 i = p1 ∧ C 27 i = p2) → anyN (fun i => decide (C 26 i = p1 ∧ C 27 i = p2)) (i + 1) = false := fun g => by
        show (anyN _ i || decide _) = false
        rw [b2, decide_eq_false g]; rfl
      unfold i32 at h1 h2
      unfold mX17_isFalse_L2
      rw [hT, hL]
      simp only [gk_chip hk]
      rw [← hL, e22, w32_id (by omega), w32_id (by omega), if_pos (by omega), rdI_e (by omega), Int.toNat_natCast, ri.1, rdI_e (by omega), Int.toNat_natCast, ri.2, ← ri.1, w32_gI, ri.1, w32_id h1]
      by_cases q : C 26 i = p1
      · rw [if_pos q, ← ri.2, w32_gI, ri.2, w32_id h2]
        by_cases z : C 27 i = p2
        · rw [if_pos z, bX_some, if_pos rfl]
          exact WP_some.2 ⟨rfl, anyN_t.2 ⟨i, hi, decide_eq_true ⟨q, z⟩⟩⟩
        · rw [if_neg z, bX_some, if_neg (by decide)]
          exact WP_some.2 ⟨by show (i : Int) + 1 = _; omega, go (fun g => z g.2)⟩
      · rw [if_neg q, bX_some, if_neg (by decide)]
        exact WP_some.2 ⟨by show (i : Int) + 1 = _; omega, go (fun g => q g.1)⟩
    · obtain ⟨rfl, b2⟩ := hI
      unfold mX17_isFalse_L2
      rw [hT, hL]
      simp only [gk_chip hk]
      rw [← hL, e22, if_neg (by omega)]
      exact WP_some.2 b2
  obtain ⟨z, h1', h2'⟩ := key
  unfold mX17_isFalse
  rw [h1']
  cases z with
  | inl u => have h2' : kFls C p1 p2 = false := h2'
             rw [bE_inl, h2']; rfl
  | inr u => obtain ⟨h3, h4⟩ := h2'
             rw [bE_inr, h3, h4]; rfl
theorem m_isFalse (hk : k < 4) (mF : RefF S k C) (wF : WFF C) {p1 p2 : Int} (h1 : i32 p1) (h2 : i32 p2) : mX23_isFalse S (k : Int) p1 p2 = some (b2i (kFls C p1 p2)) := by
  have w0 := wF.1
  have hf : kFs C ≤ 40 ∧ C 25 0 = (kFs C : Int) := by unfold kFs; omega
  have e22 := mF.1
  rw [hf.2] at e22
  have key : WP (lpF (mX23_isFalse_L6 S (k : Int) p1 p2) (0, 0)) (fun z => z = b2i (kFls C p1 p2)) := by
    refine WP_cnt (kFs C) (fun i z => z = (b2i (anyN (fun i => decide (C 26 i = p1 ∧ C 27 i = p2)) i), (i : Int))) (by unfold cFU; omega) rfl (fun i z hi hI => ?_) (fun z hI => ?_)
    · subst hI
      have ri := mF.2 i hi
      have wi := wF.2 i hi
      unfold i32 at h1 h2
      have zt : (40 * (k : Int) + (i : Int)).toNat = 40 * k + i := by omega
      have e : anyN (fun i => decide (C 26 i = p1 ∧ C 27 i = p2)) (i + 1) = (anyN (fun i => decide (C 26 i = p1 ∧ C 27 i = p2)) i || decide (C 26 i = p1 ∧ C 27 i = p2)) := rfl
      unfold mX23_isFalse_L6
      dsimp only
      rw [rdI_e (by omega), Int.toNat_natCast, e22, w32_id (by omega), w32_id (by omega), if_pos (by omega), rdI_e (by omega), zt, ri.1, rdI_e (by omega), zt, ri.2, w32_b2i, e]
      cases ha : anyN (fun i => decide (C 26 i = p1 ∧ C 27 i = p2)) i with
      | true =>
        rw [if_neg (by decide), bX_some, if_pos rfl, bX_some]
        exact WP_some.2 rfl
      | false =>
        rw [if_pos (by rfl), ← ri.1, w32_gI, ri.1, w32_id h1]
        by_cases q : C 26 i = p1
        · rw [if_pos q, ← ri.2, w32_gI, ri.2, w32_id h2]
          by_cases z : C 27 i = p2
          · rw [if_pos z, bX_some, if_pos rfl, bX_some, decide_eq_true (show C 26 i = p1 ∧ C 27 i = p2 from ⟨q, z⟩)]
            exact WP_some.2 rfl
          · rw [if_neg z, bX_some, if_neg (by decide), bX_some, decide_eq_false (show ¬ (C 26 i = p1 ∧ C 27 i = p2) from fun g => z g.2)]
            exact WP_some.2 rfl
        · rw [if_neg q, bX_some, if_neg (by decide), bX_some, decide_eq_false (show ¬ (C 26 i = p1 ∧ C 27 i = p2) from fun g => q g.1)]
          exact WP_some.2 rfl
    · subst hI
      unfold mX23_isFalse_L6
      dsimp only
      rw [rdI_e (by omega), Int.toNat_natCast, e22, if_neg (by omega)]
      exact WP_some.2 rfl
  unfold mX23_isFalse
  rw [key.of, bX_some, gz_b2i]
theorem k_ends (hk : k < 4) (hL : L = 344 + 22 * k) (hT : gR S 244 1 = L) (r : RepK S L C) (w : WFC C) : mX17_ends S = some ((kO C + kR C : Nat) : Int) := by
  have e3 := r.1.2.2.1
  rw [w.o] at e3
  have e2 := r.1.2.1
  rw [w.r] at e2
  unfold mX17_ends
  rw [hT, hL]
  simp only [gk_chip hk]
  rw [← hL, e3, e2]; rfl
theorem k_netOfEnd (hk : k < 4) (hL : L = 344 + 22 * k) (hT : gR S 244 1 = L) (r : RepK S L C) (w : WFC C) {e : Nat} (he : e < kO C + kR C) : mX17_netOfEnd S (e : Int) = some (kEnd C e) := by
  have hn := w.nums
  have e3 := r.1.2.2.1
  rw [w.o] at e3
  unfold mX17_netOfEnd kEnd
  rw [hT, hL]
  simp only [gk_chip hk]
  rw [← hL, e3, w32_id (by omega), w32_id (by omega)]
  by_cases q : e < kO C
  · rw [if_pos (by omega), if_pos q, rdI_e (by omega), Int.toNat_natCast, r.2.2.2.1 e q, bX_some]
  · have zt : ((e : Int) - (kO C : Int)).toNat = e - kO C := by omega
    rw [if_neg (by omega), if_neg q, rdI_e (by omega), zt, r.2.2.2.2.1 _ (by omega), bX_some]
theorem m_endNet (hk : k < 4) (m : RefK S k C) (w : WFC C) {e : Nat} (he : e < kO C + kR C) : mX23_endNet S (k : Int) (e : Int) = some (kEnd C e) := by
  have hn := w.nums
  have e3 := m.1.2.2.1
  rw [w.o] at e3
  have e2 := m.1.2.1
  rw [w.r] at e2
  unfold mX23_endNet kEnd
  rw [w32_id (by omega), if_pos (by omega), rdI_e (by omega), rdI_e (by omega), Int.toNat_natCast, e3, e2, w32_id (by omega), if_neg (by omega), bX_some, if_neg (by decide), rdI_e (by omega), Int.toNat_natCast, e3, w32_id (by omega)]
  by_cases q : e < kO C
  · have zt : (16 * (k : Int) + (e : Int)).toNat = 16 * k + e := by omega
    rw [if_pos (by omega), if_pos q, rdI_e (by omega), zt, m.2.2.2.1 e q, bX_some]
  · have zt : (6 * (k : Int) + (e : Int) - (kO C : Int)).toNat = 6 * k + (e - kO C) := by omega
    rw [if_neg (by omega), if_neg q, rdI_e (by omega), Int.toNat_natCast, e3, rdI_e (by omega), zt, m.2.2.2.2.1 _ (by omega), bX_some]
theorem m_endNet_no (hk : k < 4) (m : RefK S k C) (w : WFC C) {p : Int} (hp : i32 p) (he : ¬ (0 ≤ p ∧ p < ((kO C + kR C : Nat) : Int))) : mX23_endNet S (k : Int) p = some (-1) := by
  have hn := w.nums
  have e3 := m.1.2.2.1
  rw [w.o] at e3
  have e2 := m.1.2.1
  rw [w.r] at e2
  unfold i32 at hp
  unfold mX23_endNet
  rw [w32_id hp]
  by_cases q : 0 ≤ p
  · rw [if_pos q, rdI_e (by omega), rdI_e (by omega), Int.toNat_natCast, e3, e2, w32_id (by omega), if_pos (by omega), bX_some, if_pos rfl, bX_some]
  · rw [if_neg q, bX_some, if_pos rfl, bX_some]
end FLS
/-! truth values that come behind changes of scratch cells -/
theorem L_bscr {c : Nat} {S : Sto} {m : Option ((Int × Sto) ⊕ (Nat × Sto))} {m1 : Sto → Option (Int × Sto)} {cs : List (Nat × Int)} (v : Int) (h : Inv c S) (hc : c < 64)
    (hx : WP m (WE (fun x => x.1 = v ∧ Sc S x.2) (fun _ => False)))
    (hm : ∀ S1, Sm S S1 (if ¬ w32 v = 0 then 1 else 0) → WP (m1 S1) (fun y => y.1 = v ∧ gI y.2 2000 0 = 0 ∧ Sc S1 y.2)) :
    WP (bX (bC m (fun x1 => bX (if ¬ w32 x1.1 = 0 then some 1 else some 0) fun y2 => wrL 1 x1.2 2178 0 y2 fun S3 => some (0, S3)) cs) fun x1 => bX (m1 x1.2) fun x2 => bX (mX23_thrown x2.2) fun x3 => if ¬ w32 x3 = w32 x1.1 then none else bX (if w32 x1.1 = 0 then rdL 1 x2.2 2178 0 fun v4 => bX (if ¬ w32 x2.1 = 0 then some 1 else some 0) fun y5 => if ¬ w32 (lCmp v4 y5) = 0 then none else some () else some ()) fun y6 => some x2.2) (Inv (c + 1)) := by
  refine L_boolS (hx.mono fun z hz => ?_)
  cases z with
  | inr t => exact hz
  | inl x =>
    obtain ⟨x1, x2⟩ := hz
    show WP (m1 (sL x.2 2178 0 _)) _
    rw [x1]
    refine (hm _ x2.m).mono (fun y hy => ?_)
    have := (x2.m (x := (if ¬ w32 v = 0 then 1 else 0))).sc hy.2.2
    exact ⟨hy.1, hy.2.1, this.2.2.2.2, h.sm hc this⟩
theorem L_bscrF {c : Nat} {S : Sto} {m : Option ((Int × Sto) ⊕ (Nat × Sto))} {m1 : Sto → Option (Int × Sto)} {cs : List (Nat × Int)} (code : Int) (kd : Nat) (h : Inv c S) (hc : c < 64)
    (hx : WP m (WE (fun _ => False) (fun t => t.1 = kd ∧ ∃ S', t.2 = thrS S' ∧ Sc S S'))) (hcs : cs.lookup kd = some code) (hcode : 0 < code ∧ code < 10)
    (hm : ∀ S1, (∀ a i, kept a i = true → gI S1 a i = gI S a i) → WP (m1 S1) (fun y => gI y.2 2000 0 = code ∧ Sc S1 y.2)) :
    WP (bX (bC m (fun x1 => bX (if ¬ w32 x1.1 = 0 then some 1 else some 0) fun y2 => wrL 1 x1.2 2178 0 y2 fun S3 => some (0, S3)) cs) fun x1 => bX (m1 x1.2) fun x2 => bX (mX23_thrown x2.2) fun x3 => if ¬ w32 x3 = w32 x1.1 then none else bX (if w32 x1.1 = 0 then rdL 1 x2.2 2178 0 fun v4 => bX (if ¬ w32 x2.1 = 0 then some 1 else some 0) fun y5 => if ¬ w32 (lCmp v4 y5) = 0 then none else some () else some ()) fun y6 => some x2.2) (Inv (c + 1)) := by
  refine L_bool (bC_WP (hx.mono fun z hz => ?_))
  cases z with
  | inl t => exact False.elim hz
  | inr t =>
    obtain ⟨z1, S', z2, z3⟩ := hz
    show ∃ c', cs.lookup t.1 = some c' ∧ _
    rw [z1]
    refine ⟨code, hcs, ?_⟩
    show WP (m1 t.2) _
    rw [z2]
    refine (hm (thrS S') (fun a i q => z3.1 a i q)).mono (fun y hy => ?_)
    refine ⟨by rw [hy.1], fun g => absurd g (by show ¬ code = 0; omega), .inr (by show w32 code ≠ 0; rw [w32_id (by omega)]; omega), ?_⟩
    have g := hy.2
    refine h.gen hc (fun a i q => (g.1 a i q).trans (z3.1 a i q)) (fun a i q => (g.2.1 a i (by omega)).trans (z3.2.1 a i (by omega))) ?_ ?_
    · rw [g.2.2.1]; show nC S' + 1 ≤ _; rw [z3.2.2.1]; omega
    · rw [g.2.2.2]; show nS S' + 6 ≤ _; rw [z3.2.2.2]; omega
theorem kept_ne2 {a i : Nat} (h : kept a i = true) : ¬ (a = 2000 ∧ i = 0) := by rintro ⟨rfl, rfl⟩; exact absurd h (by decide)
/-- a chip's record is another one now -/
theorem Inv.chipQ {c k : Nat} {S S' : Sto} (h : Inv c S) (hk : k < 4) (X : Nat → Nat → Prop) (C' : Chp)
    (e : ∀ a i, kept a i = true → ¬ X a i → gI S' a i = gI S a i) (hX : ∀ a i, X a i → (344 + 22 * k ≤ a ∧ a ≤ 344 + 22 * k + 21) ∨ ownC k a i)
    (eL : ∀ a i, (a = 365 ∨ a = 387 ∨ a = 409 ∨ a = 431) ∨ a = 2175 → a ≠ 344 + 22 * k + 21 → ¬ ownC k a i → gL S' a i = gL S a i) (h1 : nC S' ≤ nC S + 10) (h2 : nS S' ≤ nS S + 20000)
    (hn : (WFC C' ∧ RepK S' (344 + 22 * k) C' ∧ RefK S' k C') ∧ WFX C' ∧ RepX S' (344 + 22 * k) C' ∧ RefX S' k C') : Inv (c + 1) S' := by
  refine h.putC hk (fun a i q g1 g2 g3 => e a i q (fun g => (hX a i g).elim g1 g2)) eL h1 h2 ?_
  have hg := h.2.2.2.2.2.2 k hk
  have x434 : gI S' 434 k = gI S 434 k := e _ _ (kept_rng (by omega)) (fun g => by rcases hX _ _ g with g | g; omega; have := g.1; omega)
  have x2105 : gI S' 2105 k = gI S 2105 k := e _ _ (kept_rng (by omega)) (fun g => by rcases hX _ _ g with g | g; omega; have := g.1; omega)
  unfold InvC at hg ⊢
  exact ⟨by rw [x434]; exact hg.1, by rw [x434, x2105]; exact hg.2.1, fun _ => ⟨C', hn⟩⟩
