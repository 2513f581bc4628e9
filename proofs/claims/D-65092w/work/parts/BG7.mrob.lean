/-! what connecting depends on; the reference robs and steps -/
section CGS
variable {C R R' : Chp} {n : Nat} {dear : Bool}
theorem prF_cg (e : R 20 = R' 20) : prF C R = prF C R' := by funext n dear p; unfold prF; rw [e]
theorem DOk_cg (e : R 20 = R' 20) : DOk C R n dear = DOk C R' n dear := by funext d; unfold DOk; rw [prF_cg e, e]
theorem dF_cg (e : R 20 = R' 20) : dF C R n dear = dF C R' n dear := by unfold dF; rw [DOk_cg e]
theorem fPr_cg (e : R 20 = R' 20) (b : Nat) : fPr C R n dear b = fPr C R' n dear b := by
  have : prI C R n dear = prI C R' n dear := by funext p; show (prF C R n dear p : Int) = _; rw [prF_cg e]
  show fP C (dF C R n dear) (prI C R n dear) b = fP C (dF C R' n dear) (prI C R' n dear) b
  rw [dF_cg e, this]
theorem whl_cg (e : R 20 = R' 20) : whl C R n = whl C R' n := by unfold whl; rw [e]
theorem cand_cg4 (e : R 20 = R' 20) : cand C R n = cand C R' n := by funext d i; unfold cand; rw [e]
theorem NrB_cg4 (e : R 20 = R' 20) : NrB C R n = NrB C R' n := by funext d b; unfold NrB; rw [cand_cg4 e]
theorem NrR_cg4 (e : R 20 = R' 20) : NrR C R n = NrR C R' n := by funext d b; unfold NrR; rw [cand_cg4 e, NrB_cg4 e, whl_cg e]
theorem nrB_cg4 (e : R 20 = R' 20) : nrB C R n = nrB C R' n := by funext d; unfold nrB; rw [NrB_cg4 e]
theorem wLen_cg (e : R 20 = R' 20) : wLen R n = wLen R' n := by funext f; unfold wLen; rw [e]
/-- alike but for what is open -/
def E4 (R R' : Chp) : Prop := R 20 = R' 20 ∧ R 21 = R' 21 ∧ R 31 = R' 31 ∧ R 32 = R' 32
theorem mBb_cg (e : R 20 = R' 20) {f : Nat → Nat} {b : Nat} : mBb R n f b = mBb R' n f b := by funext y; unfold mBb; rw [e]
theorem rQ_e4 (h : E4 R R') {f : Nat → Nat} {a b c : Nat} : E4 (rQ C R n f a b c) (rQ C R' n f a b c) := by
  obtain ⟨h1, h2, h3, h4⟩ := h
  refine ⟨funext fun x => ?_, funext fun x => ?_, funext fun x => ?_, funext fun x => ?_⟩
  · show cI (oPt f a x) (n : Int) (cI (mBb R n f b (R 20 x)) (-1) (R 20 x)) = cI (oPt f a x) (n : Int) (cI (mBb R' n f b (R' 20 x)) (-1) (R' 20 x))
    rw [mBb_cg h1, h1]
  · show cI (jBt C f c 1 x) 1 (cI (mBb R n f b (R 20 x)) 0 (R 21 x)) = cI (jBt C f c 1 x) 1 (cI (mBb R' n f b (R' 20 x)) 0 (R' 21 x))
    rw [mBb_cg h1, h1, h2]
  · show cI (jBt C f c 2 x) 1 (cI (mBb R n f b (R 20 x)) 0 (R 31 x)) = cI (jBt C f c 2 x) 1 (cI (mBb R' n f b (R' 20 x)) 0 (R' 31 x))
    rw [mBb_cg h1, h1, h3]
  · show cI (jBt C f c 4 x) 1 (cI (mBb R n f b (R 20 x)) 0 (R 32 x)) = cI (jBt C f c 4 x) 1 (cI (mBb R' n f b (R' 20 x)) 0 (R' 32 x))
    rw [mBb_cg h1, h1, h4]
theorem rFr_e4 (h : E4 R R') {y : Int} : E4 (rFr R y) (rFr R' y) := by
  obtain ⟨h1, h2, h3, h4⟩ := h
  refine ⟨funext fun x => ?_, funext fun x => ?_, funext fun x => ?_, funext fun x => ?_⟩
  · show (if R 20 x = y then -1 else R 20 x) = (if R' 20 x = y then -1 else R' 20 x); rw [h1]
  · show (if R 20 x = y then 0 else R 21 x) = (if R' 20 x = y then 0 else R' 21 x); rw [h1, h2]
  · show (if R 20 x = y then 0 else R 31 x) = (if R' 20 x = y then 0 else R' 31 x); rw [h1, h3]
  · show (if R 20 x = y then 0 else R 32 x) = (if R' 20 x = y then 0 else R' 32 x); rw [h1, h4]
theorem rOp_20 : rOp R n 20 = R 20 := funext fun x => if_neg (by omega)
theorem rOp_e4 : E4 (rOp R n) R := ⟨rOp_20, funext fun x => if_neg (by omega), funext fun x => if_neg (by omega), funext fun x => if_neg (by omega)⟩
theorem E4.symm (h : E4 R R') : E4 R' R := ⟨h.1.symm, h.2.1.symm, h.2.2.1.symm, h.2.2.2.symm⟩
theorem E4.tr {R'' : Chp} (h : E4 R R') (g : E4 R' R'') : E4 R R'' := ⟨h.1.trans g.1, h.2.1.trans g.2.1, h.2.2.1.trans g.2.2.1, h.2.2.2.trans g.2.2.2⟩
theorem rWay_e4 (h : E4 R R') : E4 (rWay C R n dear) (rWay C R' n dear) := by
  unfold rWay
  rw [dF_cg h.1, nrB_cg4 h.1, fPr_cg h.1, wLen_cg h.1]
  exact rQ_e4 h
theorem rSet_e4 (h : E4 R R') {p : Nat} : E4 (rSet R p n) (rSet R' p n) := by
  obtain ⟨h1, h2, h3, h4⟩ := h
  refine ⟨funext fun x => ?_, funext fun x => ?_, funext fun x => ?_, funext fun x => ?_⟩ <;> unfold rSet
  · rw [h1]
  · rw [h2]
  · rw [h3]
  · rw [h4]
theorem cnF_e4 : ∀ (u : Nat) (R R' : Chp), E4 R R' → E4 (cnF C n dear u R).1 (cnF C n dear u R').1 ∧ (cnF C n dear u R).2 = (cnF C n dear u R').2 := by
  intro u
  induction u with
  | zero => exact fun R R' h => ⟨h, rfl⟩
  | succ u ih =>
    intro R R' h
    show E4 (cG (whl C R n) (rOp R n, 1) (cG (∃ i, cand C R n (dF C R n dear) i) (cnF C n dear u (rWay C R n dear)) (rFr R (n : Int), 0))).1 (cG (whl C R' n) (rOp R' n, 1) (cG (∃ i, cand C R' n (dF C R' n dear) i) (cnF C n dear u (rWay C R' n dear)) (rFr R' (n : Int), 0))).1 ∧ (cG (whl C R n) (rOp R n, 1) (cG (∃ i, cand C R n (dF C R n dear) i) (cnF C n dear u (rWay C R n dear)) (rFr R (n : Int), 0))).2 = (cG (whl C R' n) (rOp R' n, 1) (cG (∃ i, cand C R' n (dF C R' n dear) i) (cnF C n dear u (rWay C R' n dear)) (rFr R' (n : Int), 0))).2
    rw [whl_cg h.1, cand_cg4 h.1, dF_cg h.1]
    by_cases q : whl C R' n
    · rw [cG_t q, cG_t q]; exact ⟨(rOp_e4.tr h).tr rOp_e4.symm, rfl⟩
    · rw [cG_f q, cG_f q]
      by_cases q2 : ∃ i, cand C R' n (dF C R' n dear) i
      · rw [cG_t q2, cG_t q2]; exact ih _ _ (rWay_e4 h)
      · rw [cG_f q2, cG_f q2]; exact ⟨rFr_e4 h, rfl⟩
theorem conF_e4 (h : E4 R R') : E4 (conF C R n dear).1 (conF C R' n dear).1 ∧ (conF C R n dear).2 = (conF C R' n dear).2 := cnF_e4 700 _ _ (rSet_e4 h)
/-- a net that is not open any more goes a way -/
theorem rQ_op {f : Nat → Nat} {a b c : Nat} : rEq (rQ C (rOp R n) n f a b c) (rOp (rQ C R n f a b c) n) := by
  have m : ∀ y, mBb (rOp R n) n f b y = mBb R n f b y := fun y => by rw [mBb_cg rOp_20]
  have e := rQ_e4 (C := C) (n := n) (f := f) (a := a) (b := b) (c := c) (rOp_e4 (R := R) (n := n))
  intro g x q
  have en : g ≠ 22 → rOp (rQ C R n f a b c) n g x = rQ C R n f a b c g x := fun h => if_neg (fun z => h z.1)
  rcases q with rfl | rfl | rfl | rfl | rfl
  · rw [en (by omega)]; exact congrFun e.1 x
  · rw [en (by omega)]; exact congrFun e.2.1 x
  · show cI (mBb (rOp R n) n f b (x : Int)) 1 (rOp R n 22 x) = (if 22 = 22 ∧ x = n then 0 else cI (mBb R n f b (x : Int)) 1 (R 22 x))
    rw [m]
    by_cases t : x = n
    · rw [if_pos ⟨rfl, t⟩, t, cI_f (fun z => z.2.1 rfl)]
      exact if_pos ⟨rfl, rfl⟩
    · rw [if_neg (fun z => t z.2)]
      have : rOp R n 22 x = R 22 x := if_neg (fun z => t z.2)
      rw [this]
  · rw [en (by omega)]; exact congrFun e.2.2.1 x
  · rw [en (by omega)]; exact congrFun e.2.2.2 x
end CGS
section MROB
variable {S z : Sto} {k n : Nat} {C R : Chp}
theorem m_rob (h : MRt S k C) (o : MOw S k C R) (rr : RRg C R) (hk : k < 4) (g : GSz C) {y : Nat} (hy : y < kN C) : WP (mX23_rob S (y : Int)) (fun z => MOw z k C (rFr R (y : Int)) ∧ CM k S z ∧ ∀ i, gI z 2144 i = gI S 2144 i) := by
  have g5 := g.2.2.2.2.1
  have g7 := g.2.2.2.2.2.2.1
  have e20 : ∀ x, rFr R (y : Int) 20 x = if R 20 x = (y : Int) then -1 else R 20 x := fun x => rfl
  have e22 : ∀ x : Nat, rFr R (y : Int) 22 x = if (x : Int) = (y : Int) then 1 else R 22 x := fun x => rfl
  have eb : ∀ f x, (f = 21 ∨ f = 31 ∨ f = 32) → rFr R (y : Int) f x = if R 20 x = (y : Int) then 0 else R f x := fun f x q => by
    unfold rFr; rw [if_neg (by omega), if_neg (by omega)]
  unfold mX23_rob
  refine WP_call (R := fun z => (∀ p, p < 2 * kLy C → gI z 2135 (4712 * k + p) = rFr R (y : Int) 20 p ∧ gI z 2136 (4712 * k + p) = rFr R (y : Int) 21 p ∧ gI z 2137 (4712 * k + p) = rFr R (y : Int) 31 p ∧ gI z 2138 (4712 * k + p) = rFr R (y : Int) 32 p) ∧ CM k S z ∧ (∀ i, gI z 2144 i = gI S 2144 i) ∧ ∀ i, gI z 2139 i = gI S 2139 i) ?_ (fun z hz => ?_)
  · refine WP_cnt (2 * kLy C) (fun i s => s.1 = (i : Int) ∧ (∀ p, p < 2 * kLy C → gI s.2 2135 (4712 * k + p) = (if p < i then rFr R (y : Int) 20 p else R 20 p) ∧ gI s.2 2136 (4712 * k + p) = (if p < i then rFr R (y : Int) 21 p else R 21 p) ∧ gI s.2 2137 (4712 * k + p) = (if p < i then rFr R (y : Int) 31 p else R 31 p) ∧ gI s.2 2138 (4712 * k + p) = (if p < i then rFr R (y : Int) 32 p else R 32 p)) ∧ CM k S s.2 ∧ (∀ i, gI s.2 2144 i = gI S 2144 i) ∧ ∀ i, gI s.2 2139 i = gI S 2139 i) (by unfold cFU; omega) ⟨rfl, fun p hp => by
      rw [if_neg (by omega), if_neg (by omega), if_neg (by omega), if_neg (by omega)]; exact o.1 p hp, CM.refl, fun _ => rfl, fun _ => rfl⟩ (fun i s hi hI => ?_) (fun s hI => ?_)
    · obtain ⟨z1, z2⟩ := s
      obtain ⟨b1, b2, b3, b4, b5⟩ := hI
      dsimp only at b1 b2 b3 b4 b5
      subst b1
      have hz := h.cm b3
      have zt : (4712 * (k : Int) + (i : Int)).toNat = 4712 * k + i := by omega
      have oi : gI z2 2135 (4712 * k + i) = R 20 i := by rw [(b2 i hi).1, if_neg (by omega)]
      have r0 := rr.1 i hi
      have na : mX23_netAt z2 (i : Int) = some (R 20 i) := by
        unfold mX23_netAt
        rw [hz.1.1, rdI_e (by omega), zt, oi]
      have step : ∀ f p, p ≠ i → (if p < i + 1 then rFr R (y : Int) f p else R f p) = (if p < i then rFr R (y : Int) f p else R f p) := fun f p ne => by
        by_cases q : p < i
        · rw [if_pos q, if_pos (by omega)]
        · rw [if_neg q, if_neg (by omega)]
      unfold mX23_rob_L11
      dsimp only
      rw [hz.1.2.2.2, w32_id (by omega), w32_id (by omega), if_pos (by omega), na, bX_some, w32_id (x := R 20 i) (by omega), w32_id (x := (y : Int)) (by omega), h.1.1]
      by_cases q : R 20 i = (y : Int)
      · rw [if_pos q, wrI_e (by omega), wrI_e (by omega), wrI_e (by omega), wrI_e (by omega), zt, bX_some]
        refine WP_some.2 ⟨by show (i : Int) + 1 = _; omega, fun p hp => ?_, (((b3.sI (by omega)).sI (by omega)).sI (by omega)).sI (by omega), fun j => ?_, fun j => ?_⟩
        · dsimp only
          by_cases e : p = i
          · rw [e, if_pos (by omega), if_pos (by omega), if_pos (by omega), if_pos (by omega), e20, eb _ _ (by omega), eb _ _ (by omega), eb _ _ (by omega), if_pos q, if_pos q, if_pos q, if_pos q]
            refine ⟨?_, ?_, ?_, ?_⟩
            · rw [hI_sI_a (by omega), hI_sI_a (by omega), hI_sI_a (by omega), gI_set]; rfl
            · rw [hI_sI_a (by omega), hI_sI_a (by omega), gI_set]; rfl
            · rw [hI_sI_a (by omega), gI_set]; rfl
            · rw [gI_set]; rfl
          · rw [step _ _ e, step _ _ e, step _ _ e, step _ _ e]
            have b := b2 p hp
            refine ⟨?_, ?_, ?_, ?_⟩
            · rw [hI_sI_a (by omega), hI_sI_a (by omega), hI_sI_a (by omega), hI_sI_i (by omega)]; exact b.1
            · rw [hI_sI_a (by omega), hI_sI_a (by omega), hI_sI_i (by omega), hI_sI_a (by omega)]; exact b.2.1
            · rw [hI_sI_a (by omega), hI_sI_i (by omega), hI_sI_a (by omega), hI_sI_a (by omega)]; exact b.2.2.1
            · rw [hI_sI_i (by omega), hI_sI_a (by omega), hI_sI_a (by omega), hI_sI_a (by omega)]; exact b.2.2.2
        · dsimp only; rw [hI_sI_a (by omega), hI_sI_a (by omega), hI_sI_a (by omega), hI_sI_a (by omega)]; exact b4 j
        · dsimp only; rw [hI_sI_a (by omega), hI_sI_a (by omega), hI_sI_a (by omega), hI_sI_a (by omega)]; exact b5 j
      · rw [if_neg q, bX_some]
        refine WP_some.2 ⟨by show (i : Int) + 1 = _; omega, fun p hp => ?_, b3, b4, b5⟩
        dsimp only
        by_cases e : p = i
        · have b := b2 p hp
          rw [e] at b ⊢
          rw [if_pos (by omega), if_pos (by omega), if_pos (by omega), if_pos (by omega), e20, eb _ _ (by omega), eb _ _ (by omega), eb _ _ (by omega), if_neg q, if_neg q, if_neg q, if_neg q]
          rw [if_neg (by omega), if_neg (by omega), if_neg (by omega), if_neg (by omega)] at b
          exact b
        · rw [step _ _ e, step _ _ e, step _ _ e, step _ _ e]; exact b2 p hp
    · obtain ⟨z1, z2⟩ := s
      obtain ⟨b1, b2, b3, b4, b5⟩ := hI
      dsimp only at b1 b2 b3 b4 b5
      subst b1
      have hz := h.cm b3
      unfold mX23_rob_L11
      dsimp only
      rw [hz.1.2.2.2, w32_id (by omega), if_neg (by omega)]
      refine WP_some.2 ⟨fun p hp => ?_, b3, b4, b5⟩
      have b := b2 p hp
      rw [if_pos hp, if_pos hp, if_pos hp, if_pos hp] at b
      exact b
  · obtain ⟨c1, c2, c3, c4⟩ := hz
    have zt : (256 * (k : Int) + (y : Int)).toNat = 256 * k + y := by omega
    rw [(h.cm c2).1.1, wrI_e (by omega), zt]
    refine WP_some.2 ⟨⟨fun p hp => ?_, fun x hx => ?_⟩, c2.sI (by omega), fun i => ?_⟩
    · rw [hI_sI_a (by omega), hI_sI_a (by omega), hI_sI_a (by omega), hI_sI_a (by omega)]; exact c1 p hp
    · rw [e22]
      by_cases e : x = y
      · rw [e, gI_set, if_pos rfl]; rfl
      · rw [hI_sI_i (by omega), if_neg (by omega), c4]; exact o.2 x hx
    · rw [hI_sI_a (by omega)]; exact c3 i
theorem m_step (h : MRt S k C) (o : MOw S k C R) (hk : k < 4) (g : GSz C) {p q j : Nat} (hp : p < 2 * kLy C) (hj : j < 5) (hq : nxF C p j = (q : Int)) : WP (mX23_step S (p : Int) (q : Int)) (fun z => MOw z k C (rJn C R p q) ∧ CM k S z ∧ ∀ i, gI z 2144 i = gI S 2144 i) := by
  have g5 := g.2.2.2.2.1
  obtain ⟨q', e', hq2, qp⟩ : ∃ q' : Nat, nxF C p j = (q' : Int) ∧ q' < 2 * kLy C ∧ q' ≠ p := (nxF_rng hp hj).resolve_left (by omega)
  have eq' : q' = q := by omega
  subst eq'
  have sc := stK_cases hp hj hq
  have eL : (kW C : Int) * (kHn C : Int) = (kLy C : Int) := by rw [kLy_eq C, Int.natCast_mul]
  have mn : (if w32 (p : Int) < w32 (q' : Int) then (p : Int) else (q' : Int)) = ((min p q' : Nat) : Int) := by
    rw [w32_id (by omega), w32_id (by omega)]; split <;> omega
  have by' : (if w32 (p : Int) < w32 (q' : Int) then (q' : Int) - (p : Int) else (p : Int) - (q' : Int)) = ((max p q' - min p q' : Nat) : Int) := by
    rw [w32_id (by omega), w32_id (by omega)]; split <;> omega
  have ml : min p q' < 2 * kLy C := by omega
  have zt : (4712 * (k : Int) + ((min p q' : Nat) : Int)).toNat = 4712 * k + min p q' := by omega
  have ej : ∀ f x, rJn C R p q' f x = if f = stF (stK C p q') ∧ x = min p q' then 1 else R f x := fun f x => rfl
  have fin : ∀ (f a : Nat), stF (stK C p q') = f → (f = 21 ∧ a = 2136 ∨ f = 31 ∧ a = 2137 ∨ f = 32 ∧ a = 2138) → MOw (sI S a (4712 * k + min p q') 1) k C (rJn C R p q') ∧ CM k S (sI S a (4712 * k + min p q') 1) ∧ ∀ i, gI (sI S a (4712 * k + min p q') 1) 2144 i = gI S 2144 i := fun f a e c => by
    refine ⟨⟨fun x hx => ?_, fun x hx => ?_⟩, CM.refl.sI (by omega), fun i => hI_sI_a (by omega)⟩
    · have ox := o.1 x hx
      rw [ej, ej, ej, ej, e]
      by_cases ex : x = min p q'
      · rcases c with ⟨rfl, rfl⟩ | ⟨rfl, rfl⟩ | ⟨rfl, rfl⟩
        · rw [← ex, if_neg (by omega), if_pos ⟨rfl, rfl⟩, if_neg (by omega), if_neg (by omega), hI_sI_a (by omega), gI_set, hI_sI_a (by omega), hI_sI_a (by omega)]
          exact ⟨ox.1, rfl, ox.2.2.1, ox.2.2.2⟩
        · rw [← ex, if_neg (by omega), if_neg (by omega), if_pos ⟨rfl, rfl⟩, if_neg (by omega), hI_sI_a (by omega), hI_sI_a (by omega), gI_set, hI_sI_a (by omega)]
          exact ⟨ox.1, ox.2.1, rfl, ox.2.2.2⟩
        · rw [← ex, if_neg (by omega), if_neg (by omega), if_neg (by omega), if_pos ⟨rfl, rfl⟩, hI_sI_a (by omega), hI_sI_a (by omega), hI_sI_a (by omega), gI_set]
          exact ⟨ox.1, ox.2.1, ox.2.2.1, rfl⟩
      · rw [if_neg (fun g => ex g.2), if_neg (fun g => ex g.2), if_neg (fun g => ex g.2), if_neg (fun g => ex g.2), hI_sI_i (by omega), hI_sI_i (by omega), hI_sI_i (by omega), hI_sI_i (by omega)]
        exact ox
    · rw [ej, if_neg (fun g => by rw [e] at g; omega), hI_sI_a (by omega)]; exact o.2 x hx
  unfold mX23_step
  rw [mn, by', h.1.2.1, h.1.2.2.1, eL, h.1.1, w32_id (x := (kLy C : Int)) (by omega), w32_id (x := ((max p q' - min p q' : Nat) : Int)) (by omega)]
  by_cases c4 : max p q' - min p q' = kLy C
  · have e4 : stK C p q' = 4 := by unfold stK; rw [if_pos c4]
    rw [if_pos (by omega), wrI_e (by omega), zt, bX_some]
    exact WP_some.2 (fin 32 2138 (by rw [e4]; rfl) (by omega))
  · rw [if_neg (by omega)]
    by_cases c1 : max p q' - min p q' = 1
    · have e1 : stK C p q' = 1 := by unfold stK; rw [if_neg c4, if_pos c1]
      rw [if_pos (by omega), wrI_e (by omega), zt, bX_some]
      exact WP_some.2 (fin 21 2136 (by rw [e1]; rfl) (by omega))
    · have e2 : stK C p q' = 2 := by unfold stK; rw [if_neg c4, if_neg c1]
      rw [if_neg (by omega), wrI_e (by omega), zt, bX_some]
      exact WP_some.2 (fin 31 2137 (by rw [e2]; rfl) (by omega))
end MROB
