/-! passes over all pairs of elements: what they do; the class -/
/-- places, whether they were changed -/
abbrev Pls : Type := (Nat → Int) × (Nat → Int) × Bool
def stP (C : Chp) (a b : Nat) (s : Pls) : Pls := if kSz C a = kSz C b then (if kTot (plX C (sw s.1 a b) (sw s.2.1 a b)) (kN C) < kTot (plX C s.1 s.2.1) (kN C) then (sw s.1 a b, sw s.2.1 a b, true) else s) else s
/-- element a with those behind it, n of them -/
def rwP (C : Chp) (a : Nat) (s : Pls) : Nat → Pls
  | 0 => s
  | n + 1 => stP C a (a + 1 + n) (rwP C a s n)
/-- all pairs of the first n elements with those behind -/
def paP (C : Chp) (s : Pls) : Nat → Pls
  | 0 => s
  | a + 1 => rwP C a (paP C s a) (kE C - (a + 1))
/-- passes: places, whether any was better, whether the last one was -/
def psP (C : Chp) : Nat → Pls × Bool
  | 0 => ((C 17, C 18, false), true)
  | n + 1 => if (psP C n).2 = true then
      (((paP C ((psP C n).1.1, (psP C n).1.2.1, false) (kE C)).1, (paP C ((psP C n).1.1, (psP C n).1.2.1, false) (kE C)).2.1, (psP C n).1.2.2 || (paP C ((psP C n).1.1, (psP C n).1.2.1, false) (kE C)).2.2), (paP C ((psP C n).1.1, (psP C n).1.2.1, false) (kE C)).2.2)
    else psP C n
theorem psP_stop {C : Chp} {n m : Nat} (h : (psP C n).2 = false) (l : n ≤ m) : psP C m = psP C n := by
  induction m with
  | zero => have : n = 0 := by omega
            subst this; rfl
  | succ m ih =>
    by_cases q : n = m + 1
    · subst q; rfl
    · have e := ih (by omega)
      show (if (psP C m).2 = true then _ else psP C m) = _
      rw [if_neg (by rw [e, h]; decide), e]
section KIMPROVE
variable {S : Sto} {k : Nat} {C : Chp}
theorem k_improve48 (hk : k < 4) (w : WFC C) (h0 : C 16 0 ≠ 0) {s : Pls} (h : KTry k C S s.1 s.2.1) {a : Nat} (ha : a < kE C) {x1 : Int} {x3 : Sto} :
    WP (lpF (mX14_improve_L48 (344 + 22 * k) (x1, (a : Int), x3)) (b2i s.2.2, (a : Int) + 1, S)) (fun y => y.1 = b2i (rwP C a s (kE C - (a + 1))).2.2 ∧ KTry k C y.2 (rwP C a s (kE C - (a + 1))).1 (rwP C a s (kE C - (a + 1))).2.1 ∧ ChX k C S y.2) := by
  have hn := w.nums
  have hE : kE C ≤ 156 := by unfold kE; omega
  refine WP_cnt (kE C - (a + 1)) (fun n z => z.2.1 = ((a + 1 + n : Nat) : Int) ∧ z.1 = b2i (rwP C a s n).2.2 ∧ KTry k C z.2.2 (rwP C a s n).1 (rwP C a s n).2.1 ∧ ChX k C S z.2.2) (by unfold cFU; omega) ⟨by show (a : Int) + 1 = _; omega, rfl, h, ChX.refl⟩ (fun n z hn' hI => ?_) (fun z hI => ?_)
  · obtain ⟨z1, z2, z3⟩ := z
    obtain ⟨b1, b2, b3, b4⟩ := hI
    dsimp only at b1 b2 b3 b4
    subst b1
    have el : mX22_elements z3 (344 + 22 * k) = some ((kE C : Nat) : Int) := k_elements b3.1 w
    unfold mX14_improve_L48
    dsimp only
    rw [el, bX_some, w32_id (by omega), w32_id (by omega), if_pos (by omega), k_sizeE b3.1 w ha, bX_some, k_sizeE b3.1 w (show a + 1 + n < kE C by omega), bX_some]
    have sa := kSz_rng w ha
    have sb := kSz_rng w (show a + 1 + n < kE C by omega)
    have eR : rwP C a s (n + 1) = stP C a (a + 1 + n) (rwP C a s n) := rfl
    rw [eR]
    generalize rwP C a s n = t at *
    rw [w32_id (by omega), w32_id (by omega)]
    refine WP_call (R := fun y => y.1 = b2i (stP C a (a + 1 + n) t).2.2 ∧ KTry k C y.2 (stP C a (a + 1 + n) t).1 (stP C a (a + 1 + n) t).2.1 ∧ ChX k C S y.2) ?_ (fun y hy => WP_some.2 ⟨by show ((a + 1 + n : Nat) : Int) + 1 = _; omega, hy⟩)
    unfold stP
    by_cases q : kSz C a = kSz C (a + 1 + n)
    · rw [if_pos (by omega), if_pos q]
      refine WP_call (k_better hk w h0 b3 ha (show a + 1 + n < kE C by omega) q) (fun x hx => ?_)
      obtain ⟨x1, x2⟩ := hx
      by_cases q2 : kTot (plX C (sw t.1 a (a + 1 + n)) (sw t.2.1 a (a + 1 + n))) (kN C) < kTot (plX C t.1 t.2.1) (kN C)
      · rw [if_pos q2] at x2 ⊢
        refine WP_some.2 ⟨?_, x2.2, b4.tr x1⟩
        show aOr z1 x.1 = 1
        rw [b2, x2.1]; cases t.2.2 <;> rfl
      · rw [if_neg q2] at x2 ⊢
        refine WP_some.2 ⟨?_, x2.2, b4.tr x1⟩
        show aOr z1 x.1 = b2i t.2.2
        rw [b2, x2.1]; cases t.2.2 <;> rfl
    · rw [if_neg (by omega), if_neg q]
      exact WP_some.2 ⟨b2, b3, b4⟩
  · obtain ⟨z1, z2, z3⟩ := z
    obtain ⟨b1, b2, b3, b4⟩ := hI
    dsimp only at b1 b2 b3 b4
    subst b1
    have el : mX22_elements z3 (344 + 22 * k) = some ((kE C : Nat) : Int) := k_elements b3.1 w
    unfold mX14_improve_L48
    dsimp only
    rw [el, bX_some, w32_id (by omega), w32_id (by omega), if_neg (by omega)]
    exact WP_some.2 ⟨b2, b3, b4⟩
theorem k_improve33 (hk : k < 4) (w : WFC C) (h0 : C 16 0 ≠ 0) {s : Pls} (h : KTry k C S s.1 s.2.1) (hs : s.2.2 = false) :
    WP (lpF (mX14_improve_L33 (344 + 22 * k)) (0, 0, S)) (fun y => y.1 = b2i (paP C s (kE C)).2.2 ∧ KTry k C y.2 (paP C s (kE C)).1 (paP C s (kE C)).2.1 ∧ ChX k C S y.2) := by
  have hn := w.nums
  have hE : kE C ≤ 156 := by unfold kE; omega
  refine WP_cnt (kE C) (fun a z => z.2.1 = (a : Int) ∧ z.1 = b2i (paP C s a).2.2 ∧ KTry k C z.2.2 (paP C s a).1 (paP C s a).2.1 ∧ ChX k C S z.2.2) (by unfold cFU; omega) ⟨rfl, by show (0 : Int) = b2i s.2.2; rw [hs]; rfl, h, ChX.refl⟩ (fun a z ha hI => ?_) (fun z hI => ?_)
  · obtain ⟨z1, z2, z3⟩ := z
    obtain ⟨b1, b2, b3, b4⟩ := hI
    dsimp only at b1 b2 b3 b4
    subst b1; subst b2
    have el : mX22_elements z3 (344 + 22 * k) = some ((kE C : Nat) : Int) := k_elements b3.1 w
    unfold mX14_improve_L33
    dsimp only
    rw [el, bX_some, w32_id (by omega), w32_id (by omega), if_pos (by omega)]
    refine WP_call (k_improve48 hk w h0 b3 ha) (fun y hy => ?_)
    obtain ⟨y1, y2, y3⟩ := hy
    exact WP_some.2 ⟨by show (a : Int) + 1 = _; omega, y1, y2, b4.tr y3⟩
  · obtain ⟨z1, z2, z3⟩ := z
    obtain ⟨b1, b2, b3, b4⟩ := hI
    dsimp only at b1 b2 b3 b4
    subst b1; subst b2
    have el : mX22_elements z3 (344 + 22 * k) = some ((kE C : Nat) : Int) := k_elements b3.1 w
    unfold mX14_improve_L33
    dsimp only
    rw [el, bX_some, w32_id (by omega), if_neg (by omega)]
    exact WP_some.2 ⟨rfl, b3, b4⟩
theorem k_improve16 (hk : k < 4) (w : WFC C) (h0 : C 16 0 ≠ 0) (h : KTry k C S (C 17) (C 18)) {n : Nat} (hn4 : n ≤ 4) :
    WP (lpF (mX14_improve_L16 (n : Int) (344 + 22 * k)) (0, 1, 0, S)) (fun y => y.1 = b2i (psP C n).1.2.2 ∧ KTry k C y.2 (psP C n).1.1 (psP C n).1.2.1 ∧ ChX k C S y.2) := by
  refine WP_cnt n (fun i z => z.2.2.1 = (i : Int) ∧ z.1 = b2i (psP C i).1.2.2 ∧ z.2.1 = b2i (psP C i).2 ∧ KTry k C z.2.2.2 (psP C i).1.1 (psP C i).1.2.1 ∧ ChX k C S z.2.2.2) (by unfold cFU; omega) ⟨rfl, rfl, rfl, h, ChX.refl⟩ (fun i z hi hI => ?_) (fun z hI => ?_)
  · obtain ⟨z1, z2, z3, z4⟩ := z
    obtain ⟨b1, b2, b3, b4, b5⟩ := hI
    dsimp only at b1 b2 b3 b4 b5
    subst b1; subst b2; subst b3
    unfold mX14_improve_L16
    dsimp only
    rw [w32_id (by omega), w32_id (by omega), if_pos (by omega), w32_b2i]
    cases e : (psP C i).2 with
    | true =>
      have eP : psP C (i + 1) = (((paP C ((psP C i).1.1, (psP C i).1.2.1, false) (kE C)).1, (paP C ((psP C i).1.1, (psP C i).1.2.1, false) (kE C)).2.1, (psP C i).1.2.2 || (paP C ((psP C i).1.1, (psP C i).1.2.1, false) (kE C)).2.2), (paP C ((psP C i).1.1, (psP C i).1.2.1, false) (kE C)).2.2) := if_pos e
      rw [if_pos (by decide), bX_some, if_pos rfl]
      refine WP_call (k_improve33 hk w h0 (s := ((psP C i).1.1, (psP C i).1.2.1, false)) b4 rfl) (fun y hy => ?_)
      obtain ⟨y1, y2, y3⟩ := hy
      rw [eP]
      refine WP_some.2 ⟨by show (i : Int) + 1 = _; omega, ?_, y1, y2, b5.tr y3⟩
      show aOr (b2i (psP C i).1.2.2) y.1 = b2i ((psP C i).1.2.2 || (paP C ((psP C i).1.1, (psP C i).1.2.1, false) (kE C)).2.2)
      rw [y1]
      cases (psP C i).1.2.2 <;> cases (paP C ((psP C i).1.1, (psP C i).1.2.1, false) (kE C)).2.2 <;> rfl
    | false =>
      rw [if_neg (by decide), bX_some, if_neg (by decide)]
      refine WP_some.2 ?_
      rw [psP_stop e (show i ≤ n by omega)]
      exact ⟨rfl, b4, b5⟩
  · obtain ⟨z1, z2, z3, z4⟩ := z
    obtain ⟨b1, b2, b3, b4, b5⟩ := hI
    dsimp only at b1 b2 b3 b4 b5
    subst b1; subst b2
    unfold mX14_improve_L16
    dsimp only
    rw [w32_id (by omega), if_neg (by omega), bX_some, if_neg (by decide)]
    exact WP_some.2 ⟨rfl, b4, b5⟩
/-- what improve leaves: the class -/
def ChI (k : Nat) (C : Chp) (S z : Sto) : Prop := (∀ c i, (c < 219 ∨ 228 < c) → c ≠ 344 + 22 * k + 10 → c ≠ 344 + 22 * k + 11 → ¬ (c = 344 + 22 * k ∧ (i = 16 ∨ i = 20)) → gI z c i = gI S c i) ∧ (∀ i, kE C ≤ i → gI z (344 + 22 * k + 10) i = gI S (344 + 22 * k + 10) i ∧ gI z (344 + 22 * k + 11) i = gI S (344 + 22 * k + 11) i) ∧
  (∀ c i, (c < 219 ∨ 228 < c) → gL z c i = gL S c i) ∧ nC z = nC S ∧ nS z = nS S
theorem k_improve (hk : k < 4) (w : WFC C) (h0 : C 16 0 ≠ 0) (wp : WFP C) (r : RepK S (344 + 22 * k) C) (rP : RepP S (344 + 22 * k) C) {n : Nat} (hn4 : n ≤ 4) :
    WP (mX14_improve S (344 + 22 * k) (n : Int)) (fun x => x.1 = kTot (plX C (psP C n).1.1 (psP C n).1.2.1) (kN C) ∧ ChI k C S x.2 ∧ WFP (plX C (psP C n).1.1 (psP C n).1.2.1) ∧ RepP x.2 (344 + 22 * k) (plX C (psP C n).1.1 (psP C n).1.2.1) ∧
      (if (psP C n).1.2.2 = true then gI x.2 (344 + 22 * k) 16 = 0 ∧ gI x.2 (344 + 22 * k) 20 = -1 else ∀ i, gI x.2 (344 + 22 * k) i = gI S (344 + 22 * k) i)) := by
  unfold mX14_improve
  refine WP_call (k_take r w hk rfl) (fun x1 hx1 => ?_)
  obtain ⟨p1, g1, c1⟩ := hx1
  have e1 : ∀ a i, (a < 219 ∨ 225 < a) → gI x1 a i = gI S a i := fun a i q => (c1.1 a i (by omega)).trans rfl
  have t1 : KTry k C x1 (C 17) (C 18) := ⟨r.cg (fun a i _ _ => e1 a i (by omega)), p1, g1, by rw [plX_id]; exact wp, by rw [plX_id]; exact rP.cg (fun a i _ _ => e1 a i (by omega))⟩
  refine WP_call (k_improve16 hk w h0 t1 hn4) (fun y hy => ?_)
  obtain ⟨y1, y2, y3⟩ := hy
  rw [y1, w32_b2i]
  have hE : kE C ≤ 156 := by have := w.nums; unfold kE; omega
  have wx : WFC (plX C (psP C n).1.1 (psP C n).1.2.1) := w.fc (fun f i q => plX_o (by omega))
  have e2 : ∀ c i, (c < 219 ∨ 228 < c) → c ≠ 344 + 22 * k + 10 → c ≠ 344 + 22 * k + 11 → gI y.2 c i = gI S c i := fun c i q1 q2 q3 => (y3.1 c i (by omega) q2 q3).trans (e1 c i (by omega))
  have l2 : ∀ c i, (c < 219 ∨ 228 < c) → gL y.2 c i = gL S c i := fun c i q => (y3.2.2.1 c i (by omega)).trans ((c1.2.1 c i (by omega)).trans rfl)
  have o2 : ∀ i, kE C ≤ i → gI y.2 (344 + 22 * k + 10) i = gI S (344 + 22 * k + 10) i ∧ gI y.2 (344 + 22 * k + 11) i = gI S (344 + 22 * k + 11) i := fun i q => ⟨(y3.2.1 i q).1.trans (e1 _ _ (by omega)), (y3.2.1 i q).2.trans (e1 _ _ (by omega))⟩
  have h2 : nC y.2 = nC S ∧ nS y.2 = nS S := ⟨y3.2.2.2.2.1.trans (c1.2.2.2.1.trans rfl), y3.2.2.2.2.2.trans (c1.2.2.2.2.trans rfl)⟩
  have tot : ∀ z, (∀ a i, gI z a i = gI y.2 a i ∨ (a = 344 + 22 * k ∧ (i = 16 ∨ i = 20))) → (∀ a i, gR z a i = gR y.2 a i) → mX13_total z = some (kTot (plX C (psP C n).1.1 (psP C n).1.2.1) (kN C)) ∧ RepP z (344 + 22 * k) (plX C (psP C n).1.1 (psP C n).1.2.1) := fun z ez eR => by
    have ea : ∀ a i, ¬ (a = 344 + 22 * k ∧ (i = 16 ∨ i = 20)) → gI z a i = gI y.2 a i := fun a i q => (ez a i).resolve_right q
    have rz : RepK z (344 + 22 * k) C := by
      have cl : ∀ a i, 344 + 22 * k ≤ a → a ≤ 344 + 22 * k + 9 → ¬ (a = 344 + 22 * k ∧ (i = 16 ∨ i = 20)) → gI z a i = gI y.2 a i := fun a i _ _ q => ea a i q
      obtain ⟨t1, t2, t3, t4, t5, t6⟩ := y2.1
      refine ⟨?_, fun g' hg' => ?_, fun g' hg' => ?_, fun g' hg' => ?_, fun g' hg' => ?_, fun g' hg' => ?_⟩
      · simp (disch := omega) only [cl]; exact t1
      · rw [cl _ _ (by omega) (by omega) (by omega)]; exact t2 g' hg'
      · rw [cl _ _ (by omega) (by omega) (by omega)]; exact t3 g' hg'
      · rw [cl _ _ (by omega) (by omega) (by omega)]; exact t4 g' hg'
      · rw [cl _ _ (by omega) (by omega) (by omega)]; exact t5 g' hg'
      · simp (disch := omega) only [cl]; exact t6 g' hg'
    have rPz : RepP z (344 + 22 * k) (plX C (psP C n).1.1 (psP C n).1.2.1) := by
      obtain ⟨⟨q1, q2, q3⟩, q4⟩ := y2.2.2.2.2
      exact ⟨⟨(ea _ _ (by omega)).trans q1, (ea _ _ (by omega)).trans q2, (ea _ _ (by omega)).trans q3⟩, fun q e he => ⟨(ea _ _ (by omega)).trans (q4 q e he).1, (ea _ _ (by omega)).trans (q4 q e he).2⟩⟩
    have pz : KPins z (plX C (psP C n).1.1 (psP C n).1.2.1) (kPins (plX C (psP C n).1.1 (psP C n).1.2.1)) := by
      rw [kPins_pl]
      exact (y2.2.1.mv (z := z) (fun a i l1 l2 => ea a i (by omega)))
    exact ⟨k_total pz hk rfl ((eR _ _).trans y2.2.2.1) (rz.fc (fun f i q => plX_o (by omega))) wx y2.2.2.2.1 rPz h0, rPz⟩
  cases e : (psP C n).1.2.2 with
  | true =>
    rw [if_pos (by decide)]
    unfold mX22_forgetWires mX22_forgetLayout
    rw [wf_eq, wf_eq, bX_some, bX_some, bX_some]
    obtain ⟨z, hz⟩ : ∃ z, sI (sI y.2 (344 + 22 * k) 16 0) (344 + 22 * k) 20 (-1) = z := ⟨_, rfl⟩
    rw [hz]
    have ez : ∀ a i, gI z a i = gI y.2 a i ∨ (a = 344 + 22 * k ∧ (i = 16 ∨ i = 20)) := fun a i => by
      by_cases q : a = 344 + 22 * k ∧ (i = 16 ∨ i = 20)
      · exact .inr q
      · left; rw [← hz, hI_sI, if_neg (by omega), hI_sI, if_neg (by omega)]
    obtain ⟨m1, m2⟩ := tot z ez (fun a i => by rw [← hz]; rfl)
    rw [m1, bX_some]
    refine WP_some.2 ⟨rfl, ⟨fun c i q1 q2 q3 q4 => ((ez c i).resolve_right q4).trans (e2 c i q1 q2 q3), fun i q => ⟨((ez _ i).resolve_right (by omega)).trans (o2 i q).1, ((ez _ i).resolve_right (by omega)).trans (o2 i q).2⟩, fun c i q => by rw [← hz]; exact l2 c i q, by rw [← hz]; exact h2.1, by rw [← hz]; exact h2.2⟩, y2.2.2.2.1, m2, ?_⟩
    rw [if_pos rfl]
    exact ⟨by rw [← hz, hI_sI_i (by omega), gI_set]; rfl, by rw [← hz, gI_set]; rfl⟩
  | false =>
    rw [if_neg (by decide), bX_some]
    obtain ⟨m1, m2⟩ := tot y.2 (fun a i => .inl rfl) (fun _ _ => rfl)
    rw [m1, bX_some]
    refine WP_some.2 ⟨rfl, ⟨fun c i q1 q2 q3 q4 => e2 c i q1 q2 q3, o2, l2, h2⟩, y2.2.2.2.1, m2, ?_⟩
    rw [if_neg (by decide)]
    exact fun i => e2 _ _ (by omega) (by omega) (by omega)
end KIMPROVE
