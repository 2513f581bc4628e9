/-! two elements change their places: what that is for wires -/
def pm (a b i : Nat) : Nat := if i = a then b else if i = b then a else i
theorem pm_pm {a b i : Nat} : pm a b (pm a b i) = i := by
  unfold pm
  by_cases h : i = a
  · rw [if_pos h]
    by_cases g : b = a
    · rw [if_pos g]; omega
    · rw [if_neg g, if_pos rfl]; omega
  · rw [if_neg h]
    by_cases g : i = b
    · rw [if_pos g, if_pos rfl]; omega
    · rw [if_neg g, if_neg h, if_neg g]
theorem pm_inj {a b i j : Nat} (h : pm a b i = pm a b j) : i = j := by rw [← pm_pm (a := a) (b := b) (i := i), h, pm_pm]
theorem pm_o {a b i : Nat} (h1 : i ≠ a) (h2 : i ≠ b) : pm a b i = i := by unfold pm; rw [if_neg h1, if_neg h2]
theorem pm_lt {a b i n : Nat} (ha : a < n) (hb : b < n) (hi : i < n) : pm a b i < n := by
  unfold pm; split
  · exact hb
  · split
    · exact ha
    · exact hi
def sw (f : Nat → Int) (a b i : Nat) : Int := f (pm a b i)
theorem sw_sw {f : Nat → Int} {a b : Nat} : sw (sw f a b) a b = f := funext fun i => by unfold sw; rw [pm_pm]
/-- a chip with other places -/
def plX (C : Chp) (xs ys : Nat → Int) : Chp := fun f i => if f = 17 then xs i else if f = 18 then ys i else C f i
theorem plX_o {C : Chp} {xs ys : Nat → Int} {f i : Nat} (h : f ≠ 17 ∧ f ≠ 18) : plX C xs ys f i = C f i := by unfold plX; rw [if_neg h.1, if_neg h.2]
theorem plX_id (C : Chp) : plX C (C 17) (C 18) = C := by
  funext f i
  unfold plX
  by_cases h : f = 17
  · rw [if_pos h, h]
  · rw [if_neg h]
    by_cases g : f = 18
    · rw [if_pos g, g]
    · rw [if_neg g]
section PLX
variable {C : Chp} {xs ys : Nat → Int}
theorem plX_Sz (e : Nat) : kSz (plX C xs ys) e = kSz C e := rfl
theorem plX_Np (e j : Nat) : kNp (plX C xs ys) e j = kNp C e j := rfl
theorem pOuts_pl (k : Nat) : pOuts (plX C xs ys) k = pOuts C k := by
  induction k with
  | zero => rfl
  | succ k ih => show pAdd (pOuts (plX C xs ys) k) (C 6 k) (-2) k = pAdd (pOuts C k) (C 6 k) (-2) k; rw [ih]
theorem pEl_pl (s : Pst) (e j : Nat) : pEl (plX C xs ys) s e j = pEl C s e j := by
  induction j with
  | zero => rfl
  | succ j ih => show pAdd (pEl (plX C xs ys) s e j) (kNp C e j) (e : Int) j = pAdd (pEl C s e j) (kNp C e j) (e : Int) j; rw [ih]
theorem pEls_pl (e : Nat) : pEls (plX C xs ys) e = pEls C e := by
  induction e with
  | zero => exact pOuts_pl _
  | succ e ih => show pEl (plX C xs ys) (pEls (plX C xs ys) e) e (kSz C e) = pEl C (pEls C e) e (kSz C e); rw [ih, pEl_pl]
theorem kPins_pl : kPins (plX C xs ys) = kPins C := pEls_pl _
theorem KPins.pl {S : Sto} {s : Pst} (h : KPins S C s) : KPins S (plX C xs ys) s := h
theorem KPins.lp {S : Sto} {s : Pst} (h : KPins S (plX C xs ys) s) : KPins S C s := h
/-- places stay apart -/
theorem WFP.sw {a b : Nat} (wp : WFP (plX C xs ys)) (ha : a < kE C) (hb : b < kE C) (hs : kSz C a = kSz C b) : WFP (plX C (sw xs a b) (sw ys a b)) := by
  have sz : ∀ e, kSz C (pm a b e) = kSz C e := fun e => by
    unfold pm
    by_cases h : e = a
    · rw [if_pos h, h]; exact hs.symm
    · rw [if_neg h]
      by_cases g : e = b
      · rw [if_pos g, g]; exact hs
      · rw [if_neg g]
  refine ⟨wp.1, fun q e he => ?_, fun q e f he hf hne hy => ?_⟩
  · have t := wp.2.1 q (pm a b e) (pm_lt ha hb he)
    have t : 0 ≤ xs (pm a b e) ∧ xs (pm a b e) + (kSz C (pm a b e) : Int) ≤ C 15 0 ∧ 0 ≤ ys (pm a b e) ∧ ys (pm a b e) < C 16 0 := t
    rw [sz] at t
    exact t
  · have t := wp.2.2 q (pm a b e) (pm a b f) (pm_lt ha hb he) (pm_lt ha hb hf) (fun g => hne (pm_inj g)) hy
    have t : xs (pm a b e) + (kSz C (pm a b e) : Int) ≤ xs (pm a b f) ∨ xs (pm a b f) + (kSz C (pm a b f) : Int) ≤ xs (pm a b e) := t
    rw [sz, sz] at t
    exact t
end PLX
/-- pins of elements tell the elements' nets -/
def POw (C : Chp) (s : Pst) : Prop := ∀ p, p < s.1 → 0 ≤ (s.2 p).2.1 → ((s.2 p).1 : Int) = kNp C (s.2 p).2.1.toNat (s.2 p).2.2
theorem pAdd_ow {C : Chp} {s : Pst} {net o : Int} {j : Nat} (h : POw C s) (ho : 0 ≤ o → 0 ≤ net → net = kNp C o.toNat j) : POw C (pAdd s net o j) := by
  unfold pAdd
  split
  · exact h
  · rename_i q
    intro p hp
    have hp : p < s.1 + 1 := hp
    by_cases e : p = s.1
    · have ez : ((s.1 + 1, updN s.2 s.1 (net.toNat, o, j)) : Pst).2 p = (net.toNat, o, j) := by rw [e]; exact updN_eq
      rw [ez]
      intro g
      show ((net.toNat : Nat) : Int) = kNp C o.toNat j
      rw [← ho g (by omega)]; omega
    · have ez : ((s.1 + 1, updN s.2 s.1 (net.toNat, o, j)) : Pst).2 p = s.2 p := updN_ne e
      rw [ez]
      exact h p (by omega)
theorem kPins_ow (C : Chp) : POw C (kPins C) := by
  have h1 : ∀ i, POw C (pIns i) := fun i => by
    induction i with
    | zero => exact fun p hp => absurd hp (Nat.not_lt_zero _)
    | succ i ih => exact pAdd_ow ih (fun g => absurd g (by decide))
  have h2 : ∀ i, POw C (pOuts C i) := fun i => by
    induction i with
    | zero => exact h1 _
    | succ i ih => exact pAdd_ow ih (fun g => absurd g (by decide))
  have h3 : ∀ s e, POw C s → ∀ j, POw C (pEl C s e j) := fun s e hs j => by
    induction j with
    | zero => exact hs
    | succ j ih => exact pAdd_ow ih (fun _ _ => by rw [Int.toNat_natCast])
  have h4 : ∀ e, POw C (pEls C e) := fun e => by
    induction e with
    | zero => exact h2 _
    | succ e ih => exact h3 _ _ ih _
  exact h4 _
theorem pLo_cg {v v' : Nat → Int} {f : Nat → Nat × Int × Nat} {n m : Nat} (h : ∀ p, p < m → (f p).1 = n → v p = v' p) : pLo v f n m = pLo v' f n m ∧ pHi v f n m = pHi v' f n m := by
  induction m with
  | zero => exact ⟨rfl, rfl⟩
  | succ m ih =>
    obtain ⟨i1, i2⟩ := ih (fun p hp => h p (by omega))
    constructor
    · show (if (f m).1 = n then _ else _) = (if (f m).1 = n then _ else _)
      by_cases q : (f m).1 = n
      · rw [if_pos q, if_pos q, i1, h m (by omega) q]
      · rw [if_neg q, if_neg q, i1]
    · show (if (f m).1 = n then _ else _) = (if (f m).1 = n then _ else _)
      by_cases q : (f m).1 = n
      · rw [if_pos q, if_pos q, i2, h m (by omega) q]
      · rw [if_neg q, if_neg q, i2]
/-- a net with no pin at either one keeps its wire -/
theorem kWire_sw {C : Chp} (w : WFC C) {xs ys : Nat → Int} {a b n : Nat} (h : ∀ e, e = a ∨ e = b → ∀ j, j < kSz C e → kNp C e j ≠ (n : Int)) : kWire (plX C (sw xs a b) (sw ys a b)) n = kWire (plX C xs ys) n := by
  have ok := (kPins_ok w).1
  have key : ∀ p, p < kPn C → (kPf C p).1 = n → pX (plX C (sw xs a b) (sw ys a b)) (kPf C p) = pX (plX C xs ys) (kPf C p) ∧ pY (plX C (sw xs a b) (sw ys a b)) (kPf C p) = pY (plX C xs ys) (kPf C p) := by
    intro p hp hn
    have o := ok p hp
    have ow := kPins_ow C p hp
    have o : (kPf C p).1 < kN C ∧ (((kPf C p).2.1 = -1 ∧ (kPf C p).2.2 < kI C) ∨ ((kPf C p).2.1 = -2 ∧ (kPf C p).2.2 < kO C) ∨ (0 ≤ (kPf C p).2.1 ∧ (kPf C p).2.1 < kE C ∧ (kPf C p).2.2 < kSz C (kPf C p).2.1.toNat)) := o
    have ow : 0 ≤ (kPf C p).2.1 → ((kPf C p).1 : Int) = kNp C (kPf C p).2.1.toNat (kPf C p).2.2 := ow
    generalize kPf C p = t at *
    obtain ⟨t1, t2, t3⟩ := t
    dsimp only at o ow hn
    subst hn
    rcases o.2 with ⟨g, _⟩ | ⟨g, _⟩ | ⟨g1, g2, g3⟩
    · subst g; exact ⟨rfl, rfl⟩
    · subst g; exact ⟨rfl, rfl⟩
    · have na : t2.toNat ≠ a := fun e => h a (.inl rfl) t3 (by rw [← e]; exact g3) (by rw [← e]; exact (ow g1).symm)
      have nb : t2.toNat ≠ b := fun e => h b (.inr rfl) t3 (by rw [← e]; exact g3) (by rw [← e]; exact (ow g1).symm)
      constructor
      · show (if t2 = -1 then (0 : Int) else if t2 = -2 then C 15 0 + 1 else 1 + xs (pm a b t2.toNat) + (t3 : Int)) = (if t2 = -1 then (0 : Int) else if t2 = -2 then C 15 0 + 1 else 1 + xs t2.toNat + (t3 : Int))
        rw [pm_o na nb]
      · show (if t2 < 0 then (t3 : Int) else 3 * ys (pm a b t2.toNat) + 1) = (if t2 < 0 then (t3 : Int) else 3 * ys t2.toNat + 1)
        rw [pm_o na nb]
  have eP : ∀ xs ys, kPf (plX C xs ys) = kPf C := fun xs ys => congrArg Prod.snd kPins_pl
  have eN : ∀ xs ys, kPn (plX C xs ys) = kPn C := fun xs ys => congrArg Prod.fst kPins_pl
  unfold kWire
  rw [eP, eP, eN, eN]
  have c1 := pLo_cg (v := pvX (plX C (sw xs a b) (sw ys a b))) (v' := pvX (plX C xs ys)) (f := kPf C) (n := n) (m := kPn C) (fun p hp hn => by unfold pvX; rw [eP, eP]; exact (key p hp hn).1)
  have c2 := pLo_cg (v := pvY (plX C (sw xs a b) (sw ys a b))) (v' := pvY (plX C xs ys)) (f := kPf C) (n := n) (m := kPn C) (fun p hp hn => by unfold pvY; rw [eP, eP]; exact (key p hp hn).2)
  rw [c1.1, c1.2, c2.1, c2.2]
/-- sums over all, over some -/
def nSum (f : Nat → Int) : Nat → Int
  | 0 => 0
  | n + 1 => nSum f n + f n
def tSum (f : Nat → Int) (t : Nat → Nat) : Nat → Int
  | 0 => 0
  | i + 1 => tSum f t i + f (t i)
theorem nSum_sub {f g : Nat → Int} (n : Nat) : nSum (fun i => f i - g i) n = nSum f n - nSum g n := by
  induction n with
  | zero => rfl
  | succ n ih => show nSum (fun i => f i - g i) n + (f n - g n) = (nSum f n + f n) - (nSum g n + g n); rw [ih]; omega
theorem tSum_sub {f g : Nat → Int} {t : Nat → Nat} (n : Nat) : tSum (fun i => f i - g i) t n = tSum f t n - tSum g t n := by
  induction n with
  | zero => rfl
  | succ n ih => show tSum (fun i => f i - g i) t n + (f (t n) - g (t n)) = (tSum f t n + f (t n)) - (tSum g t n + g (t n)); rw [ih]; omega
theorem nSum_pick {d : Nat → Int} {m : Nat} : ∀ N, nSum (fun n => if n = m then 0 else d n) N = nSum d N - (if m < N then d m else 0) := by
  intro N
  induction N with
  | zero => rfl
  | succ N ih =>
    show nSum (fun n => if n = m then 0 else d n) N + (if N = m then 0 else d N) = (nSum d N + d N) - _
    rw [ih]
    by_cases q : N = m
    · subst q; rw [if_pos rfl, if_neg (by omega), if_pos (by omega)]; omega
    · rw [if_neg q]
      by_cases l : m < N
      · rw [if_pos l, if_pos (by omega)]; omega
      · rw [if_neg l, if_neg (by omega)]; omega
theorem tSum_all {N : Nat} : ∀ (tc : Nat) (t : Nat → Nat) (d : Nat → Int), (∀ i, i < tc → t i < N) → (∀ i j, i < tc → j < tc → t i = t j → i = j) → (∀ n, n < N → (∀ i, i < tc → t i ≠ n) → d n = 0) → nSum d N = tSum d t tc := by
  intro tc
  induction tc with
  | zero =>
    intro t d _ _ h
    have : ∀ n, n ≤ N → nSum d n = 0 := fun n => by
      induction n with
      | zero => exact fun _ => rfl
      | succ n ih => intro hn; show nSum d n + d n = 0; rw [ih (by omega), h n (by omega) (fun i hi => absurd hi (Nat.not_lt_zero _))]; rfl
    exact this N (Nat.le_refl _)
  | succ tc ih =>
    intro t d h1 h2 h3
    have e := ih t (fun n => if n = t tc then 0 else d n) (fun i hi => h1 i (by omega)) (fun i j hi hj => h2 i j (by omega) (by omega)) (fun n hn hi => by
      by_cases q : n = t tc
      · exact if_pos q
      · show (if n = t tc then 0 else d n) = 0
        rw [if_neg q]
        refine h3 n hn (fun i hi' => ?_)
        by_cases l : i = tc
        · subst l; exact fun g => q g.symm
        · exact hi i (by omega))
    rw [nSum_pick, if_pos (h1 tc (by omega))] at e
    have e2 : ∀ i, i ≤ tc → tSum (fun n => if n = t tc then 0 else d n) t i = tSum d t i := fun i => by
      induction i with
      | zero => exact fun _ => rfl
      | succ i ih2 =>
        intro hi
        show tSum (fun n => if n = t tc then 0 else d n) t i + (if t i = t tc then 0 else d (t i)) = tSum d t i + d (t i)
        rw [ih2 (by omega), if_neg (fun g => by have := h2 i tc (by omega) (by omega) g; omega)]
    rw [e2 tc (Nat.le_refl _)] at e
    show nSum d N = tSum d t tc + d (t tc)
    omega
theorem kTot_n (C : Chp) (n : Nat) : kTot C n = nSum (kWire C) n := by
  induction n with
  | zero => rfl
  | succ n ih => show kTot C n + kWire C n = nSum (kWire C) n + kWire C n; rw [ih]
/-- whether the whole wire becomes less: the nets that are touched tell it -/
theorem better_iff {C : Chp} (w : WFC C) {xs ys : Nat → Int} {a b tc : Nat} {t : Nat → Nat} (h1 : ∀ i, i < tc → t i < kN C) (h2 : ∀ i j, i < tc → j < tc → t i = t j → i = j)
    (h3 : ∀ e, e = a ∨ e = b → ∀ j, j < kSz C e → 0 ≤ kNp C e j → ∃ i, i < tc ∧ (t i : Int) = kNp C e j) :
    (tSum (kWire (plX C (sw xs a b) (sw ys a b))) t tc < tSum (kWire (plX C xs ys)) t tc ↔ kTot (plX C (sw xs a b) (sw ys a b)) (kN C) < kTot (plX C xs ys) (kN C)) := by
  have e := tSum_all (N := kN C) tc t (fun n => kWire (plX C (sw xs a b) (sw ys a b)) n - kWire (plX C xs ys) n) h1 h2 (fun n hn hi => by
    rw [kWire_sw w (fun e he j hj g => ?_), Int.sub_self]
    obtain ⟨i, i1, i2⟩ := h3 e he j hj (by omega)
    exact hi i i1 (by omega))
  rw [nSum_sub, tSum_sub] at e
  rw [kTot_n, kTot_n]
  omega
