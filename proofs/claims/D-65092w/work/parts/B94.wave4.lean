/-! waves: all nets, values (class) -/
/-- how many times of a row's first places are not above a time -/
def cLe (l : List Int) (t : Int) : Nat → Nat
  | 0 => 0
  | i + 1 => cLe l t i + (match l[i]? with | some s => if s ≤ t then 1 else 0 | none => 0)
def kWval (C : Chp) (a b n : Nat) (t : Int) : Bool := (kVal C a n ^^ decide (cLe (kWv C a b n) t (kWv C a b n).length % 2 = 1))
section KWAVE4
variable {S : Sto} {L k : Nat} {C : Chp} {a b : Nat}
theorem k_wt44 (hk : k < 4) (hL : L = 344 + 22 * k) (r : RepK S L C) (w : WFC C) (wp : WFP C) (ha : a < 4096) (hb : b < 4096) (hT : ∀ n, n < kN C → gI S 245 n = kTime C n) (h : KWs S L C a b 0 []) :
    WP (lpF (mX18_take_L44 (a : Int) (b : Int)) (1, 0, S)) (fun z => Ch 258 263 S z.2 ∧ ((z.1 = 1 ∧ KWs z.2 L C a b (kN C) (kFl C a b (kN C))) ∨ (z.1 = 0 ∧ 20000 < kWo C a b (kN C)))) := by
  have hn := w.nums
  refine WP_lpX (fun (u : Nat) (z : Int × Int × Sto) => Ch 258 263 S z.2.2 ∧ ∃ n : Nat, z.2.1 = (n : Int) ∧ n ≤ kN C ∧ ((z.1 = 1 ∧ KWs z.2.2 L C a b n (kFl C a b n) ∧ u = kN C - n + 1) ∨ (z.1 = 0 ∧ 20000 < kWo C a b (kN C) ∧ gR z.2.2 258 1 = L))) (fun u z hI => ?_) (n := kN C - 0 + 1) ⟨Ch.refl, 0, rfl, Nat.zero_le _, .inl ⟨rfl, h, rfl⟩⟩ (by unfold cFU; omega)
  obtain ⟨z0, z1, z2⟩ := z
  obtain ⟨c1, n, b1, b2, b3⟩ := hI
  dsimp only at c1 b1 b3
  subst b1
  have rz := r.ch c1 (by omega)
  have gr : gR z2 258 1 = L := by rcases b3 with b3 | b3; exact b3.2.1.1; exact b3.2.2
  unfold mX18_take_L44
  dsimp only
  rw [gr, hL, gk_chip hk, ← hL, k_nets rz w, bX_some, w32_id (by omega), w32_id (by omega)]
  rcases b3 with ⟨rfl, W, eu⟩ | ⟨rfl, b4, b5⟩
  · by_cases q : n < kN C
    · rw [if_pos (by omega), if_pos (by decide), bX_some, if_pos rfl, W.2.2.1, wrI_e (by omega), Int.toNat_natCast, gR_sI, gr, hL]
      simp only [gk_chip hk]
      rw [← hL]
      obtain ⟨S11, hS⟩ : ∃ S11, sI z2 261 n ((kFl C a b n).length : Int) = S11 := ⟨_, rfl⟩
      have c11 : Ch 258 263 S S11 := by rw [← hS]; exact c1.sI (by omega)
      have r11 := r.ch c11 (by omega)
      have len5 := W.2.2.2.2.1
      have lO := kFl_len (C := C) (a := a) (b := b) (n := n)
      have W11 : KWs S11 L C a b n (kFl C a b n) ∧ gI S11 261 n = (kWo C a b n : Int) := by
        rw [← hS]
        obtain ⟨h1, h2, h3, h4, h5, h6, h7⟩ := W
        refine ⟨⟨h1, fun m hm => ?_, ?_, ?_, h5, fun i t ht => ?_, fun m hm => ?_⟩, ?_⟩
        · rw [hI_sI_i (by omega), hI_sI]
          by_cases z : m + 1 = n
          · rw [if_pos ⟨rfl, z⟩, w32_id (by omega), lO, z]; exact ⟨(h2 m hm).1, rfl⟩
          · rw [if_neg (fun g => z g.2)]; exact h2 m hm
        · rw [hI_sI_a (by omega)]; exact h3
        · rw [hI_sI_a (by omega)]; exact h4
        · rw [hI_sI_a (by omega)]; exact h6 i t ht
        · rw [hI_sI_a (by omega)]; exact h7 m hm
        · rw [gI_set, w32_id (by omega), lO]
      obtain ⟨W11, e261⟩ := W11
      rw [hS, k_bits r11 w, bX_some, w32_id (by omega)]
      have eF : kFl C a b (n + 1) = kFl C a b n ++ kWv C a b n := rfl
      have eO : kWo C a b (n + 1) = kWo C a b n + (kWv C a b n).length := rfl
      have mo := kWo_mono (C := C) (a := a) (b := b) (n := n + 1) (m := kN C) (by omega)
      have fin : ∀ z : Int × Sto, Ch 258 263 S11 z.2 → ((z.1 = 1 ∧ KWs z.2 L C a b n (kFl C a b (n + 1)) ∧ gI z.2 261 n = (kWo C a b n : Int)) ∨ (z.1 = 0 ∧ 20000 < kWo C a b (n + 1))) → WP (wrI 163 z.2 261 ((n : Int) + 1) (gI z.2 258 6) fun S20 => (some (Sum.inl (z.1, (n : Int) + 1, S20)) : Option ((Int × Int × Sto) ⊕ (Int × Sto)))) (WE (fun s' => ∃ m, m < u ∧ Ch 258 263 S s'.2.2 ∧ ∃ n : Nat, s'.2.1 = (n : Int) ∧ n ≤ kN C ∧ ((s'.1 = 1 ∧ KWs s'.2.2 L C a b n (kFl C a b n) ∧ m = kN C - n + 1) ∨ (s'.1 = 0 ∧ 20000 < kWo C a b (kN C) ∧ gR s'.2.2 258 1 = L))) (fun z => Ch 258 263 S z.2 ∧ ((z.1 = 1 ∧ KWs z.2 L C a b (kN C) (kFl C a b (kN C))) ∨ (z.1 = 0 ∧ 20000 < kWo C a b (kN C))))) := by
        intro z hc hz
        have zt : ((n : Int) + 1).toNat = n + 1 := by omega
        rw [wrI_e (by omega), zt]
        have cc := (c11.tr hc (by omega) (by omega)).sI (a := 261) (i := n + 1) (v := gI z.2 258 6) (by omega)
        rcases hz with ⟨q1, q2, q3⟩ | ⟨q1, q2⟩
        · have l20 := q2.2.2.2.2.1
          have lO1 := kFl_len (C := C) (a := a) (b := b) (n := n + 1)
          refine WP_some.2 ⟨kN C - (n + 1) + 1, by omega, cc, n + 1, by show (n : Int) + 1 = _; omega, by omega, .inl ⟨q1, ?_, rfl⟩⟩
          obtain ⟨h1, h2, h3, h4, h5, h6, h7⟩ := q2
          refine ⟨h1, fun m hm => ?_, ?_, ?_, h5, fun i t ht => ?_, fun m hm => ?_⟩
          · dsimp only
            rw [h3]
            by_cases z' : m = n
            · subst z'
              rw [hI_sI_i (by omega), gI_set, w32_id (by omega), lO1]; exact ⟨q3, rfl⟩
            · rw [hI_sI_i (by omega), hI_sI_i (by omega)]; exact h2 m (by omega)
          · dsimp only; rw [hI_sI_a (by omega)]; exact h3
          · dsimp only; rw [hI_sI_a (by omega)]; exact h4
          · dsimp only; rw [hI_sI_a (by omega)]; exact h6 i t ht
          · dsimp only; rw [hI_sI_a (by omega)]; exact h7 m hm
        · exact WP_some.2 ⟨0, by omega, cc, n + 1, by show (n : Int) + 1 = _; omega, by omega, .inr ⟨q1, by omega, (hc.2.2.1 _ _).trans W11.1⟩⟩
      by_cases g : n < kB C
      · have bt := aBit (x := a) (k := n) (by omega) (by omega)
        have bu := aBit (x := b) (k := n) (by omega) (by omega)
        have ws := kWv_src (a := a) (b := b) g
        rw [if_neg (by omega), bt, bu, w32_b2i, w32_b2i]
        by_cases s : a.testBit n = b.testBit n
        · rw [if_pos s] at ws
          rw [s, if_neg (fun g => g rfl), bX_some]
          refine fin (1, S11) Ch.refl (.inl ⟨rfl, ?_, e261⟩)
          rw [eF, ws, List.append_nil]; exact W11
        · rw [if_neg s] at ws
          rw [if_pos (fun g' => s (by cases h1 : a.testBit n <;> cases h2 : b.testBit n <;> rw [h1, h2] at g' <;> first | rfl | exact absurd g' (by decide)))]
          have ra : ∀ t, t ∈ kFl C a b n → 0 ≤ t ∧ t ≤ 1000000 := fun t ht => by have := kFl_mem w wp (n := n) (by omega) ht; omega
          refine WP_bX.2 (WP_bX.2 (((k_wadd W11 (x := 0) (by omega) ra).pc fr_mX18_add).mono (fun y hy' => ?_)))
          obtain ⟨hy, hfr⟩ := hy'
          refine WP_some.2 (fin (y.1, y.2) ((Ch.refl.tr hy.1 (by omega) (by omega))) ?_)
          by_cases lt : (kFl C a b n).length < 20000
          · obtain ⟨y1, y2⟩ := hy.2.1 lt
            exact .inl ⟨y1, by rw [eF, ws]; exact y2, (hfr.ei rfl).trans e261⟩
          · refine .inr ⟨hy.2.2 (by omega), ?_⟩
            rw [eO, ws, ← lO]; show 20000 < _ + 1; omega
      · obtain ⟨g', rfl⟩ : ∃ g', n = kB C + g' := ⟨n - kB C, by omega⟩
        have zz : ((kB C + g' : Nat) : Int) - (kB C : Int) = (g' : Int) := by omega
        rw [if_pos (by omega), bX_some, rdI_e (by omega), Int.toNat_natCast, (c11.1 245 _ (by omega)).trans (hT _ q), zz]
        refine WP_bX.2 (WP_bX.2 (((k_gate hk hL r11 w wp (by omega) (by omega) W11).pc (fr_mX18_gate W11.1)).mono (fun y hy' => ?_)))
        obtain ⟨hy, hfr⟩ := hy'
        refine WP_some.2 (fin (y.1, y.2) hy.1 ?_)
        rcases hy.2 with ⟨y1, y2⟩ | ⟨y1, y2⟩
        · exact .inl ⟨y1, y2, (hfr.ei rfl).trans e261⟩
        · exact .inr ⟨y1, y2⟩
    · have e : n = kN C := by omega
      rw [if_neg (by omega), bX_some, if_neg (by decide)]
      rw [e] at W
      exact WP_some.2 ⟨c1, .inl ⟨rfl, W⟩⟩
  · have fin : (if (n : Int) < (kN C : Int) then (if ¬ w32 0 = 0 then some true else some false) else some false) = some false := by split <;> rfl
    rw [fin, bX_some, if_neg (by decide)]
    exact WP_some.2 ⟨c1, .inr ⟨rfl, b4⟩⟩
theorem k_wtake (hk : k < 4) (hL : L = 344 + 22 * k) (r : RepK S L C) (w : WFC C) (wp : WFP C) (rP : RepP S L C) (ha : a < 4096) (hb : b < 4096) :
    WP (mX18_take S L (a : Int) (b : Int)) (fun z => Sc S z.2 ∧ ((z.1 = 1 ∧ KWs z.2 L C a b (kN C) (kFl C a b (kN C))) ∨ (z.1 = 0 ∧ 20000 < kWo C a b (kN C)))) := by
  unfold mX18_take
  rw [wfR_eq]
  have g1 : gR (sR S 258 1 L) 258 1 = L := by rw [gR_sR, if_pos ⟨rfl, rfl⟩]
  rw [g1, hL, gk_chip hk, ← hL]
  refine WP_call (k_times (S := sR S 258 1 L) hk hL r w wp rP) (fun x hx => ?_)
  obtain ⟨x1, x2, x3, x4, x5⟩ := hx
  have gx : gR x 258 1 = L := (x5.2.2.1 _ _).trans (by rw [gR_sRn (by omega), gR_sRn (by omega)]; exact g1)
  have sx : Sc S x := Sc.tr Sc.refl.sR.sR.sR (Sc.ch x5 rfl)
  have rx : RepK x L C := by rw [hL]; exact sx.K hk (by rw [← hL]; exact r)
  rw [gx, hL, gk_chip hk, ← hL]
  refine WP_callF (k_values (T := 259) rx w ha (by omega) (by decide)) fr_mX22_values (fun y hy hf => ?_)
  have cy : Ch 259 259 x y := Ch.of hf rfl
  have sy : Sc S y := sx.tr (Sc.ch cy rfl)
  have ry := rx.ch cy (by omega)
  rw [wf_eq, wf_eq]
  obtain ⟨S7, hS⟩ : ∃ S7, sI (sI y 258 6 0) 258 7 0 = S7 := ⟨_, rfl⟩
  have c7 : Ch 258 259 x S7 := by rw [← hS]; exact (((Ch.refl.tr cy (by omega) (by omega)) : Ch 258 259 x y).sI (by omega)).sI (by omega)
  have s7 : Sc S S7 := sx.tr (Sc.ch c7 rfl)
  have W0 : KWs S7 L C a b 0 [] := by
    refine ⟨(c7.2.2.1 _ _).trans gx, fun m hm => absurd hm (Nat.not_lt_zero _), ?_, ?_, Nat.zero_le _, fun i t ht => (nomatch ht), fun m hm => ?_⟩
    · rw [← hS, hI_sI_i (by omega), gI_set]; rfl
    · rw [← hS, gI_set]; rfl
    · rw [← hS, hI_sI_a (by omega), hI_sI_a (by omega)]; exact hy m hm
  rw [hS]
  refine WP_call (k_wt44 hk hL (rx.ch c7 (by omega)) w wp ha hb (fun n hn => (c7.1 _ _ (by omega)).trans (x1 n hn).1) W0) (fun z hz => ?_)
  obtain ⟨z1, z2⟩ := hz
  have sz : Sc S z.2 := s7.tr (Sc.ch z1 rfl)
  rcases z2 with ⟨z2, z3⟩ | ⟨z2, z3⟩
  · rw [z2]; exact WP_some.2 ⟨sz, .inl ⟨rfl, z3⟩⟩
  · rw [z2]; exact WP_some.2 ⟨sz, .inr ⟨rfl, z3⟩⟩
theorem cLe_step {l : List Int} {t s : Int} {i : Nat} (h : l[i]? = some s) : cLe l t (i + 1) = cLe l t i + if s ≤ t then 1 else 0 := by
  show cLe l t i + (match l[i]? with | some s => if s ≤ t then 1 else 0 | none => 0) = _
  rw [h]
theorem cLe_rest {l : List Int} {t lo hi : Int} (hr : Rise l lo hi) {i : Nat} {s : Int} (h : l[i]? = some s) (hs : t < s) : ∀ j, i ≤ j → cLe l t j = cLe l t i := by
  intro j
  induction j with
  | zero => intro g; have : i = 0 := by omega
            subst this; rfl
  | succ j ih =>
    intro g
    by_cases e : i = j + 1
    · subst e; rfl
    · show cLe l t j + (match l[j]? with | some s => if s ≤ t then 1 else 0 | none => 0) = _
      rw [ih (by omega)]
      cases q : l[j]? with
      | none => rfl
      | some u =>
        have : t < u := by
          by_cases z : i = j
          · subst z; rw [h] at q; have : s = u := Option.some.inj q
            omega
          · have := hr.2 i j s u (by omega) h q; omega
        show _ + (if u ≤ t then 1 else 0) = _
        rw [if_neg (by omega)]; rfl
theorem k_valueAt (w : WFC C) (wp : WFP C) {n : Nat} (hn : n < kN C) {t : Int} (ht : -2147483648 ≤ t ∧ t < 2147483648) (h : KWs S L C a b (kN C) (kFl C a b (kN C))) : mX18_valueAt S (n : Int) t = some (b2i (kWval C a b n t)) := by
  have hnn := w.nums
  have mo := kWo_mono (C := C) (a := a) (b := b) (n := n + 1) (m := kN C) (by omega)
  have eO : kWo C a b (n + 1) = kWo C a b n + (kWv C a b n).length := rfl
  have l20 := h.2.2.2.2.1
  rw [kFl_len] at l20
  have f := h.2.1 n hn
  have rs := kWv_rise' (a := a) (b := b) w wp hn
  have rd : ∀ i s, (kWv C a b n)[i]? = some s → gI S 262 (kWo C a b n + i) = s := fun i s hs => by
    have hi : i < (kWv C a b n).length := by
      rcases Nat.lt_or_ge i (kWv C a b n).length with h | h
      · exact h
      · rw [List.getElem?_eq_none (by omega)] at hs; exact (nomatch hs)
    exact h.2.2.2.2.2.1 _ _ ((kFl_at hn hi).trans hs)
  have zt : ((n : Int) + 1).toNat = n + 1 := by omega
  have key : WP (lpF (mX18_valueAt_L15 S (n : Int) t) (b2i (kVal C a n), (kWo C a b n : Int))) (fun z => z = b2i (kWval C a b n t)) := by
    refine WP_cnt (kWv C a b n).length (fun i z => z.2 = ((kWo C a b n + i : Nat) : Int) ∧ cLe (kWv C a b n) t i = i ∧ z.1 = b2i (kVal C a n ^^ decide (i % 2 = 1))) (by unfold cFU; omega) ⟨rfl, rfl, by show b2i _ = _; cases kVal C a n <;> rfl⟩ (fun i z hi hI => ?_) (fun z hI => ?_)
    · obtain ⟨z0, z1⟩ := z
      obtain ⟨b1, b2, b3⟩ := hI
      dsimp only at b1 b3
      subst b1
      obtain ⟨s, hs⟩ : ∃ s, (kWv C a b n)[i]? = some s := ⟨_, List.getElem?_eq_getElem hi⟩
      have e := rd i s hs
      have rr := rs.1 i s hs
      unfold mX18_valueAt_L15
      dsimp only
      rw [rdI_e (by omega), zt, f.2, w32_id (by omega), w32_id (by omega), if_pos (by omega), rdI_e (by omega), Int.toNat_natCast, e, w32_id (by omega), w32_id (by omega)]
      by_cases q : s ≤ t
      · rw [if_pos q, bX_some, if_pos rfl]
        refine WP_some.2 ⟨by show ((kWo C a b n + i : Nat) : Int) + 1 = _; omega, by rw [cLe_step hs, if_pos q, b2], ?_⟩
        show (if w32 z0 = 0 then (1 : Int) else 0) = _
        have par : decide ((i + 1) % 2 = 1) = !decide (i % 2 = 1) := by
          by_cases o : i % 2 = 1
          · rw [decide_eq_true o, decide_eq_false (by omega)]; rfl
          · rw [decide_eq_false o, decide_eq_true (by omega)]; rfl
        rw [b3, par, w32_b2i]
        cases kVal C a n <;> cases decide (i % 2 = 1) <;> rfl
      · rw [if_neg q, bX_some, if_neg (by decide)]
        refine WP_some.2 ?_
        show z0 = _
        have := cLe_rest rs hs (t := t) (by omega) (kWv C a b n).length (by omega)
        rw [b3]
        unfold kWval
        rw [this, b2]
    · obtain ⟨b1, b2, b3⟩ := hI
      unfold mX18_valueAt_L15
      rw [rdI_e (by omega), zt, f.2, b1, w32_id (by omega), w32_id (by omega), if_neg (by omega), bX_some, if_neg (by decide)]
      refine WP_some.2 ?_
      rw [b3]
      unfold kWval
      rw [b2]
      rfl
  unfold mX18_valueAt
  rw [rdZ_e (by omega), Int.toNat_natCast, h.2.2.2.2.2.2 n hn, bz_b2i, rdI_e (by omega), Int.toNat_natCast, f.1, key.of, bX_some, w32_b2i]
  cases kWval C a b n t <;> rfl
end KWAVE4
