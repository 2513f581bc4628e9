/-! ways: which match, how much they cost at most; no program -/
section WAYS2
variable {G : Dsg} {B : Lib} {nd : Nat → Nat → Option Nat} {L : List (List Nat)} {tb : List Nat → Nat} {c m o tu told n : Nat} {cut : List Nat} {Q : Way → Prop}
theorem tryO_all {s : WSt} {t x' tu' : Nat} {v : Option Nat} {l : List Nat} (h : ∀ t w, s t = some w → Q w) (hv : ∀ x, v = some x → Q (x, x', tu', l)) : ∀ t' w, tryO s t v x' tu' l t' = some w → Q w := fun t' w e => by
  unfold tryO at e
  cases v with
  | none => exact h t' w e
  | some x =>
    have q := hv x rfl
    have up : ∀ w, updN s t (some (x, x', tu', l)) t' = some w → Q w := fun w e => by
      by_cases g : t' = t
      · rw [g, updN_eq] at e; cases e; exact q
      · rw [updN_ne g] at e; exact h t' w e
    dsimp only at e
    cases k : s t with
    | none => rw [k] at e; exact up w e
    | some y =>
      rw [k] at e
      dsimp only at e
      by_cases g : x < y.1
      · rw [if_pos g] at e; exact up w e
      · rw [if_neg g] at e; exact h t' w e
/-- what holds of every way that is tried -/
def Trd (B : Lib) (nd : Nat → Nat → Option Nat) (L : List (List Nat)) (Q : Way → Prop) : Prop := ∀ c cut o tu v, c < liN B → cut ∈ L → cut.length = bI B c → o < nOrd (bI B c) → tu < 2 ^ bI B c → costO (bA B c) nd (nds cut (bI B c) o) tu (bI B c) = some v → Q (v, c, tu, nds cut (bI B c) o)
theorem wyC_all (h : Trd B nd L Q) : ∀ k, k ≤ liN B → ∀ t w, wyC B nd L tb k t = some w → Q w := by
  intro k
  induction k with
  | zero => intro _ t w e; cases e
  | succ c ih =>
    intro hc
    have ih := ih (by omega)
    have cc : c < liN B := by omega
    -- the cuts
    have U : ∀ u, u ≤ L.length → ∀ t w, wyU B nd L tb c (wyC B nd L tb c) u t = some w → Q w := by
      intro u
      induction u with
      | zero => exact fun _ => ih
      | succ u ihu =>
        intro hu
        have ihu := ihu (by omega)
        have mem := getD_mem (d := []) (show u < L.length by omega)
        show ∀ t w, (if (L.getD u []).length = bI B c then wyO B nd tb c (L.getD u []) (wyU B nd L tb c (wyC B nd L tb c) u) (nOrd (bI B c)) else wyU B nd L tb c (wyC B nd L tb c) u) t = some w → Q w
        by_cases q : (L.getD u []).length = bI B c
        · rw [if_pos q]
          generalize L.getD u [] = cut at *
          generalize wyU B nd L tb c (wyC B nd L tb c) u = s at *
          have O : ∀ o, o ≤ nOrd (bI B c) → ∀ t w, wyO B nd tb c cut s o t = some w → Q w := by
            intro o
            induction o with
            | zero => exact fun _ => ihu
            | succ o iho =>
              intro ho
              have iho := iho (by omega)
              show ∀ t w, wyT B nd tb c cut o (wyO B nd tb c cut s o) (2 ^ bI B c) t = some w → Q w
              generalize wyO B nd tb c cut s o = s' at *
              have T : ∀ k, k ≤ 2 ^ bI B c → ∀ t w, wyT B nd tb c cut o s' k t = some w → Q w := by
                intro k
                induction k with
                | zero => exact fun _ => iho
                | succ k ihk =>
                  intro hk
                  have ihk := ihk (by omega)
                  show ∀ t w, styT B nd tb c cut o (wyT B nd tb c cut o s' k) k t = some w → Q w
                  generalize wyT B nd tb c cut o s' k = s2 at *
                  have hv : ∀ x, costO (bA B c) nd (nds cut (bI B c) o) k (bI B c) = some x → Q (x, c, k, nds cut (bI B c) o) := fun x e => h c cut o k x cc mem q (by omega) (by omega) e
                  unfold styT
                  by_cases a : mtcW B c (bI B c) o k (tb cut) false <;> by_cases b : mtcW B c (bI B c) o k (tb cut) true
                  · rw [cG_t a, cG_t b]; exact tryO_all (tryO_all ihk hv) hv
                  · rw [cG_t a, cG_f b]; exact tryO_all ihk hv
                  · rw [cG_f a, cG_t b]; exact tryO_all ihk hv
                  · rw [cG_f a, cG_f b]; exact ihk
              exact T _ (Nat.le_refl _)
          exact O _ (Nat.le_refl _)
        · rw [if_neg q]; exact ihu
    exact U _ (Nat.le_refl _)
theorem bI_rng (w : WFL B) (h : c < liN B) : 1 ≤ bI B c ∧ bI B c ≤ 3 ∧ B 1 c = (bI B c : Int) ∧ B 2 c = (bF B c : Int) ∧ bF B c < 256 ∧ B 3 c = (bA B c : Int) ∧ 1 ≤ bA B c ∧ bA B c ≤ 1000 := by
  have := w.2 c h
  have e : (2 : Nat) ^ (2 ^ (B 1 c).toNat) ≤ 256 := by
    rcases (show (B 1 c).toNat = 1 ∨ (B 1 c).toNat = 2 ∨ (B 1 c).toNat = 3 by omega) with q | q | q <;> rw [q] <;> decide
  unfold bI bF bA
  obtain ⟨p, hp⟩ : ∃ p : Nat, p = (2 : Nat) ^ (2 ^ (B 1 c).toNat) := ⟨_, rfl⟩
  have e2 : ((2 : Int) ^ (2 ^ (B 1 c).toNat)) = (p : Int) := by rw [hp]; norm_cast
  rw [e2] at this
  omega
theorem inpM_lt {i : Nat} (hm : 1 ≤ m ∧ m ≤ 3) (ho : o < nOrd m) (hi : i < m) : inpM m o i < m := by
  have key : ∀ m : Fin 4, ∀ o : Fin 6, ∀ i : Fin 3, 1 ≤ m.val → o.val < nOrd m.val → i.val < m.val → inpM m.val o.val i.val < m.val := by decide
  have o6 : o < 6 := by
    have : ∀ m : Fin 4, nOrd m.val ≤ 6 := by decide
    have := this ⟨m, by omega⟩
    dsimp only at this
    omega
  exact key ⟨m, by omega⟩ ⟨o, o6⟩ ⟨i, by omega⟩ hm.1 ho hi
/-- bits of tables repeat -/
def per8 (m t : Nat) : Prop := ∀ v, v < 8 → t.testBit v = t.testBit (v % 2 ^ m)
theorem pat8_bit : ∀ i : Fin 3, ∀ v : Fin 8, (pat8 i.val).testBit v.val = v.val.testBit i.val := by decide
theorem mod_bit {v i m : Nat} (h : i < m) : (v % 2 ^ m).testBit i = v.testBit i := by rw [Nat.testBit_mod_two_pow, decide_eq_true h, Bool.true_and]
theorem per_pat {i : Nat} (hi : i < m) (hm : m ≤ 3) : per8 m (pat8 i) := fun v hv => by
  have l : v % 2 ^ m < 8 := Nat.lt_of_le_of_lt (Nat.mod_le _ _) hv
  have a := pat8_bit ⟨i, by omega⟩ ⟨v, hv⟩
  have b := pat8_bit ⟨i, by omega⟩ ⟨v % 2 ^ m, l⟩
  dsimp only at a b
  rw [a, b, mod_bit hi]
theorem not_bit {t v : Nat} (hv : v < 8) : (t ^^^ 255).testBit v = !t.testBit v := by
  rw [Nat.testBit_xor]
  have : Nat.testBit 255 v = true := (by decide : ∀ v : Fin 8, Nat.testBit 255 v.val = true) ⟨v, hv⟩
  rw [this, Bool.xor_true]
theorem per_xr {t b : Nat} (h : per8 m t) : per8 m (xr8 t b) := fun v hv => by
  have l : v % 2 ^ m < 8 := Nat.lt_of_le_of_lt (Nat.mod_le _ _) hv
  unfold xr8
  by_cases q : b = 1
  · rw [if_pos q, not_bit hv, not_bit l, h v hv]
  · rw [if_neg q]; exact h v hv
theorem plc_lt {x : Nat} : ∀ {l : List Nat}, x ∈ l → plc x l < l.length := by
  intro l
  induction l with
  | nil => exact fun h => (nomatch h)
  | cons y l ih =>
    intro h
    show (if x = y then 0 else plc x l + 1) < l.length + 1
    by_cases q : x = y
    · rw [if_pos q]; omega
    · rw [if_neg q]
      have := ih (by rcases List.mem_cons.1 h with e | e; exact absurd e q; exact e)
      omega
theorem tbT_per {x : Nat} (hm : cut.length ≤ 3) : per8 cut.length (tbT G cut x) := by
  have key : ∀ k n, per8 cut.length (stg 0 (tbF G cut) k n) := by
    intro k
    induction k with
    | zero => intro n v _; show (0 : Nat).testBit v = (0 : Nat).testBit _; rw [Nat.zero_testBit, Nat.zero_testBit]
    | succ k ih =>
      intro n
      show per8 cut.length (if n = k then tbF G cut k (stg 0 (tbF G cut) k) else stg 0 (tbF G cut) k n)
      by_cases e : n = k
      · rw [if_pos e]
        show per8 cut.length (if k ∈ cut then pat8 (plc k cut) else xr8 (stg 0 (tbF G cut) k (aN' G k)) (lA G k % 2) &&& xr8 (stg 0 (tbF G cut) k (bN' G k)) (lB G k % 2))
        by_cases q : k ∈ cut
        · rw [if_pos q]; exact per_pat (plc_lt q) hm
        · rw [if_neg q]
          intro v hv
          rw [Nat.testBit_and, Nat.testBit_and, per_xr (ih _) v hv, per_xr (ih _) v hv]
      · rw [if_neg e]; exact ih n
  exact key _ _
theorem plF_per (hm : 1 ≤ m ∧ m ≤ 3) (ho : o < nOrd m) {v : Nat} : plF B c m o tu v = plF B c m o tu (v % 2 ^ m) := by
  unfold plF
  rw [bitsN_congr (f := fun i => v.testBit (inpM m o i) ^^ tu.testBit i) (g := fun i => (v % 2 ^ m).testBit (inpM m o i) ^^ tu.testBit i) (fun i hi => by rw [mod_bit (inpM_lt hm ho hi)])]
/-- a row of bits against a number's -/
theorem bits_eq {K : Nat} {g : Nat → Bool} {t : Nat} : bitsN K g = t % 2 ^ K ↔ ∀ s, s < K → g s = t.testBit s := by
  constructor
  · intro h s hs
    have e : (bitsN K g).testBit s = (t % 2 ^ K).testBit s := by rw [h]
    rw [testBit_bitsN, decide_eq_true hs, Bool.true_and, mod_bit hs] at e
    exact e
  · intro h
    rw [bitsN_congr (g := fun s => (t % 2 ^ K).testBit s) (fun s hs => by rw [h s hs, mod_bit hs])]
    exact bitsN_testBit (Nat.mod_lt _ (Nat.two_pow_pos _))
theorem mtc_k0 (ht : told < 256) : bitsN (2 ^ m) (plF B c m o tu) = told % 2 ^ 2 ^ m ↔ mtcW B c m o tu told false := by
  rw [bits_eq]
  unfold mtcW
  exact ⟨fun h s hs => by rw [h s hs, Bool.xor_false], fun h s hs => by rw [h s hs, Bool.xor_false]⟩
theorem pow_m8 (hm : m ≤ 3) : 2 ^ m ≤ 8 := by rcases (show m = 0 ∨ m = 1 ∨ m = 2 ∨ m = 3 by omega) with e | e | e | e <;> rw [e] <;> decide
theorem mtc_k1 (hm : m ≤ 3) : bitsN (2 ^ m) (plF B c m o tu) = (told ^^^ 255) % 2 ^ 2 ^ m ↔ mtcW B c m o tu told true := by
  have p := pow_m8 hm
  rw [bits_eq]
  unfold mtcW
  exact ⟨fun h s hs => by rw [h s hs, not_bit (by omega), Bool.xor_true], fun h s hs => by rw [h s hs, not_bit (by omega), Bool.xor_true]⟩
theorem mtc_m0 (hm : 1 ≤ m ∧ m ≤ 3) (ho : o < nOrd m) (ht : told < 256) (hp : per8 m told) : bitsN 8 (plF B c m o tu) = told ↔ mtcW B c m o tu told false := by
  have p := pow_m8 hm.2
  have e : told % 2 ^ 8 = told := Nat.mod_eq_of_lt ht
  have := bits_eq (K := 8) (g := plF B c m o tu) (t := told)
  rw [e] at this
  rw [this]
  unfold mtcW
  constructor
  · intro h s hs; rw [h s (by omega), Bool.xor_false]
  · intro h s hs
    have l : s % 2 ^ m < 2 ^ m := Nat.mod_lt _ (Nat.two_pow_pos _)
    rw [plF_per hm ho, h _ l, Bool.xor_false, hp s hs]
theorem mtc_m1 (hm : 1 ≤ m ∧ m ≤ 3) (ho : o < nOrd m) (ht : told < 256) (hp : per8 m told) : bitsN 8 (plF B c m o tu) = told ^^^ 255 ↔ mtcW B c m o tu told true := by
  have p := pow_m8 hm.2
  have ht' : told ^^^ 255 < 256 := Nat.xor_lt_two_pow (n := 8) ht (by omega)
  have hp' : per8 m (told ^^^ 255) := fun v hv => by
    have l : v % 2 ^ m < 8 := Nat.lt_of_le_of_lt (Nat.mod_le _ _) hv
    rw [not_bit hv, not_bit l, hp v hv]
  rw [mtc_m0 hm ho ht' hp']
  unfold mtcW
  exact ⟨fun h s hs => by rw [h s hs, not_bit (by omega), Bool.xor_true, Bool.xor_false], fun h s hs => by rw [h s hs, not_bit (by omega), Bool.xor_true, Bool.xor_false]⟩
/-- costs -/
theorem costO_le {A tu : Nat} {l : List Nat} {b : Nat → Nat} (h : ∀ x t v, nd x t = some v → v ≤ b x) : ∀ i v, costO A nd l tu i = some v → v ≤ A + smN (fun j => b (l.getD j 0)) i := by
  intro i
  induction i with
  | zero => intro v e; cases e; exact Nat.le_refl _
  | succ i ih =>
    intro v e
    have e : oadd (costO A nd l tu i) (nd (l.getD i 0) (bitN tu i)) = some v := e
    cases h1 : costO A nd l tu i with
    | none => rw [h1] at e; cases e
    | some x =>
      cases h2 : nd (l.getD i 0) (bitN tu i) with
      | none => rw [h1, h2] at e; cases e
      | some y =>
        rw [h1, h2] at e
        cases e
        have := ih x h1
        have := h _ _ _ h2
        show x + y ≤ A + (smN _ i + b (l.getD i 0))
        omega
theorem nds_get {i : Nat} (hi : i < m) : (nds cut m o).getD i 0 = cut.getD (inpM m o i) 0 := by
  unfold nds
  rw [List.getD_eq_getElem?_getD, List.getElem?_map, List.getElem?_range hi]; rfl
theorem nds_len : (nds cut m o).length = m := by unfold nds; rw [List.length_map, List.length_range]
/-- the sum over a cut in any order -/
theorem nds_sum {b : Nat → Nat} (hm : 1 ≤ m ∧ m ≤ 3) (ho : o < nOrd m) : smN (fun j => b ((nds cut m o).getD j 0)) m = smN (fun j => b (cut.getD j 0)) m := by
  rw [smN_cg (g := fun j => b (cut.getD (inpM m o j) 0)) (fun j hj => by rw [nds_get hj])]
  have o6 : o < 6 := by
    have : ∀ m : Fin 4, nOrd m.val ≤ 6 := by decide
    have := this ⟨m, by omega⟩
    dsimp only at this
    omega
  rcases (show m = 1 ∨ m = 2 ∨ m = 3 by omega) with rfl | rfl | rfl
  · have : o = 0 := by have : nOrd 1 = 1 := rfl; omega
    subst this; rfl
  · have : nOrd 2 = 2 := rfl
    rcases (show o = 0 ∨ o = 1 by omega) with rfl | rfl
    · rfl
    · show 0 + b (cut.getD 1 0) + b (cut.getD 0 0) = 0 + b (cut.getD 0 0) + b (cut.getD 1 0)
      omega
  · generalize h0 : b (cut.getD 0 0) = b0
    generalize h1 : b (cut.getD 1 0) = b1
    generalize h2 : b (cut.getD 2 0) = b2
    have rhs : smN (fun j => b (cut.getD j 0)) 3 = 0 + b0 + b1 + b2 := by rw [← h0, ← h1, ← h2]; rfl
    rw [rhs]
    rcases (show o = 0 ∨ o = 1 ∨ o = 2 ∨ o = 3 ∨ o = 4 ∨ o = 5 by omega) with rfl | rfl | rfl | rfl | rfl | rfl
    · show 0 + b (cut.getD 0 0) + b (cut.getD 1 0) + b (cut.getD 2 0) = _; omega
    · show 0 + b (cut.getD 0 0) + b (cut.getD 2 0) + b (cut.getD 1 0) = _; omega
    · show 0 + b (cut.getD 1 0) + b (cut.getD 0 0) + b (cut.getD 2 0) = _; omega
    · show 0 + b (cut.getD 1 0) + b (cut.getD 2 0) + b (cut.getD 0 0) = _; omega
    · show 0 + b (cut.getD 2 0) + b (cut.getD 0 0) + b (cut.getD 1 0) = _; omega
    · show 0 + b (cut.getD 2 0) + b (cut.getD 1 0) + b (cut.getD 0 0) = _; omega
theorem smN_sts : ∀ l : List Nat, smN (fun j => 5000 * tsx G (l.getD j 0) + 1000) l.length = 5000 * sTS G l + 1000 * l.length := by
  have shift : ∀ (f : Nat → Nat) n, smN f (n + 1) = f 0 + smN (fun j => f (j + 1)) n := by
    intro f n
    induction n with
    | zero => show 0 + f 0 = f 0 + 0; omega
    | succ n ih =>
      show smN f (n + 1) + f (n + 1) = f 0 + (smN (fun j => f (j + 1)) n + f (n + 1))
      rw [ih]; omega
  intro l
  induction l with
  | nil => rfl
  | cons x l ih =>
    show smN _ (l.length + 1) = 5000 * (tsx G x + sTS G l) + 1000 * (l.length + 1)
    rw [shift]
    show 5000 * tsx G x + 1000 + smN (fun j => 5000 * tsx G (l.getD j 0) + 1000) l.length = _
    rw [ih]; omega
/-- what a finite cost may be -/
def okB (G : Dsg) (x : Nat) (o : Option Nat) : Prop := ∀ v, o = some v → v + 1000 ≤ 5000 * tSz G x
theorem invO_le (w : WFL B) {v : Nat} (h : invO B = some v) : v ≤ 1000 := by
  unfold invO at h
  by_cases q : lInv B = -1
  · rw [if_pos q] at h; cases h
  · rw [if_neg q] at h
    cases h
    have r := lInvN_rng (B := B) (n := liN B)
    have r' : -1 ≤ lInv B ∧ lInv B < (liN B : Int) := r
    exact (bI_rng w (c := (lInv B).toNat) (by omega)).2.2.2.2.2.2.2
theorem ndO_le (wl : WFL B) {W : Nat → WSt} {x t v : Nat} (hW : InG G x → ∀ t, okB G x (wCo (W x t))) (h : ndO G B W x t = some v) : v ≤ 5000 * tsx G x + 1000 := by
  unfold ndO at h
  unfold tsx
  by_cases q : InG G x
  · rw [cG_t q] at h ⊢
    have a := hW q t
    have b := hW q (1 - t)
    have sec : ∀ v, oadd (wCo (W x (1 - t))) (invO B) = some v → v ≤ 5000 * tSz G x := fun v e => by
      cases h1 : wCo (W x (1 - t)) with
      | none => rw [h1] at e; cases e
      | some y =>
        cases h2 : invO B with
        | none => rw [h1, h2] at e; cases e
        | some z =>
          rw [h1, h2] at e
          cases e
          have := b y h1
          have := invO_le wl h2
          omega
    cases h1 : wCo (W x t) with
    | none =>
      rw [h1] at h
      have : oadd (wCo (W x (1 - t))) (invO B) = some v := by cases k : oadd (wCo (W x (1 - t))) (invO B) <;> rw [k] at h <;> exact h
      have := sec v this; omega
    | some y =>
      have := a y h1
      rw [h1] at h
      cases k : oadd (wCo (W x (1 - t))) (invO B) with
      | none => rw [k] at h; cases h; omega
      | some z =>
        rw [k] at h
        cases h
        have := sec z k; omega
  · rw [cG_f q] at h ⊢
    by_cases g : t = 0
    · rw [if_pos g] at h; cases h; omega
    · rw [if_neg g] at h; have := invO_le wl h; omega
/-- facts of a node's best ways -/
def WyQ (G : Dsg) (B : Lib) (n : Nat) (y : Way) : Prop := y.1 + 1000 ≤ 5000 * tSz G n ∧ y.2.1 < liN B ∧ y.2.2.1 < 8 ∧ y.2.2.2.length = bI B y.2.1 ∧ ∀ x ∈ y.2.2.2, WdG G x ∧ x < n
theorem stC_all {K : List (List Nat)} {i : Nat} (hi : i ≤ K.length) {d : List Nat} (h : d ∈ stC K i) : d ∈ K := by
  obtain ⟨j, j1, j2⟩ := (stC_mem i hi d).1 h
  rw [← j2]; exact getD_mem (by omega)
theorem cutZ_mem {d : List Nat} (h : d ∈ cutZ (InG G) (aN' G) (bN' G) n) : d ∈ cutK (InG G) (aN' G) (bN' G) n := by
  unfold cutZ at h
  exact stC_all (Nat.le_refl _) h
theorem WW_eq : WW G B n = wyC B (ndO G B (stg (fun _ => none) (wyF G B) n)) (cutZ (InG G) (aN' G) (bN' G) n) (fun c => tbT G c n) (liN B) := by
  unfold WW
  rw [stg_lt _ _ (Nat.lt_succ_self n)]
  rfl
theorem WW_at {k : Nat} (h : n < k) : stg (fun _ => none) (wyF G B) k n = WW G B n := stg_eq h
theorem WW_ok (w : WFG G) (wl : WFL B) : ∀ n, AndG G n → ∀ t y, WW G B n t = some y → WyQ G B n y := by
  intro n
  induction n using Nat.strongRecOn with
  | _ n ih =>
    intro hn t y e
    rw [WW_eq] at e
    obtain ⟨M, m1, ok⟩ := cut_ok w hn
    refine wyC_all (Q := WyQ G B n) (fun c cut o tu v hc hm hl ho ht hv => ?_) (liN B) (Nat.le_refl _) t y e
    have mem := cutZ_mem hm
    obtain ⟨_, k2, k3, k4, k5⟩ := ok.2 cut mem
    obtain ⟨_, lt⟩ := cut_cov w hn mem
    have r := bI_rng wl hc
    have sts := cut_sts w hn mem
    have p8 := pow_m8 r.2.1
    refine ⟨?_, hc, Nat.lt_of_lt_of_le ht p8, nds_len, fun x hx => ?_⟩
    · -- only nodes of the cut are asked
      have ndb : ∀ x t v, (fun x t => cG (x ∈ cut) (ndO G B (stg (fun _ => none) (wyF G B) n) x t) none) x t = some v → v ≤ 5000 * tsx G x + 1000 := fun x t v e => by
        dsimp only at e
        by_cases q : x ∈ cut
        · rw [cG_t q] at e
          have xn := lt x q
          refine ndO_le wl (fun qi t v' ev => ?_) e
          rw [WW_at xn] at ev
          cases k : WW G B x t with
          | none => rw [k] at ev; cases ev
          | some y' =>
            rw [k] at ev
            cases ev
            exact (ih x xn qi.and t y' k).1
        · rw [cG_f q] at e; cases e
      have same : ∀ i, i ≤ bI B c → costO (bA B c) (fun x t => cG (x ∈ cut) (ndO G B (stg (fun _ => none) (wyF G B) n) x t) none) (nds cut (bI B c) o) tu i = costO (bA B c) (ndO G B (stg (fun _ => none) (wyF G B) n)) (nds cut (bI B c) o) tu i := by
        intro i
        induction i with
        | zero => exact fun _ => rfl
        | succ i ihi =>
          intro hi
          show oadd _ _ = oadd _ _
          rw [ihi (by omega)]
          have : (nds cut (bI B c) o).getD i 0 ∈ cut := by
            rw [nds_get (by omega)]
            exact getD_mem (by rw [hl]; exact inpM_lt ⟨r.1, r.2.1⟩ ho (by omega))
          dsimp only
          rw [cG_t this]
      rw [← same _ (Nat.le_refl _)] at hv
      have b : v ≤ bA B c + smN (fun j => 5000 * tsx G ((nds cut (bI B c) o).getD j 0) + 1000) (bI B c) := costO_le (b := fun x => 5000 * tsx G x + 1000) ndb _ _ hv
      have s : smN (fun j => 5000 * tsx G ((nds cut (bI B c) o).getD j 0) + 1000) (bI B c) = smN (fun j => 5000 * tsx G (cut.getD j 0) + 1000) (bI B c) := nds_sum (b := fun x => 5000 * tsx G x + 1000) ⟨r.1, r.2.1⟩ ho
      have s2 := smN_sts (G := G) cut
      rw [hl] at s2
      rw [s, s2] at b
      show v + 1000 ≤ 5000 * tSz G n
      omega
    · unfold nds at hx
      obtain ⟨i, hi, e⟩ := List.mem_map.1 hx
      have hi := List.mem_range.1 hi
      have : x ∈ cut := by rw [← e]; exact getD_mem (by rw [hl]; exact inpM_lt ⟨r.1, r.2.1⟩ ho hi)
      exact ⟨k5 x this, lt x this⟩
end WAYS2
