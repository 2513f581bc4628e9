/-! ways of nodes, what they cost; no program -/
abbrev Way : Type := Nat × Nat × Nat × List Nat
abbrev WSt : Type := Nat → Option Way
def bI (B : Lib) (c : Nat) : Nat := (B 1 c).toNat
def bF (B : Lib) (c : Nat) : Nat := (B 2 c).toNat
def bA (B : Lib) (c : Nat) : Nat := (B 3 c).toNat
def ord18 : List Nat := [0, 1, 2, 0, 2, 1, 1, 0, 2, 1, 2, 0, 2, 0, 1, 2, 1, 0]
def inpM (m o i : Nat) : Nat := if m = 3 then ord18.getD (3 * o + i) 0 else if o = 0 then i else m - 1 - i
def nOrd (m : Nat) : Nat := if m = 3 then 6 else m
def plF (B : Lib) (c m o tu s : Nat) : Bool := (bF B c).testBit (bitsN m (fun i => s.testBit (inpM m o i) ^^ tu.testBit i))
def mtcW (B : Lib) (c m o tu told : Nat) (t : Bool) : Prop := ∀ s, s < 2 ^ m → plF B c m o tu s = (told.testBit s ^^ t)
def oadd (a b : Option Nat) : Option Nat := match a, b with
  | some x, some y => some (x + y)
  | _, _ => none
def omin (a b : Option Nat) : Option Nat := match a, b with
  | some x, some y => some (min x y)
  | some x, none => some x
  | none, b => b
def ecN (N : Int) (o : Option Nat) : Int := match o with
  | none => N
  | some v => (v : Int)
def wCo (o : Option Way) : Option Nat := match o with
  | none => none
  | some x => some x.1
def nds (cut : List Nat) (m o : Nat) : List Nat := (List.range m).map (fun i => cut.getD (inpM m o i) 0)
def bitN (x i : Nat) : Nat := if x.testBit i = true then 1 else 0
def costO (A : Nat) (nd : Nat → Nat → Option Nat) (l : List Nat) (tu : Nat) : Nat → Option Nat
  | 0 => some A
  | i + 1 => oadd (costO A nd l tu i) (nd (l.getD i 0) (bitN tu i))
def tryO (s : WSt) (t : Nat) (v : Option Nat) (c tu : Nat) (l : List Nat) : WSt := match v with
  | none => s
  | some x => match s t with
    | none => updN s t (some (x, c, tu, l))
    | some y => if x < y.1 then updN s t (some (x, c, tu, l)) else s
section STEPS
variable (B : Lib) (nd : Nat → Nat → Option Nat) (L : List (List Nat)) (tb : List Nat → Nat)
noncomputable def styT (c : Nat) (cut : List Nat) (o : Nat) (s : WSt) (tu : Nat) : WSt :=
  cG (mtcW B c (bI B c) o tu (tb cut) true) (tryO (cG (mtcW B c (bI B c) o tu (tb cut) false) (tryO s 0 (costO (bA B c) nd (nds cut (bI B c) o) tu (bI B c)) c tu (nds cut (bI B c) o)) s) 1 (costO (bA B c) nd (nds cut (bI B c) o) tu (bI B c)) c tu (nds cut (bI B c) o)) (cG (mtcW B c (bI B c) o tu (tb cut) false) (tryO s 0 (costO (bA B c) nd (nds cut (bI B c) o) tu (bI B c)) c tu (nds cut (bI B c) o)) s)
noncomputable def wyT (c : Nat) (cut : List Nat) (o : Nat) (s : WSt) : Nat → WSt
  | 0 => s
  | k + 1 => styT B nd tb c cut o (wyT c cut o s k) k
noncomputable def wyO (c : Nat) (cut : List Nat) (s : WSt) : Nat → WSt
  | 0 => s
  | k + 1 => wyT B nd tb c cut k (wyO c cut s k) (2 ^ bI B c)
noncomputable def wyU (c : Nat) (s : WSt) : Nat → WSt
  | 0 => s
  | k + 1 => if (L.getD k []).length = bI B c then wyO B nd tb c (L.getD k []) (wyU c s k) (nOrd (bI B c)) else wyU c s k
noncomputable def wyC : Nat → WSt
  | 0 => fun _ => none
  | k + 1 => wyU B nd L tb k (wyC k) L.length
end STEPS
/-- what the inverter costs -/
def invO (B : Lib) : Option Nat := if lInv B = -1 then none else some (bA B (lInv B).toNat)
noncomputable def ndO (G : Dsg) (B : Lib) (W : Nat → WSt) (x t : Nat) : Option Nat := cG (InG G x) (omin (wCo (W x t)) (oadd (wCo (W x (1 - t))) (invO B))) (if t = 0 then some 0 else invO B)
noncomputable def wyF (G : Dsg) (B : Lib) (n : Nat) (v : Nat → WSt) : WSt := wyC B (ndO G B v) (cutZ (InG G) (aN' G) (bN' G) n) (fun c => tbT G c n) (liN B)
noncomputable def WW (G : Dsg) (B : Lib) (n : Nat) : WSt := stg (fun _ => none) (wyF G B) (n + 1) n
/-- the size of a tree -/
noncomputable def tsF (G : Dsg) (x : Nat) (v : Nat → Nat) : Nat := 1 + cG (InG G (aN' G x)) (v (aN' G x)) 0 + cG (InG G (bN' G x)) (v (bN' G x)) 0
noncomputable def tSz (G : Dsg) (x : Nat) : Nat := stg 0 (tsF G) (x + 1) x
def dsF (G : Dsg) (x : Nat) (v : Nat → Nat → Prop) : Nat → Prop := fun y => y = x ∨ (InG G (aN' G x) ∧ v (aN' G x) y) ∨ (InG G (bN' G x) ∧ v (bN' G x) y)
def DsG (G : Dsg) (x : Nat) : Nat → Prop := stg (fun _ => False) (dsF G) (x + 1) x
noncomputable def tsx (G : Dsg) (x : Nat) : Nat := cG (InG G x) (tSz G x) 0
noncomputable def sTS (G : Dsg) : List Nat → Nat
  | [] => 0
  | x :: l => tsx G x + sTS G l
section TREE
variable {G : Dsg} {x y n : Nat} {c l : List Nat}
theorem InG.and (h : InG G x) : AndG G x := ⟨h.1, h.2.1, h.2.2.1⟩
theorem tSz_eq (w : WFG G) (h : AndG G x) : tSz G x = 1 + tsx G (aN' G x) + tsx G (bN' G x) := by
  have l := aN_lt w h.1 h.2.1
  unfold tSz
  rw [stg_lt _ _ (Nat.lt_succ_self x)]
  unfold tsF tsx tSz
  rw [stg_eq l.1, stg_eq l.2]
  rfl
theorem DsG_iff (w : WFG G) (h : AndG G x) : DsG G x y ↔ y = x ∨ (InG G (aN' G x) ∧ DsG G (aN' G x) y) ∨ (InG G (bN' G x) ∧ DsG G (bN' G x) y) := by
  have l := aN_lt w h.1 h.2.1
  unfold DsG
  rw [stg_lt _ _ (Nat.lt_succ_self x)]
  unfold dsF
  rw [stg_eq l.1, stg_eq l.2]
theorem DsG_le (w : WFG G) : ∀ x, AndG G x → ∀ y, DsG G x y → y ≤ x := by
  intro x
  induction x using Nat.strongRecOn with
  | _ x ih =>
    intro h y hy
    have l := aN_lt w h.1 h.2.1
    rcases (DsG_iff w h).1 hy with e | ⟨e1, e2⟩ | ⟨e1, e2⟩
    · omega
    · have := ih _ l.1 e1.and y e2; omega
    · have := ih _ l.2 e1.and y e2; omega
/-- what is below comes from a parent below -/
theorem DsG_par (w : WFG G) : ∀ x, AndG G x → ∀ y, DsG G x y → y ≠ x → InG G y ∧ ∃ p, DsG G x p ∧ AndG G p ∧ y < p ∧ (y = aN' G p ∨ y = bN' G p) := by
  intro x
  induction x using Nat.strongRecOn with
  | _ x ih =>
    intro h y hy ne
    have l := aN_lt w h.1 h.2.1
    rcases (DsG_iff w h).1 hy with e | ⟨e1, e2⟩ | ⟨e1, e2⟩
    · exact absurd e ne
    · by_cases q : y = aN' G x
      · exact ⟨by rw [q]; exact e1, x, (DsG_iff w h).2 (.inl rfl), h, by omega, .inl q⟩
      · obtain ⟨a, p, p1, p2⟩ := ih _ l.1 e1.and y e2 q
        exact ⟨a, p, (DsG_iff w h).2 (.inr (.inl ⟨e1, p1⟩)), p2⟩
    · by_cases q : y = bN' G x
      · exact ⟨by rw [q]; exact e1, x, (DsG_iff w h).2 (.inl rfl), h, by omega, .inr q⟩
      · obtain ⟨a, p, p1, p2⟩ := ih _ l.2 e1.and y e2 q
        exact ⟨a, p, (DsG_iff w h).2 (.inr (.inr ⟨e1, p1⟩)), p2⟩
theorem DsG_apart (w : WFG G) (h : AndG G n) (ha : InG G (aN' G n)) (hb : InG G (bN' G n)) : ∀ k y, n - y ≤ k → DsG G (aN' G n) y → DsG G (bN' G n) y → False := by
  have tg := TG_G w
  have l := aN_lt w h.1 h.2.1
  have ne := (side_ne w h.1 h.2.1 h.2.2).1
  intro k
  induction k with
  | zero =>
    intro y hk d1 _
    have := DsG_le w _ ha.and y d1
    omega
  | succ k ih =>
    intro y hk d1 d2
    by_cases q1 : y = aN' G n <;> by_cases q2 : y = bN' G n
    · exact ne (by rw [← q1, ← q2])
    · obtain ⟨iy, p, p1, p2, p3, p4⟩ := DsG_par w _ hb.and y d2 q2
      have := tg.2.2.2.1 y p n iy p2 h p4 (.inl q1)
      have := DsG_le w _ hb.and p p1
      omega
    · obtain ⟨iy, p, p1, p2, p3, p4⟩ := DsG_par w _ ha.and y d1 q1
      have := tg.2.2.2.1 y p n iy p2 h p4 (.inr q2)
      have := DsG_le w _ ha.and p p1
      omega
    · obtain ⟨iy, p, p1, p2, p3, p4⟩ := DsG_par w _ ha.and y d1 q1
      obtain ⟨_, p', r1, r2, r3, r4⟩ := DsG_par w _ hb.and y d2 q2
      have := tg.2.2.2.1 y p p' iy p2 r2 p4 r4
      subst this
      exact ih p (by omega) p1 r1
theorem smN_plus {f g h : Nat → Nat} {m : Nat} (e : ∀ i, i < m → h i = f i + g i) : smN h m = smN f m + smN g m := by
  induction m with
  | zero => rfl
  | succ m ih =>
    show smN h m + h m = smN f m + f m + (smN g m + g m)
    rw [ih (fun i hi => e i (by omega)), e m (by omega)]; omega
theorem tSz_cnt (w : WFG G) : ∀ x, AndG G x → ∀ N, x < N → tSz G x = smN (fun y => bo (DsG G x y)) N := by
  intro x
  induction x using Nat.strongRecOn with
  | _ x ih =>
    intro h N hN
    have l := aN_lt w h.1 h.2.1
    rw [tSz_eq w h]
    -- three parts
    have part : ∀ a, a < x → tsx G a = smN (fun y => bo (InG G a ∧ DsG G a y)) N := fun a ha => by
      unfold tsx
      by_cases q : InG G a
      · rw [cG_t q, ih a ha q.and N (by omega)]
        exact smN_cg (fun y _ => bo_cg ⟨fun g => ⟨q, g⟩, fun g => g.2⟩)
      · rw [cG_f q, smN_0 (fun y _ => bo_f (fun g => q g.1))]
    rw [part _ l.1, part _ l.2]
    have e1 : smN (fun y => bo (y = x)) N = 1 := by
      have := smN_up (f := fun _ => 0) (g := fun y => bo (y = x)) (n := N) (a := x) (d := 1) hN (by show bo (x = x) = 0 + 1; rw [bo_t rfl]) (fun y _ ne => bo_f ne)
      rw [this, smN_0 (fun _ _ => rfl)]
    rw [← e1, ← smN_plus (h := fun y => bo (y = x) + bo (InG G (aN' G x) ∧ DsG G (aN' G x) y)) (fun _ _ => rfl), ← smN_plus (h := fun y => bo (y = x) + bo (InG G (aN' G x) ∧ DsG G (aN' G x) y) + bo (InG G (bN' G x) ∧ DsG G (bN' G x) y)) (fun _ _ => rfl)]
    refine smN_cg (fun y _ => ?_)
    have iff := DsG_iff (y := y) w h
    by_cases q1 : y = x
    · have n1 : ¬ (InG G (aN' G x) ∧ DsG G (aN' G x) y) := fun g => by have := DsG_le w _ g.1.and y g.2; omega
      have n2 : ¬ (InG G (bN' G x) ∧ DsG G (bN' G x) y) := fun g => by have := DsG_le w _ g.1.and y g.2; omega
      rw [bo_t q1, bo_f n1, bo_f n2, bo_t (iff.2 (.inl q1))]
    · by_cases q2 : InG G (aN' G x) ∧ DsG G (aN' G x) y
      · have n2 : ¬ (InG G (bN' G x) ∧ DsG G (bN' G x) y) := fun g => DsG_apart w h q2.1 g.1 _ y (Nat.le_refl _) q2.2 g.2
        rw [bo_f q1, bo_t q2, bo_f n2, bo_t (iff.2 (.inr (.inl q2)))]
      · by_cases q3 : InG G (bN' G x) ∧ DsG G (bN' G x) y
        · rw [bo_f q1, bo_f q2, bo_t q3, bo_t (iff.2 (.inr (.inr q3)))]
        · rw [bo_f q1, bo_f q2, bo_f q3, bo_f (fun g => (iff.1 g).elim q1 (fun g => g.elim q2 q3))]
theorem tSz_le (w : WFG G) (h : AndG G x) : tSz G x ≤ 1013 := by
  have hn := no_le w
  have := h.2.1
  rw [tSz_cnt w x h 1013 (by omega)]
  have := smN_le (f := fun y => bo (DsG G x y)) (n := 1013) (b := 1) (fun _ _ => bo_le)
  omega
theorem sTS_ins : sTS G (insN x l) ≤ tsx G x + sTS G l := by
  induction l with
  | nil => exact Nat.le_refl _
  | cons y l ih =>
    unfold insN
    by_cases q : x < y
    · rw [if_pos q]; exact Nat.le_refl _
    · rw [if_neg q]
      by_cases e : x = y
      · rw [if_pos e]; exact Nat.le_add_left _ _
      · rw [if_neg e]
        show tsx G y + sTS G (insN x l) ≤ tsx G x + (tsx G y + sTS G l)
        omega
theorem sTS_mk : sTS G (mkS l) ≤ sTS G l := by
  induction l with
  | nil => exact Nat.le_refl _
  | cons y l ih =>
    have := sTS_ins (G := G) (x := y) (l := mkS l)
    show sTS G (insN y (mkS l)) ≤ tsx G y + sTS G l
    omega
theorem sTS_fil (hx : x ∈ l) : sTS G (l.filter (fun y => decide (y ≠ x))) + tsx G x ≤ sTS G l := by
  have le : ∀ l : List Nat, sTS G (l.filter (fun y => decide (y ≠ x))) ≤ sTS G l := by
    intro l
    induction l with
    | nil => exact Nat.le_refl _
    | cons y l ih =>
      rw [List.filter_cons]
      by_cases q : y ≠ x
      · rw [if_pos (decide_eq_true q)]; show tsx G y + _ ≤ tsx G y + _; omega
      · rw [if_neg (by rw [decide_eq_false q]; decide)]; show _ ≤ tsx G y + _; omega
  induction l with
  | nil => exact (nomatch hx)
  | cons y l ih =>
    rw [List.filter_cons]
    by_cases q : y = x
    · rw [if_neg (by rw [decide_eq_false (fun g => g q)]; decide), q]
      have := le l
      show _ ≤ tsx G x + sTS G l
      omega
    · have := ih (by rcases List.mem_cons.1 hx with e | e; exact absurd e.symm q; exact e)
      rw [if_pos (decide_eq_true q)]
      show tsx G y + _ + _ ≤ tsx G y + _
      omega
theorem cut_sts (w : WFG G) (hn : AndG G n) (hc : c ∈ cutK (InG G) (aN' G) (bN' G) n) : sTS G c + 1 ≤ tSz G n := by
  have tn := tSz_eq w hn
  refine kst_all (In := InG G) (la := aN' G) (lb := bN' G) (n := n) (Q := fun c => sTS G c + 1 ≤ tSz G n) ?_ (fun c x hQ hx hm => ?_) 64 c hc
  · have := sTS_mk (G := G) (l := [aN' G n, bN' G n])
    have e : sTS G [aN' G n, bN' G n] = tsx G (aN' G n) + (tsx G (bN' G n) + 0) := rfl
    omega
  · have tx := tSz_eq w hx.and
    have t1 : tsx G x = tSz G x := cG_t hx
    unfold exC
    have a := sTS_ins (G := G) (x := bN' G x) (l := insN (aN' G x) (mkS (c.filter (fun y => decide (y ≠ x)))))
    have b := sTS_ins (G := G) (x := aN' G x) (l := mkS (c.filter (fun y => decide (y ≠ x))))
    have d := sTS_mk (G := G) (l := c.filter (fun y => decide (y ≠ x)))
    have f := sTS_fil (G := G) hm
    omega
end TREE
