/-! the class reads items: a name is told, an item is kept -/
def CapR (b c t : Int) : Prop := (c = t ∧ 0 ≤ t ∧ t ≤ 1000) ∨ (1000 < c ∧ 1000 < t ∧ c ≤ b)
theorem CapR.rng {b c t : Int} (h : CapR b c t) : 0 ≤ c ∧ 0 ≤ t ∧ (c ≤ 1000 ∨ c ≤ b) := by unfold CapR at h; omega
theorem CapR.iff {b c t : Int} (h : CapR b c t) {v : Int} (hv : v ≤ 1000) : v < c ↔ v < t := by unfold CapR at h; omega
theorem CapR.eq {b c t : Int} (h : CapR b c t) (hv : t ≤ 1000) : c = t := by unfold CapR at h; omega
theorem CapR.add {b c t w : Int} (h : CapR b c t) (hb : 2000 ≤ b) (hw : 0 ≤ w ∧ w ≤ 8) : CapR (b + 8) (c + w) (t + w) := by unfold CapR at h ⊢; omega
theorem CapR.cap {b b2 c c2 t t2 d : Int} (h : CapR b c t) (g : CapR b2 c2 t2) (hb : 1000000 ≤ b) (hd : 0 ≤ d ∧ d ≤ 1) : CapR b (min 1000000 (c + d + c2)) (t + d + t2) := by
  have h1 := Int.min_def 1000000 (c + d + c2)
  unfold CapR at h g ⊢
  split at h1 <;> omega
def capB (m : Mdl) : Int := 1000000 + 8 * (m.length : Int)
/-- what a module of the class holds beside its names -/
def MdX (S : Sto) (M : Nat) (m : Mdl) (its : List Itm) (rg ins : Int) : Prop := RwK S (M + 8) (flat3 (fIt its)) ∧ gI S M 6 = ((insL m).length : Int) ∧ gI S M 8 = sumW 0 m ∧ gI S M 9 = sumW 1 m ∧ CapR (capB m) (gI S M 10) rg ∧ CapR (capB m) (gI S M 7) ins
def GvF (S : Sto) (M : Nat) (m : Mdl) (gv : List Nat) : Prop := ∀ i, i < m.length → gI S (M + 7) i = if gv.contains i = true then 1 else 0
def WdOk (m : Mdl) : Prop := ∀ i, i < m.length → 0 ≤ (m.getD i nm0).2.2.1 ∧ (m.getD i nm0).2.2.1 ≤ 8
theorem getD_appN {m : Mdl} {x d : Nam} {i : Nat} : (m ++ [x]).getD i d = if i < m.length then m.getD i d else if i = m.length then x else d := by
  rw [List.getD_eq_getElem?_getD, List.getD_eq_getElem?_getD]
  by_cases g : i < m.length
  · rw [List.getElem?_append_left g, if_pos g]
  · rw [List.getElem?_append_right (by omega), if_neg g]
    by_cases e : i = m.length
    · rw [if_pos e, e, Nat.sub_self]; rfl
    · rw [if_neg e, List.getElem?_eq_none (by show 1 ≤ _; omega)]; rfl
theorem insL_app {m : Mdl} {x : Nam} : insL (m ++ [x]) = insL m ++ if x.2.1 = 0 then [m.length] else [] := by
  unfold insL
  rw [List.length_append]
  show (List.range (m.length + 1)).filter _ = _
  rw [List.range_succ, List.filter_append]
  congr 1
  · refine List.filter_congr (fun i hi => ?_)
    rw [getD_appN, if_pos (List.mem_range.1 hi)]
  · have e : (m ++ [x]).getD m.length nm0 = x := by rw [getD_appN, if_neg (by omega), if_pos rfl]
    by_cases g : x.2.1 = 0
    · rw [if_pos g, List.filter_cons_of_pos (by rw [e]; exact decide_eq_true g), List.filter_nil]
    · rw [if_neg g, List.filter_cons_of_neg (by rw [e]; exact fun q => g (of_decide_eq_true q)), List.filter_nil]
theorem insL_le {m : Mdl} : (insL m).length ≤ m.length := by
  have := List.length_filter_le (fun i => decide ((m.getD i nm0).2.1 = 0)) (List.range m.length)
  rw [List.length_range] at this
  exact this
theorem sumW_rng {s : Int} : ∀ {m : Mdl}, WdOk m → 0 ≤ sumW s m ∧ sumW s m ≤ 8 * (m.length : Int)
  | [], _ => ⟨Int.le_refl 0, by show (0 : Int) ≤ 8 * ((0 : Nat) : Int); omega⟩
  | x :: m, h => by
    have h0 := h 0 (by show 0 < m.length + 1; omega)
    have h0 : 0 ≤ x.2.2.1 ∧ x.2.2.1 ≤ 8 := h0
    have ih := sumW_rng (s := s) (m := m) (fun i hi => h (i + 1) (by show i + 1 < m.length + 1; omega))
    show 0 ≤ (if x.2.1 = s then x.2.2.1 else 0) + sumW s m ∧ (if x.2.1 = s then x.2.2.1 else 0) + sumW s m ≤ 8 * ((m.length + 1 : Nat) : Int)
    split <;> omega
def PTl (M c a i : Nat) : Prop := (a = M + 1 ∧ i = 2) ∨ ((M + 4 ≤ a ∧ a ≤ M + 7) ∧ i = c) ∨ (a = M ∧ (i = 6 ∨ (8 ≤ i ∧ i ≤ 10)))
section KTL
variable {S S0 z y : Sto} {u : Nat → Int} {n N M : Nat} {ms : List Mdl} {cur m : Mdl} {its : List Itm} {k : List Row3}
theorem MdX.cg {rg ins : Int} (h : MdX S M m its rg ins) (e : ∀ a i, M ≤ a → a ≤ M + 9 → gI z a i = gI S a i) : MdX z M m its rg ins := by
  obtain ⟨h1, h2, h3, h4, h5, h6⟩ := h
  refine ⟨h1.x (e _ _ (by omega) (by omega)) (e _ _ (by omega) (by omega)) (fun i => e _ _ (by omega) (by omega)), ?_, ?_, ?_, ?_, ?_⟩
  · rw [e _ _ (by omega) (by omega)]; exact h2
  · rw [e _ _ (by omega) (by omega)]; exact h3
  · rw [e _ _ (by omega) (by omega)]; exact h4
  · rw [e _ _ (by omega) (by omega)]; exact h5
  · rw [e _ _ (by omega) (by omega)]; exact h6
/-- a name is told -/
theorem k_tell7 {c : Nat} (hc : c < 40) (hcnt : gI S (M + 1) 2 = (c : Int)) {s w v : Int} (hs : 0 ≤ s ∧ s ≤ 4) (hw : 0 ≤ w ∧ w ≤ 8) (hv : -2147483648 ≤ v ∧ v < 2147483648) (h6 : 0 ≤ gI S M 6 ∧ gI S M 6 ≤ 1000) (h8 : 0 ≤ gI S M 8 ∧ gI S M 8 ≤ 1000) (h9 : 0 ≤ gI S M 9 ∧ gI S M 9 ≤ 1000) (h10 : 0 ≤ gI S M 10 ∧ gI S M 10 ≤ 2000000) :
    WP (mX7_tell S M s w v) (fun y => y.1 = (c : Int) ∧ ChW (PTl M c) S y.2 ∧ gI y.2 (M + 1) 2 = (c : Int) + 1 ∧ (gI y.2 (M + 4) c = s ∧ gI y.2 (M + 5) c = w ∧ gI y.2 (M + 6) c = v ∧ gI y.2 (M + 7) c = 0) ∧
      gI y.2 M 6 = gI S M 6 + (if s = 0 then 1 else 0) ∧ gI y.2 M 8 = gI S M 8 + (if s = 0 then w else 0) ∧ gI y.2 M 9 = gI S M 9 + (if s = 1 then w else 0) ∧ gI y.2 M 10 = gI S M 10 + (if s = 3 then w else 0)) := by
  unfold mX7_tell
  rw [w32_id (x := s) (by omega)]
  simp only [wf_eq, hcnt]
  rw [wrI_e (by omega), Int.toNat_natCast, wrI_e (by omega), Int.toNat_natCast, wrI_e (by omega), Int.toNat_natCast, wrI_e (by omega), Int.toNat_natCast]
  have i1 : 0 ≤ (if s = 0 then (1 : Int) else 0) ∧ (if s = 0 then (1 : Int) else 0) ≤ 1 := by split <;> omega
  have i2 : 0 ≤ (if s = 0 then w else 0) ∧ (if s = 0 then w else 0) ≤ 8 := by split <;> omega
  have i3 : 0 ≤ (if s = 1 then w else 0) ∧ (if s = 1 then w else 0) ≤ 8 := by split <;> omega
  have i4 : 0 ≤ (if s = 3 then w else 0) ∧ (if s = 3 then w else 0) ≤ 8 := by split <;> omega
  refine WP_some.2 ⟨rfl, ?_, ?_, ⟨?_, ?_, ?_, ?_⟩, ?_, ?_, ?_, ?_⟩
  · refine ((((((((ChW.refl.sI (Or.inl ⟨rfl, rfl⟩)).sI ?_).sI ?_).sI ?_).sI ?_).sI ?_).sI ?_).sI ?_).sI ?_
    · exact Or.inr (Or.inl ⟨by omega, rfl⟩)
    · exact Or.inr (Or.inl ⟨by omega, rfl⟩)
    · exact Or.inr (Or.inl ⟨by omega, rfl⟩)
    · exact Or.inr (Or.inl ⟨by omega, rfl⟩)
    · exact Or.inr (Or.inr ⟨rfl, by omega⟩)
    · exact Or.inr (Or.inr ⟨rfl, by omega⟩)
    · exact Or.inr (Or.inr ⟨rfl, by omega⟩)
    · exact Or.inr (Or.inr ⟨rfl, by omega⟩)
  · simp (disch := omega) only [gI_sIn, gI_sIe, w32_id]
  · simp (disch := omega) only [gI_sIn, gI_sIe, w32_id]
  · simp (disch := omega) only [gI_sIn, gI_sIe, w32_id]
  · simp (disch := omega) only [gI_sIn, gI_sIe, w32_id]
  · simp (disch := omega) only [gI_sIn, gI_sIe]; rfl
  · simp (disch := omega) only [gI_sIn, gI_sIe]; rw [w32_id (by omega)]
  · simp (disch := omega) only [gI_sIn, gI_sIe]; rw [w32_id (by omega)]
  · simp (disch := omega) only [gI_sIn, gI_sIe]; rw [w32_id (by omega)]
  · simp (disch := omega) only [gI_sIn, gI_sIe]; rw [w32_id (by omega)]
/-- an int behind a row that has room -/
theorem k_raddN {a : Nat} {l : List Int} {v : Int} (h : RwK S a l) (hl : l.length < 256) (hv : -2147483648 ≤ v ∧ v < 2147483648) : WP (mX6_add S a v) (fun z => RwK z a (l ++ [v]) ∧ ChW (fun b i => (b = a ∧ i = 1) ∨ b = a + 1) S z) := by
  obtain ⟨h1, h2, h3, h4⟩ := h
  have hr := h3.rng
  unfold mX6_add mX6_grow
  rw [if_neg (by omega), bX_some, if_pos ⟨by omega, by omega⟩, h1, Int.toNat_natCast]
  generalize hx : sI (sI S a 1 ((l.length : Int) + 1)) (a + 1) l.length v = x
  have x2 : gI x a 2 = gI S a 2 := by rw [← hx, hI_sI_a (by omega), hI_sI_i (by decide)]
  refine WP_some.2 ⟨⟨?_, fun i hi => ?_, by rw [x2]; exact h3, ?_⟩, ?_⟩
  · rw [← hx, hI_sI_a (by omega), gI_sI_eq, List.length_append, w32_id (by omega)]; rfl
  · rw [← hx, hI_sI, app_d]
    by_cases g : i = l.length
    · rw [if_pos ⟨rfl, g⟩, if_pos g, w32_id hv]
    · rw [if_neg (fun q => g q.2), if_neg g, hI_sI_a (by omega)]
      rw [List.length_append] at hi
      simp only [List.length] at hi
      exact h2 i (by omega)
  · rw [x2, List.length_append]; show ((l.length + 1 : Nat) : Int) ≤ _; omega
  · rw [← hx]
    exact (ChW.refl.sI (Or.inl ⟨rfl, rfl⟩)).sI (Or.inr rfl)
def PIm (M b i : Nat) : Prop := (b = M + 8 ∧ i = 1) ∨ b = M + 9
/-- an item is kept -/
theorem k_item7 (h : RwK S (M + 8) (flat3 (fIt its))) (hl : its.length ≤ 84) {x : Int} {a b : Nat} (hx : -100 ≤ x ∧ x ≤ 100) (ha : a ≤ 100000) (hb : b ≤ 100000) : WP (mX7_item S M x ((3 * a : Nat) : Int) ((3 * b : Nat) : Int)) (fun z => RwK z (M + 8) (flat3 (fIt (its ++ [(x, a, b)]))) ∧ ChW (PIm M) S z) := by
  have e := flat3_len (fIt its)
  have e2 : (fIt its).length = its.length := List.length_map _
  unfold mX7_item
  refine WP_call (k_raddN h (by omega) (v := x) (by omega)) (fun x1 hx1 => ?_)
  obtain ⟨a1, a2⟩ := hx1
  refine WP_call (k_raddN a1 (v := ((3 * a : Nat) : Int)) (by rw [List.length_append]; show _ + 1 < _; omega) (by omega)) (fun x2 hx2 => ?_)
  obtain ⟨b1, b2⟩ := hx2
  refine WP_call (k_raddN b1 (v := ((3 * b : Nat) : Int)) (by rw [List.length_append, List.length_append]; show _ + 1 + 1 < _; omega) (by omega)) (fun x3 hx3 => ?_)
  obtain ⟨d1, d2⟩ := hx3
  have pp : ∀ c i, ((c = M + 8 ∧ i = 1) ∨ c = M + 8 + 1) → PIm M c i := fun c i q => q
  refine WP_some.2 ⟨?_, ((ChW.refl.tr a2 pp).tr b2 pp).tr d2 pp⟩
  have e3 : fIt (its ++ [(x, a, b)]) = fIt its ++ [(x, ((3 * a : Nat) : Int), ((3 * b : Nat) : Int))] := by unfold fIt; rw [List.map_append]; rfl
  rw [e3, flat3_app]
  rw [List.append_assoc, List.append_assoc] at d1
  exact d1
end KTL
