/-! a list that holds all cuts of a tree; no program -/
def exC (la lb : Nat → Nat) (c : List Nat) (x : Nat) : List Nat := insN (lb x) (insN (la x) (mkS (c.filter (fun y => decide (y ≠ x)))))
def clo (In : Nat → Prop) (la lb : Nat → Nat) (M : List (List Nat)) : Prop := ∀ c ∈ M, ∀ x ∈ c, In x → (exC la lb c x).length ≤ 3 → exC la lb c x ∈ M
theorem exC_mem {la lb : Nat → Nat} {c : List Nat} {x y : Nat} : y ∈ exC la lb c x ↔ y = lb x ∨ y = la x ∨ (y ∈ c ∧ y ≠ x) := by
  unfold exC
  rw [insN_mem, insN_mem, mkS_mem, List.mem_filter, decide_eq_true_eq]
theorem exC_ss {la lb : Nat → Nat} {c : List Nat} {x : Nat} : SS (exC la lb c x) := insN_ss (insN_ss mkS_ss)
theorem exC_eq {la lb : Nat → Nat} {c m : List Nat} {x : Nat} (h : ∀ y, (y = lb x ∨ y = la x ∨ (y ∈ c ∧ y ≠ x)) ↔ y ∈ m) : exC la lb c x = mkS m := SS_ext _ _ exC_ss mkS_ss (fun y => by rw [exC_mem, mkS_mem]; exact h y)
theorem m3 {y a b c : Nat} : y ∈ mkS [a, b, c] ↔ y = a ∨ y = b ∨ y = c := by rw [mkS_mem]; simp only [List.mem_cons, List.not_mem_nil, or_false]
theorem m2 {y a b : Nat} : y ∈ mkS [a, b] ↔ y = a ∨ y = b := by rw [mkS_mem]; simp only [List.mem_cons, List.not_mem_nil, or_false]
theorem m3l {y a b c : Nat} : y ∈ [a, b, c] ↔ y = a ∨ y = b ∨ y = c := by simp only [List.mem_cons, List.not_mem_nil, or_false]
theorem m4l {y a b c d : Nat} : y ∈ [a, b, c, d] ↔ y = a ∨ y = b ∨ y = c ∨ y = d := by simp only [List.mem_cons, List.not_mem_nil, or_false]
theorem clo_app {In : Nat → Prop} {la lb : Nat → Nat} {M N : List (List Nat)} (h : clo In la lb M) (g : clo In la lb N) : clo In la lb (M ++ N) := fun c hc x hx hi hl => by
  rcases List.mem_append.1 hc with hc | hc
  · exact List.mem_append.2 (.inl (h c hc x hx hi hl))
  · exact List.mem_append.2 (.inr (g c hc x hx hi hl))
/-- one inner node and two leaves -/
noncomputable def CuM (In : Nat → Prop) (la lb : Nat → Nat) (x y v : Nat) : List (List Nat) :=
  (chn In (fun z => z = x ∨ z = y) la lb v v).map (fun u => mkS [u, x, y]) ++ cG (¬ In (la (lstN (chn In (fun z => z = x ∨ z = y) la lb v v))) ∧ ¬ In (lb (lstN (chn In (fun z => z = x ∨ z = y) la lb v v)))) [mkS [x, y, la (lstN (chn In (fun z => z = x ∨ z = y) la lb v v)), lb (lstN (chn In (fun z => z = x ∨ z = y) la lb v v))]] []
/-- two inner nodes and a leaf -/
noncomputable def PuM (In : Nat → Prop) (la lb : Nat → Nat) (x p q : Nat) : List (List Nat) :=
  (chn In (fun z => z = x) la lb p p).flatMap (fun u => (chn In (fun z => z = x) la lb q q).map (fun v => mkS [u, v, x]))
noncomputable def EuM (In : Nat → Prop) (la lb : Nat → Nat) (x p q : Nat) : List (List Nat) :=
  cG (¬ In (la (lstN (chn In (fun z => z = x) la lb q q))) ∧ ¬ In (lb (lstN (chn In (fun z => z = x) la lb q q)))) (CuM In la lb (la (lstN (chn In (fun z => z = x) la lb q q))) (lb (lstN (chn In (fun z => z = x) la lb q q))) p) []
section COVER
variable {In And Wd Z : Nat → Prop} {la lb : Nat → Nat} {pa pb : Nat → Bool} {val : Nat → Nat → Bool} {P x y v p q m : Nat}
theorem CuM_len (h : TG In And Wd la lb pa pb val P) (hx : Wd x) (hy : Wd y) (nx : ¬ In x) (ny : ¬ In y) (hv : In v) : (CuM In la lb x y v).length ≤ 20 := by
  unfold CuM
  rw [List.length_append, List.length_map]
  have := chn_len2 h hx hy nx ny (f := v) hv
  have : ∀ (p : Prop) (c : List Nat), (cG p [c] []).length ≤ 1 := fun p c => by
    by_cases q : p
    · rw [cG_t q]; exact Nat.le_refl _
    · rw [cG_f q]; exact Nat.zero_le _
  have := this (¬ In (la (lstN (chn In (fun z => z = x ∨ z = y) la lb v v))) ∧ ¬ In (lb (lstN (chn In (fun z => z = x ∨ z = y) la lb v v)))) (mkS [x, y, la (lstN (chn In (fun z => z = x ∨ z = y) la lb v v)), lb (lstN (chn In (fun z => z = x ∨ z = y) la lb v v))])
  omega
theorem CuM_mem {u : Nat} (hu : u ∈ chn In (fun z => z = x ∨ z = y) la lb v v) : mkS [u, x, y] ∈ CuM In la lb x y v := List.mem_append.2 (.inl (List.mem_map.2 ⟨u, hu, rfl⟩))
theorem CuM_clo (h : TG In And Wd la lb pa pb val P) (nx : ¬ In x) (ny : ¬ In y) (ne : x ≠ y) (hv : In v) : clo In la lb (CuM In la lb x y v) := fun c hc t ht hi hl => by
  rcases List.mem_append.1 hc with hc | hc
  · obtain ⟨u, hu, rfl⟩ := List.mem_map.1 hc
    have iu := (chn_in h v v hv u hu).1
    have au := h.2.1 u (h.1 u iu)
    have e : t = u := by
      rcases m3.1 ht with e | e | e
      · exact e
      · subst e; exact absurd hi nx
      · subst e; exact absurd hi ny
    subst e
    have tx : t ≠ x := fun e => nx (by rw [← e]; exact hi)
    have ty : t ≠ y := fun e => ny (by rw [← e]; exact hi)
    cases k : nxS In (fun z => z = x ∨ z = y) la lb t with
    | some w =>
      have hw := chn_next h v v hv (Nat.le_refl _) t hu w k
      obtain ⟨k1, k2, z, k3, k4⟩ := nxS_some h iu k
      have : exC la lb (mkS [t, x, y]) t = mkS [w, x, y] := exC_eq (fun r => by
        rw [m3, m3l]
        constructor
        · rintro (g | g | ⟨g | g | g, g'⟩)
          · rcases k4 with ⟨a, b⟩ | ⟨a, b⟩
            · exact .inl (by rw [g, b])
            · rcases k3 with k3 | k3
              · exact .inr (.inl (by rw [g, b, k3]))
              · exact .inr (.inr (by rw [g, b, k3]))
          · rcases k4 with ⟨a, b⟩ | ⟨a, b⟩
            · rcases k3 with k3 | k3
              · exact .inr (.inl (by rw [g, a, k3]))
              · exact .inr (.inr (by rw [g, a, k3]))
            · exact .inl (by rw [g, a])
          · exact absurd g g'
          · exact .inr (.inl g)
          · exact .inr (.inr g)
        · rintro (g | g | g)
          · rcases k4 with ⟨a, b⟩ | ⟨a, b⟩
            · exact .inl (by rw [g, b])
            · exact .inr (.inl (by rw [g, a]))
          · exact .inr (.inr ⟨.inr (.inl g), fun e => tx (by rw [← e, g])⟩)
          · exact .inr (.inr ⟨.inr (.inr g), fun e => ty (by rw [← e, g])⟩))
      rw [this]; exact CuM_mem hw
    | none =>
      obtain ⟨k1, k2⟩ := nxS_none k
      have lst := chn_last h v v hv (Nat.le_refl _) t hu k
      -- no side is inner
      have four : ∀ i j, (In i) → ¬ (j = x ∨ j = y) → i ≠ j → ((la t = i ∧ lb t = j) ∨ (la t = j ∧ lb t = i)) → False := fun i j hi' hj ne' ab => by
        have mi : i ∈ exC la lb (mkS [t, x, y]) t := exC_mem.2 (by rcases ab with ⟨a, b⟩ | ⟨a, b⟩; exact .inr (.inl a.symm); exact .inl b.symm)
        have mj : j ∈ exC la lb (mkS [t, x, y]) t := exC_mem.2 (by rcases ab with ⟨a, b⟩ | ⟨a, b⟩; exact .inl b.symm; exact .inr (.inl a.symm))
        have mx : x ∈ exC la lb (mkS [t, x, y]) t := exC_mem.2 (.inr (.inr ⟨m3.2 (.inr (.inl rfl)), fun e => tx e.symm⟩))
        have my : y ∈ exC la lb (mkS [t, x, y]) t := exC_mem.2 (.inr (.inr ⟨m3.2 (.inr (.inr rfl)), fun e => ty e.symm⟩))
        have := len4 mi mj mx my ⟨ne', fun e => nx (by rw [← e]; exact hi'), fun e => ny (by rw [← e]; exact hi'), fun e => hj (.inl e), fun e => hj (.inr e), ne⟩
        omega
      have nla : ¬ In (la t) := fun g => four (la t) (lb t) g (fun z => k2 ⟨z, g⟩) au.2.2.1 (.inl ⟨rfl, rfl⟩)
      have nlb : ¬ In (lb t) := fun g => four (lb t) (la t) g (fun z => k1 ⟨z, g⟩) (fun e => au.2.2.1 e.symm) (.inr ⟨rfl, rfl⟩)
      have : exC la lb (mkS [t, x, y]) t = mkS [x, y, la t, lb t] := exC_eq (fun r => by
        rw [m3, m4l]
        constructor
        · rintro (g | g | ⟨g | g | g, g'⟩)
          · exact .inr (.inr (.inr g))
          · exact .inr (.inr (.inl g))
          · exact absurd g g'
          · exact .inl g
          · exact .inr (.inl g)
        · rintro (g | g | g | g)
          · exact .inr (.inr ⟨.inr (.inl g), fun e => tx (by rw [← e, g])⟩)
          · exact .inr (.inr ⟨.inr (.inr g), fun e => ty (by rw [← e, g])⟩)
          · exact .inr (.inl g)
          · exact .inl g)
      rw [this]
      refine List.mem_append.2 (.inr ?_)
      rw [← lst, cG_t ⟨nla, nlb⟩]; exact .head _
  · -- leaves alone
    by_cases g : ¬ In (la (lstN (chn In (fun z => z = x ∨ z = y) la lb v v))) ∧ ¬ In (lb (lstN (chn In (fun z => z = x ∨ z = y) la lb v v)))
    · rw [cG_t g] at hc
      have e : c = mkS [x, y, la (lstN (chn In (fun z => z = x ∨ z = y) la lb v v)), lb (lstN (chn In (fun z => z = x ∨ z = y) la lb v v))] := by
        rcases List.mem_cons.1 hc with e | e
        · exact e
        · exact (nomatch e)
      rw [e, mkS_mem, m4l] at ht
      exfalso
      rcases ht with e | e | e | e
      · exact nx (by rw [← e]; exact hi)
      · exact ny (by rw [← e]; exact hi)
      · exact g.1 (by rw [← e]; exact hi)
      · exact g.2 (by rw [← e]; exact hi)
    · rw [cG_f g] at hc; exact (nomatch hc)
theorem PuM_mem {u v : Nat} (hu : u ∈ chn In (fun z => z = x) la lb p p) (hv : v ∈ chn In (fun z => z = x) la lb q q) : mkS [u, v, x] ∈ PuM In la lb x p q := List.mem_flatMap.2 ⟨u, hu, List.mem_map.2 ⟨v, hv, rfl⟩⟩
theorem PuM_inv {c : List Nat} (h : c ∈ PuM In la lb x p q) : ∃ u v, u ∈ chn In (fun z => z = x) la lb p p ∧ v ∈ chn In (fun z => z = x) la lb q q ∧ c = mkS [u, v, x] := by
  obtain ⟨u, hu, h⟩ := List.mem_flatMap.1 h
  obtain ⟨v, hv, h⟩ := List.mem_map.1 h
  exact ⟨u, v, hu, hv, h.symm⟩
theorem PuM_len : (PuM In la lb x p q).length = (chn In (fun z => z = x) la lb p p).length * (chn In (fun z => z = x) la lb q q).length := by
  unfold PuM
  generalize chn In (fun z => z = x) la lb p p = l
  induction l with
  | nil => rw [List.flatMap_nil]; exact (Nat.zero_mul _).symm
  | cons a l ih => rw [List.flatMap_cons, List.length_append, ih, List.length_map, List.length_cons, Nat.succ_mul, Nat.add_comm]
/-- two trees below one node have no node in common -/
theorem chn_apart (h : TG In And Wd la lb pa pb val P) (hm : And m) (hp : In p) (hq : In q) (pq : (la m = p ∧ lb m = q) ∨ (la m = q ∧ lb m = p)) : ∀ u v, u ∈ chn In (fun z => z = x) la lb p p → v ∈ chn In (fun z => z = x) la lb q q → u ≠ v := by
  have am := h.2.1 m hm
  have pm : p < m ∧ q < m ∧ p ≠ q ∧ (p = la m ∨ p = lb m) ∧ (q = la m ∨ q = lb m) := by
    rcases pq with ⟨a, b⟩ | ⟨a, b⟩
    · exact ⟨by omega, by omega, fun e => am.2.2.1 (by rw [a, b, e]), .inl a.symm, .inr b.symm⟩
    · exact ⟨by omega, by omega, fun e => am.2.2.1 (by rw [a, b, e]), .inr b.symm, .inl a.symm⟩
  -- where a node of a chain comes from
  have from' : ∀ (p : Nat), In p → ∀ f s, In s → ∀ u ∈ chn In (fun z => z = x) la lb f s, u = s ∨ ∃ w ∈ chn In (fun z => z = x) la lb f s, u < w ∧ (u = la w ∨ u = lb w) := fun p hp f => by
    induction f with
    | zero => intro s _ u hu; rcases List.mem_cons.1 hu with e | e; exact .inl e; exact (nomatch e)
    | succ f ih =>
      intro s hs u hu
      rcases List.mem_cons.1 hu with e | e
      · exact .inl e
      · right
        cases k : nxS In (fun z => z = x) la lb s with
        | none => rw [k] at e; exact (nomatch e)
        | some s' =>
          rw [k] at e
          obtain ⟨k1, k2, z, _, k4⟩ := nxS_some h hs k
          rcases ih s' k1 u e with g | ⟨w, w1, w2⟩
          · refine ⟨s, .head _, by omega, ?_⟩
            rcases k4 with ⟨a, b⟩ | ⟨a, b⟩
            · exact .inr (by rw [g, b])
            · exact .inl (by rw [g, a])
          · refine ⟨w, ?_, w2⟩
            show w ∈ s :: _
            rw [k]; exact .tail _ w1
  have key : ∀ k u v, m - u ≤ k → u ∈ chn In (fun z => z = x) la lb p p → v ∈ chn In (fun z => z = x) la lb q q → u ≠ v := by
    intro k
    induction k with
    | zero =>
      intro u v hk hu _
      have := (chn_in h p p hp u hu).2
      omega
    | succ k ih =>
      intro u v hk hu hv e
      subst e
      have iu := (chn_in h p p hp u hu).1
      rcases from' p hp p p hp u hu with g | ⟨w, w1, w2, w3⟩ <;> rcases from' q hq q q hq u hv with g' | ⟨w', w1', w2', w3'⟩
      · exact pm.2.2.1 (by rw [← g, ← g'])
      · have := chn_in h q q hq w' w1'
        have := h.2.2.2.1 u m w' iu hm (h.1 w' this.1) (by rw [g]; exact pm.2.2.2.1) w3'
        omega
      · have := chn_in h p p hp w w1
        have := h.2.2.2.1 u m w iu hm (h.1 w this.1) (by rw [g']; exact pm.2.2.2.2) w3
        omega
      · have a := chn_in h p p hp w w1
        have b := chn_in h q q hq w' w1'
        have := h.2.2.2.1 u w w' iu (h.1 w a.1) (h.1 w' b.1) w3 w3'
        subst this
        exact ih w w (by omega) w1 w1' rfl
  exact fun u v hu hv => key (m - u) u v (Nat.le_refl _) hu hv
/-- a child of a node of the first chain is none of the second -/
theorem chn_apart2 (h : TG In And Wd la lb pa pb val P) (hm : And m) (hp : In p) (hq : In q) (pq : (la m = p ∧ lb m = q) ∨ (la m = q ∧ lb m = p)) {u v i : Nat} (hu : u ∈ chn In (fun z => z = x) la lb p p) (hv : v ∈ chn In (fun z => z = x) la lb q q) (hi : In i) (ui : i = la u ∨ i = lb u) : i ≠ v := fun e => by
  subst e
  have am := h.2.1 m hm
  have pm : p < m ∧ q < m ∧ (q = la m ∨ q = lb m) := by
    rcases pq with ⟨a, b⟩ | ⟨a, b⟩
    · exact ⟨by omega, by omega, .inr b.symm⟩
    · exact ⟨by omega, by omega, .inl a.symm⟩
  have cu := chn_in h p p hp u hu
  have from' : ∀ f s, In s → ∀ u ∈ chn In (fun z => z = x) la lb f s, u = s ∨ ∃ w ∈ chn In (fun z => z = x) la lb f s, u < w ∧ (u = la w ∨ u = lb w) := fun f => by
    induction f with
    | zero => intro s _ u hu; rcases List.mem_cons.1 hu with e | e; exact .inl e; exact (nomatch e)
    | succ f ih =>
      intro s hs u hu
      rcases List.mem_cons.1 hu with e | e
      · exact .inl e
      · right
        cases k : nxS In (fun z => z = x) la lb s with
        | none => rw [k] at e; exact (nomatch e)
        | some s' =>
          rw [k] at e
          obtain ⟨k1, k2, z, _, k4⟩ := nxS_some h hs k
          rcases ih s' k1 u e with g | ⟨w, w1, w2⟩
          · refine ⟨s, .head _, by omega, ?_⟩
            rcases k4 with ⟨a, b⟩ | ⟨a, b⟩
            · exact .inr (by rw [g, b])
            · exact .inl (by rw [g, a])
          · refine ⟨w, ?_, w2⟩
            show w ∈ s :: _
            rw [k]; exact .tail _ w1
  rcases from' q q hq i hv with g | ⟨w, w1, _, w3⟩
  · have := h.2.2.2.1 i u m hi (h.1 u cu.1) hm ui (by rw [g]; exact pm.2.2)
    omega
  · have b := chn_in h q q hq w w1
    have := h.2.2.2.1 i u w hi (h.1 u cu.1) (h.1 w b.1) ui w3
    exact chn_apart h hm hp hq pq u w hu w1 this
/-- a pair's expansion on its first side -/
theorem PuM_half (h : TG In And Wd la lb pa pb val P) (hm : And m) (hp : In p) (hq : In q) (pq : (la m = p ∧ lb m = q) ∨ (la m = q ∧ lb m = p)) (hx : Wd x) (nx : ¬ In x) {u v : Nat} (hu : u ∈ chn In (fun z => z = x) la lb p p) (hv : v ∈ chn In (fun z => z = x) la lb q q) {c : List Nat} (hc : ∀ y, y ∈ c ↔ y = u ∨ y = v ∨ y = x) (hl : (exC la lb c u).length ≤ 3) :
    (∃ u' v', u' ∈ chn In (fun z => z = x) la lb p p ∧ v' ∈ chn In (fun z => z = x) la lb q q ∧ exC la lb c u = mkS [u', v', x]) ∨ exC la lb c u ∈ EuM In la lb x q p := by
  have cu := chn_in h p p hp u hu
  have cv := chn_in h q q hq v hv
  have au := h.2.1 u (h.1 u cu.1)
  have uv := chn_apart h hm hp hq pq u v hu hv
  have ux : u ≠ x := fun e => nx (by rw [← e]; exact cu.1)
  have vx : v ≠ x := fun e => nx (by rw [← e]; exact cv.1)
  cases k : nxS In (fun z => z = x) la lb u with
  | some w =>
    have hw := chn_next h p p hp (Nat.le_refl _) u hu w k
    obtain ⟨k1, k2, z, k3, k4⟩ := nxS_some h cu.1 k
    refine .inl ⟨w, v, hw, hv, exC_eq (fun r => ?_)⟩
    rw [hc, m3l]
    constructor
    · rintro (g | g | ⟨g | g | g, g'⟩)
      · rcases k4 with ⟨a, b⟩ | ⟨a, b⟩
        · exact .inl (by rw [g, b])
        · exact .inr (.inr (by rw [g, b, k3]))
      · rcases k4 with ⟨a, b⟩ | ⟨a, b⟩
        · exact .inr (.inr (by rw [g, a, k3]))
        · exact .inl (by rw [g, a])
      · exact absurd g g'
      · exact .inr (.inl g)
      · exact .inr (.inr g)
    · rintro (g | g | g)
      · rcases k4 with ⟨a, b⟩ | ⟨a, b⟩
        · exact .inl (by rw [g, b])
        · exact .inr (.inl (by rw [g, a]))
      · exact .inr (.inr ⟨.inr (.inl g), fun e => uv (by rw [← e, g])⟩)
      · exact .inr (.inr ⟨.inr (.inr g), fun e => ux (by rw [← e, g])⟩)
  | none =>
    obtain ⟨k1, k2⟩ := nxS_none k
    have lst := chn_last h p p hp (Nat.le_refl _) u hu k
    have mv : v ∈ exC la lb c u := exC_mem.2 (.inr (.inr ⟨(hc v).2 (.inr (.inl rfl)), fun e => uv e.symm⟩))
    have mx : x ∈ exC la lb c u := exC_mem.2 (.inr (.inr ⟨(hc x).2 (.inr (.inr rfl)), fun e => ux e.symm⟩))
    have ma : la u ∈ exC la lb c u := exC_mem.2 (.inr (.inl rfl))
    have mb : lb u ∈ exC la lb c u := exC_mem.2 (.inl rfl)
    have nla : ¬ In (la u) := fun g => by
      have d1 := chn_apart2 h hm hp hq pq hu hv g (.inl rfl)
      have d2 : la u ≠ x := fun e => nx (by rw [← e]; exact g)
      have d3 : lb u ≠ x := fun e => k2 ⟨e, g⟩
      have d4 : lb u ≠ v := fun e => chn_apart2 h hm hp hq pq hu hv (by rw [e]; exact cv.1) (.inr rfl) e
      have := len4 ma mb mv mx ⟨au.2.2.1, d1, d2, d4, d3, vx⟩
      omega
    have nlb : ¬ In (lb u) := fun g => by
      have d1 := chn_apart2 h hm hp hq pq hu hv g (.inr rfl)
      have d2 : lb u ≠ x := fun e => nx (by rw [← e]; exact g)
      have d3 : la u ≠ x := fun e => k1 ⟨e, g⟩
      have d4 : la u ≠ v := fun e => nla (by rw [e]; exact cv.1)
      have := len4 ma mb mv mx ⟨au.2.2.1, d4, d3, d1, d2, vx⟩
      omega
    right
    unfold EuM
    rw [← lst, cG_t ⟨nla, nlb⟩]
    -- one of the sides is x
    have hxs : x = la u ∨ x = lb u := Classical.byContradiction (fun no => by
      have d1 : la u ≠ v := fun e => nla (by rw [e]; exact cv.1)
      have d2 : lb u ≠ v := fun e => nlb (by rw [e]; exact cv.1)
      have := len4 ma mb mv mx ⟨au.2.2.1, d1, fun e => no (.inl e.symm), d2, fun e => no (.inr e.symm), vx⟩
      omega)
    have : exC la lb c u = mkS [v, la u, lb u] := exC_eq (fun r => by
      rw [hc, m3l]
      constructor
      · rintro (g | g | ⟨g | g | g, g'⟩)
        · exact .inr (.inr g)
        · exact .inr (.inl g)
        · exact absurd g g'
        · exact .inl g
        · rcases hxs with e | e
          · exact .inr (.inl (by rw [g, e]))
          · exact .inr (.inr (by rw [g, e]))
      · rintro (g | g | g)
        · exact .inr (.inr ⟨.inr (.inl g), fun e => uv (by rw [← e, g])⟩)
        · exact .inr (.inl g)
        · exact .inl g)
    rw [this]
    refine CuM_mem ?_
    -- the chain over x is part of the chain over both
    have sub : ∀ f s, In s → ∀ w ∈ chn In (fun z => z = x) la lb f s, w ∈ chn In (fun z => z = la u ∨ z = lb u) la lb f s := fun f => by
      induction f with
      | zero => exact fun s _ w hw => hw
      | succ f ih =>
        intro s hs w hw
        rcases List.mem_cons.1 hw with e | e
        · rw [e]; exact chn_1
        · cases kk : nxS In (fun z => z = x) la lb s with
          | none => rw [kk] at e; exact (nomatch e)
          | some s' =>
            rw [kk] at e
            obtain ⟨k1', k2', z, k3, k4⟩ := nxS_some h hs kk
            have k3 : z = x := k3
            have : nxS In (fun z => z = la u ∨ z = lb u) la lb s = some s' := by
              unfold nxS
              rcases k4 with ⟨a, b⟩ | ⟨a, b⟩
              · rw [cG_t ⟨by rw [a, k3]; exact hxs, by rw [b]; exact k1'⟩, b]
              · rw [cG_f (fun g => by
                  have : lb s = x := by rw [b, k3]
                  exact nx (by rw [← this]; exact g.2)), cG_t ⟨by rw [b, k3]; exact hxs, by rw [a]; exact k1'⟩, a]
            show w ∈ s :: _
            rw [this]; exact .tail _ (ih s' k1' w e)
    exact sub q q hq v hv
theorem PuM_clo (h : TG In And Wd la lb pa pb val P) (hm : And m) (hp : In p) (hq : In q) (pq : (la m = p ∧ lb m = q) ∨ (la m = q ∧ lb m = p)) (hx : Wd x) (nx : ¬ In x) : clo In la lb (PuM In la lb x p q ++ (EuM In la lb x p q ++ EuM In la lb x q p)) := by
  have E : ∀ p q, In p → In q → clo In la lb (EuM In la lb x p q) := fun p q hp hq => by
    unfold EuM
    by_cases g : ¬ In (la (lstN (chn In (fun z => z = x) la lb q q))) ∧ ¬ In (lb (lstN (chn In (fun z => z = x) la lb q q)))
    · rw [cG_t g]
      exact CuM_clo h g.1 g.2 (h.2.1 _ (h.1 _ (chn_in (Z := fun z => z = x) h q q hq _ (chn_lst_mem q q)).1)).2.2.1 hp
    · rw [cG_f g]; exact fun c hc => (nomatch hc)
  intro c hc t ht hi hl
  rcases List.mem_append.1 hc with hc | hc
  · obtain ⟨u, v, hu, hv, rfl⟩ := PuM_inv hc
    have pq' : (la m = q ∧ lb m = p) ∨ (la m = p ∧ lb m = q) := pq.symm
    rcases m3.1 ht with e | e | e
    · subst e
      rcases PuM_half h hm hp hq pq hx nx hu hv (fun y => m3) hl with ⟨u', v', a, b, e⟩ | g
      · rw [e]; exact List.mem_append.2 (.inl (PuM_mem a b))
      · exact List.mem_append.2 (.inr (List.mem_append.2 (.inr g)))
    · subst e
      rcases PuM_half h hm hq hp pq' hx nx hv hu (c := mkS [u, t, x]) (fun y => by rw [m3]; exact ⟨fun g => g.elim (fun g => .inr (.inl g)) (fun g => g.elim .inl (fun g => .inr (.inr g))), fun g => g.elim (fun g => .inr (.inl g)) (fun g => g.elim .inl (fun g => .inr (.inr g)))⟩) hl with ⟨u', v', a, b, e⟩ | g
      · rw [e, show mkS [u', v', x] = mkS [v', u', x] from mkS_eq (fun y => by rw [m3l, m3l]; exact ⟨fun g => g.elim (fun g => .inr (.inl g)) (fun g => g.elim .inl (fun g => .inr (.inr g))), fun g => g.elim (fun g => .inr (.inl g)) (fun g => g.elim .inl (fun g => .inr (.inr g)))⟩)]
        exact List.mem_append.2 (.inl (PuM_mem b a))
      · exact List.mem_append.2 (.inr (List.mem_append.2 (.inl g)))
    · subst e; exact absurd hi nx
  · exact List.mem_append.2 (.inr (clo_app (E p q hp hq) (E q p hq hp) c hc t ht hi hl))
theorem EuM_len (h : TG In And Wd la lb pa pb val P) (hp : In p) (hq : In q) : (EuM In la lb x p q).length ≤ 20 := by
  unfold EuM
  by_cases g : ¬ In (la (lstN (chn In (fun z => z = x) la lb q q))) ∧ ¬ In (lb (lstN (chn In (fun z => z = x) la lb q q)))
  · rw [cG_t g]
    have a := h.2.1 _ (h.1 _ (chn_in (Z := fun z => z = x) h q q hq _ (chn_lst_mem q q)).1)
    exact CuM_len h a.2.2.2.1 a.2.2.2.2.1 g.1 g.2 hp
  · rw [cG_f g]; exact Nat.zero_le _
theorem PuM_all (h : TG In And Wd la lb pa pb val P) (hp : In p) (hq : In q) (hx : Wd x) (nx : ¬ In x) : (PuM In la lb x p q ++ (EuM In la lb x p q ++ EuM In la lb x q p)).length ≤ 49 := by
  have a := chn_len1 h hx nx (f := p) hp
  have b := chn_len1 h hx nx (f := q) hq
  have e1 := EuM_len (x := x) h hp hq
  have e2 := EuM_len (x := x) h hq hp
  rw [List.length_append, List.length_append, PuM_len]
  have := Nat.mul_le_mul a b
  omega
end COVER
