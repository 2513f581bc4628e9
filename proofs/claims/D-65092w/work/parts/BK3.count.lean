/-! fewer than 64 cuts; no program -/
def tII (In : Nat → Prop) (la lb : Nat → Nat) (p : Nat) : Prop := In (la p) ∧ In (lb p)
def tLL (In : Nat → Prop) (la lb : Nat → Nat) (p : Nat) : Prop := ¬ In (la p) ∧ ¬ In (lb p)
def tIL (In : Nat → Prop) (la lb : Nat → Nat) (p i x : Nat) : Prop := In i ∧ ¬ In x ∧ ((la p = i ∧ lb p = x) ∨ (la p = x ∧ lb p = i))
/-- what an expansion of p out of two inner nodes p, q may need -/
def XT (In : Nat → Prop) (la lb : Nat → Nat) (p q : Nat) (M : List (List Nat)) : Prop := (exC la lb (mkS [p, q]) p).length ≤ 3 → exC la lb (mkS [p, q]) p ∈ M
section COUNT
variable {In And Wd : Nat → Prop} {la lb : Nat → Nat} {pa pb : Nat → Bool} {val : Nat → Nat → Bool} {P x y v p q m i n : Nat} {M N : List (List Nat)}
theorem t_any (In : Nat → Prop) (la lb : Nat → Nat) (p : Nat) : tII In la lb p ∨ tLL In la lb p ∨ ∃ i x, tIL In la lb p i x := by
  by_cases a : In (la p) <;> by_cases b : In (lb p)
  · exact .inl ⟨a, b⟩
  · exact .inr (.inr ⟨la p, lb p, a, b, .inl ⟨rfl, rfl⟩⟩)
  · exact .inr (.inr ⟨lb p, la p, b, a, .inr ⟨rfl, rfl⟩⟩)
  · exact .inr (.inl ⟨a, b⟩)
theorem tIL_wd (h : TG In And Wd la lb pa pb val P) (hp : And p) (t : tIL In la lb p i x) : Wd x ∧ i < p := by
  have a := h.2.1 p hp
  rcases t.2.2 with ⟨e1, e2⟩ | ⟨e1, e2⟩
  · rw [← e1, ← e2]; exact ⟨a.2.2.2.2.1, a.1⟩
  · rw [← e1, ← e2]; exact ⟨a.2.2.2.1, a.2.1⟩
theorem tIL_nx (t : tIL In la lb p i x) : nxS In (fun z => z = x) la lb p = some i := by
  unfold nxS
  rcases t.2.2 with ⟨e1, e2⟩ | ⟨e1, e2⟩
  · rw [cG_f (fun g => by rw [e2] at g; exact t.2.1 g.2), cG_t ⟨e2, by rw [e1]; exact t.1⟩, e1]
  · rw [cG_t ⟨e1, by rw [e2]; exact t.1⟩, e2]
theorem tIL_no (t : tIL In la lb p i x) (ne : y ≠ x) (ny : ¬ In y) : nxS In (fun z => z = y) la lb p = none := by
  unfold nxS
  rcases t.2.2 with ⟨e1, e2⟩ | ⟨e1, e2⟩
  · rw [cG_f (fun g => by rw [e2] at g; exact t.2.1 g.2), cG_f (fun g => ne (by rw [← g.1, e2]))]
  · rw [cG_f (fun g => ne (by rw [← g.1, e1])), cG_f (fun g => by rw [e1] at g; exact t.2.1 g.2)]
theorem chn_none {Z : Nat → Prop} (e : nxS In Z la lb p = none) : ∀ f, chn In Z la lb f p = [p] := by
  intro f
  cases f with
  | zero => rfl
  | succ f => show p :: _ = _; rw [e]
theorem tLL_no (t : tLL In la lb p) {Z : Nat → Prop} : nxS In Z la lb p = none := by
  unfold nxS
  rw [cG_f (fun g => t.2 g.2), cG_f (fun g => t.1 g.2)]
theorem tII_no (h : TG In And Wd la lb pa pb val P) (t : tII In la lb p) (nx : ¬ In x) : nxS In (fun z => z = x) la lb p = none := by
  unfold nxS
  rw [cG_f (fun g => nx (by rw [← g.1]; exact t.1)), cG_f (fun g => nx (by rw [← g.1]; exact t.2))]
theorem ex_IL (t : tIL In la lb p i x) (hp : In p) (hq : q ≠ p) : exC la lb (mkS [p, q]) p = mkS [i, q, x] := exC_eq (fun r => by
  have px : x ≠ p := fun e => t.2.1 (by rw [e]; exact hp)
  rw [m2, m3l]
  rcases t.2.2 with ⟨e1, e2⟩ | ⟨e1, e2⟩ <;> rw [e1, e2] <;> constructor
  · rintro (g | g | ⟨g | g, g'⟩)
    · exact .inr (.inr g)
    · exact .inl g
    · exact absurd g g'
    · exact .inr (.inl g)
  · rintro (g | g | g)
    · exact .inr (.inl g)
    · exact .inr (.inr ⟨.inr g, fun e => hq (by rw [← e, g])⟩)
    · exact .inl g
  · rintro (g | g | ⟨g | g, g'⟩)
    · exact .inl g
    · exact .inr (.inr g)
    · exact absurd g g'
    · exact .inr (.inl g)
  · rintro (g | g | g)
    · exact .inl g
    · exact .inr (.inr ⟨.inr g, fun e => hq (by rw [← e, g])⟩)
    · exact .inr (.inl g))
theorem ex_two (hq : q ≠ p) : exC la lb (mkS [p, q]) p = mkS [q, la p, lb p] := exC_eq (fun r => by
  rw [m2, m3l]
  constructor
  · rintro (g | g | ⟨g | g, g'⟩)
    · exact .inr (.inr g)
    · exact .inr (.inl g)
    · exact absurd g g'
    · exact .inl g
  · rintro (g | g | g)
    · exact .inr (.inr ⟨.inr g, fun e => hq (by rw [← e, g])⟩)
    · exact .inr (.inl g)
    · exact .inl g)
/-- three inner nodes are the end -/
theorem trip_clo (h : TG In And Wd la lb pa pb val P) (hn : And n) (hp : In p) (hq : In q) (pq : (la n = p ∧ lb n = q) ∨ (la n = q ∧ lb n = p)) (t : tII In la lb p) : clo In la lb [mkS [q, la p, lb p]] := fun c hc r hr hi hl => by
  exfalso
  have e : c = mkS [q, la p, lb p] := by
    rcases List.mem_cons.1 hc with e | e
    · exact e
    · exact (nomatch e)
  subst e
  have ap := h.1 p hp
  have aq := h.1 q hq
  have bn := h.2.1 n hn
  have bp := h.2.1 p ap
  have bq := h.2.1 q aq
  have sides : (q = la n ∨ q = lb n) ∧ p < n ∧ q < n ∧ p ≠ q := by
    rcases pq with ⟨a, b⟩ | ⟨a, b⟩
    · exact ⟨.inr b.symm, by omega, by omega, fun e => bn.2.2.1 (by rw [a, b, e])⟩
    · exact ⟨.inl a.symm, by omega, by omega, fun e => bn.2.2.1 (by rw [a, b, e])⟩
  -- children of r are none of the others
  have ar := h.1 r hi
  have br := h.2.1 r ar
  have uq := h.2.2.2.1
  have lap : In (la p) := t.1
  have lbp : In (lb p) := t.2
  have cq : ∀ s, (s = la r ∨ s = lb r) → r ≠ n → s ≠ q := fun s hs rn e => by
    subst e; exact rn (uq s r n hq ar hn hs sides.1)
  have cp : ∀ s, (s = la r ∨ s = lb r) → r ≠ p → s ≠ la p ∧ s ≠ lb p := fun s hs rp => ⟨fun e => rp (uq s r p (by rw [e]; exact lap) ar ap hs (.inl e)), fun e => rp (uq s r p (by rw [e]; exact lbp) ar ap hs (.inr e))⟩
  have rq : q ≠ la p ∧ q ≠ lb p := ⟨fun e => by have := uq q p n hq ap hn (.inl e) sides.1; omega, fun e => by have := uq q p n hq ap hn (.inr e) sides.1; omega⟩
  rcases m3.1 hr with e | e | e
  · subst e
    have rn : r ≠ n := by omega
    have rp : r ≠ p := fun e => sides.2.2.2 e.symm
    have := len4 (exC_mem.2 (.inr (.inl rfl)) : la r ∈ exC la lb (mkS [r, la p, lb p]) r) (exC_mem.2 (.inl rfl) : lb r ∈ _) (exC_mem.2 (.inr (.inr ⟨m3.2 (.inr (.inl rfl)), fun e => rq.1 e.symm⟩)) : la p ∈ _) (exC_mem.2 (.inr (.inr ⟨m3.2 (.inr (.inr rfl)), fun e => rq.2 e.symm⟩)) : lb p ∈ _) ⟨br.2.2.1, (cp _ (.inl rfl) rp).1, (cp _ (.inl rfl) rp).2, (cp _ (.inr rfl) rp).1, (cp _ (.inr rfl) rp).2, bp.2.2.1⟩
    omega
  · subst e
    have rn : la p ≠ n := by omega
    have rp : la p ≠ p := by omega
    have := len4 (exC_mem.2 (.inr (.inl rfl)) : la (la p) ∈ exC la lb (mkS [q, la p, lb p]) (la p)) (exC_mem.2 (.inl rfl) : lb (la p) ∈ _) (exC_mem.2 (.inr (.inr ⟨m3.2 (.inl rfl), rq.1⟩)) : q ∈ _) (exC_mem.2 (.inr (.inr ⟨m3.2 (.inr (.inr rfl)), fun e => bp.2.2.1 e.symm⟩)) : lb p ∈ _) ⟨br.2.2.1, cq _ (.inl rfl) rn, (cp _ (.inl rfl) rp).2, cq _ (.inr rfl) rn, (cp _ (.inr rfl) rp).2, rq.2⟩
    omega
  · subst e
    have rn : lb p ≠ n := by omega
    have rp : lb p ≠ p := by omega
    have := len4 (exC_mem.2 (.inr (.inl rfl)) : la (lb p) ∈ exC la lb (mkS [q, la p, lb p]) (lb p)) (exC_mem.2 (.inl rfl) : lb (lb p) ∈ _) (exC_mem.2 (.inr (.inr ⟨m3.2 (.inl rfl), rq.2⟩)) : q ∈ _) (exC_mem.2 (.inr (.inr ⟨m3.2 (.inr (.inl rfl)), bp.2.2.1⟩)) : la p ∈ _) ⟨br.2.2.1, cq _ (.inl rfl) rn, (cp _ (.inl rfl) rp).1, cq _ (.inr rfl) rn, (cp _ (.inr rfl) rp).1, rq.1⟩
    omega
theorem two_clo (h : clo In la lb M) (hp : XT In la lb p q M) (hq : XT In la lb q p M) : clo In la lb (mkS [p, q] :: M) := fun c hc r hr hi hl => by
  rcases List.mem_cons.1 hc with e | hc
  · subst e
    rcases m2.1 hr with e | e
    · subst e; exact .tail _ (hp hl)
    · subst e
      have sw : mkS [p, r] = mkS [r, p] := mkS_eq (fun y => by simp only [List.mem_cons, List.not_mem_nil, or_false]; exact Or.comm)
      rw [sw] at hl ⊢
      exact .tail _ (hq hl)
  · exact .tail _ (h c hc r hr hi hl)
/-- one inner node and a leaf -/
theorem one_cover (h : TG In And Wd la lb pa pb val P) (hp : In p) (hx : Wd x) (nx : ¬ In x) : ∃ M : List (List Nat), M.length ≤ 52 ∧ mkS [p, x] ∈ M ∧ clo In la lb M := by
  obtain ⟨e, he⟩ : ∃ e, e = lstN (chn In (fun z => z = x) la lb p p) := ⟨_, rfl⟩
  have me : e ∈ chn In (fun z => z = x) la lb p p := by rw [he]; exact chn_lst_mem p p
  have ie := (chn_in h p p hp e me).1
  have ae := h.1 e ie
  have be := h.2.1 e ae
  have ex' : e ≠ x := fun g => nx (by rw [← g]; exact ie)
  have l3 := chn_len1 h hx nx (f := p) hp
  have ee : ∀ r, r = lb e ∨ r = la e ∨ (r ∈ mkS [e, x] ∧ r ≠ e) ↔ r ∈ [x, la e, lb e] := fun r => by
    rw [m2, m3l]
    constructor
    · rintro (g | g | ⟨g | g, g'⟩)
      · exact .inr (.inr g)
      · exact .inr (.inl g)
      · exact absurd g g'
      · exact .inl g
    · rintro (g | g | g)
      · exact .inr (.inr ⟨.inr g, fun k => ex' (by rw [← k, g])⟩)
      · exact .inr (.inl g)
      · exact .inl g
  have build : ∀ N : List (List Nat), N.length ≤ 49 → clo In la lb N → (nxS In (fun z => z = x) la lb e = none → mkS [x, la e, lb e] ∈ N) → ∃ M : List (List Nat), M.length ≤ 52 ∧ mkS [p, x] ∈ M ∧ clo In la lb M := fun N hN cN mN => by
    refine ⟨(chn In (fun z => z = x) la lb p p).map (fun u => mkS [u, x]) ++ N, by rw [List.length_append, List.length_map]; omega, List.mem_append.2 (.inl (List.mem_map.2 ⟨p, chn_1, rfl⟩)), fun c hc r hr hi hl => ?_⟩
    rcases List.mem_append.1 hc with hc | hc
    · obtain ⟨u, hu, rfl⟩ := List.mem_map.1 hc
      have iu := (chn_in h p p hp u hu).1
      have ru : r = u := by
        rcases m2.1 hr with g | g
        · exact g
        · subst g; exact absurd hi nx
      subst ru
      have rx : r ≠ x := fun g => nx (by rw [← g]; exact iu)
      cases k : nxS In (fun z => z = x) la lb r with
      | some w =>
        have hw := chn_next h p p hp (Nat.le_refl _) r hu w k
        obtain ⟨k1, k2, z, k3, k4⟩ := nxS_some h iu k
        have : exC la lb (mkS [r, x]) r = mkS [w, x] := exC_eq (fun s => by
          rw [m2]
          simp only [List.mem_cons, List.not_mem_nil, or_false]
          have k3 : z = x := k3
          constructor
          · rintro (g | g | ⟨g | g, g'⟩)
            · rcases k4 with ⟨a, b⟩ | ⟨a, b⟩
              · exact .inl (by rw [g, b])
              · exact .inr (by rw [g, b, k3])
            · rcases k4 with ⟨a, b⟩ | ⟨a, b⟩
              · exact .inr (by rw [g, a, k3])
              · exact .inl (by rw [g, a])
            · exact absurd g g'
            · exact .inr g
          · rintro (g | g)
            · rcases k4 with ⟨a, b⟩ | ⟨a, b⟩
              · exact .inl (by rw [g, b])
              · exact .inr (.inl (by rw [g, a]))
            · exact .inr (.inr ⟨.inr g, fun e => rx (by rw [← e, g])⟩))
        rw [this]
        exact List.mem_append.2 (.inl (List.mem_map.2 ⟨w, hw, rfl⟩))
      | none =>
        have lst := chn_last h p p hp (Nat.le_refl _) r hu k
        rw [← he] at lst
        subst lst
        have : exC la lb (mkS [r, x]) r = mkS [x, la r, lb r] := exC_eq ee
        rw [this]
        exact List.mem_append.2 (.inr (mN k))
    · exact List.mem_append.2 (.inr (cN c hc r hr hi hl))
  rcases t_any In la lb e with t | t | ⟨i, y, t⟩
  · -- two inner ones
    refine build (PuM In la lb x (la e) (lb e) ++ (EuM In la lb x (la e) (lb e) ++ EuM In la lb x (lb e) (la e))) (PuM_all h t.1 t.2 hx nx) (PuM_clo h ae t.1 t.2 (.inl ⟨rfl, rfl⟩) hx nx) (fun _ => ?_)
    rw [show mkS [x, la e, lb e] = mkS [la e, lb e, x] from mkS_eq (fun y => by rw [m3l, m3l]; exact ⟨fun g => g.elim (fun g => .inr (.inr g)) (fun g => g.elim .inl (fun g => .inr (.inl g))), fun g => g.elim (fun g => .inr (.inl g)) (fun g => g.elim (fun g => .inr (.inr g)) .inl)⟩)]
    exact List.mem_append.2 (.inl (PuM_mem chn_1 chn_1))
  · refine build [mkS [x, la e, lb e]] (by show 1 ≤ 49; omega) (fun c hc r hr hi _ => ?_) (fun _ => .head _)
    exfalso
    rcases List.mem_cons.1 hc with g | g
    · subst g
      rcases m3.1 hr with g | g | g
      · exact nx (by rw [← g]; exact hi)
      · exact t.1 (by rw [← g]; exact hi)
      · exact t.2 (by rw [← g]; exact hi)
    · exact (nomatch g)
  · have wy := (tIL_wd h ae t).1
    by_cases yx : y = x
    · subst yx
      refine build [] (Nat.zero_le _) (fun c hc => (nomatch hc)) (fun k => ?_)
      rw [tIL_nx t] at k; cases k
    · refine build (CuM In la lb x y i) (by have := CuM_len h hx wy nx t.2.1 t.1; omega) (CuM_clo h nx t.2.1 (fun g => yx g.symm) t.1) (fun _ => ?_)
      have : mkS [x, la e, lb e] = mkS [i, x, y] := mkS_eq (fun s => by
        rw [m3l, m3l]
        rcases t.2.2 with ⟨a, b⟩ | ⟨a, b⟩ <;> rw [a, b]
        · exact ⟨fun g => g.elim (fun g => .inr (.inl g)) (fun g => g.elim .inl (fun g => .inr (.inr g))), fun g => g.elim (fun g => .inr (.inl g)) (fun g => g.elim .inl (fun g => .inr (.inr g)))⟩
        · exact ⟨fun g => g.elim (fun g => .inr (.inl g)) (fun g => g.elim (fun g => .inr (.inr g)) .inl), fun g => g.elim (fun g => .inr (.inr g)) (fun g => g.elim .inl (fun g => .inr (.inl g)))⟩)
      rw [this]; exact CuM_mem chn_1
/-- two inner nodes -/
theorem two_cover (h : TG In And Wd la lb pa pb val P) (hn : And n) (hp : In p) (hq : In q) (pq : (la n = p ∧ lb n = q) ∨ (la n = q ∧ lb n = p)) : ∃ M : List (List Nat), M.length ≤ 63 ∧ mkS [p, q] ∈ M ∧ clo In la lb M := by
  have bn := h.2.1 n hn
  have ap := h.1 p hp
  have aq := h.1 q hq
  have bp := h.2.1 p ap
  have bq := h.2.1 q aq
  have pq' : (la n = q ∧ lb n = p) ∨ (la n = p ∧ lb n = q) := pq.symm
  have ne : q ≠ p := by
    rcases pq with ⟨a, b⟩ | ⟨a, b⟩
    · exact fun e => bn.2.2.1 (by rw [a, b, e])
    · exact fun e => bn.2.2.1 (by rw [a, b, e])
  have fin : ∀ M : List (List Nat), M.length ≤ 62 → clo In la lb M → XT In la lb p q M → XT In la lb q p M → ∃ M : List (List Nat), M.length ≤ 63 ∧ mkS [p, q] ∈ M ∧ clo In la lb M := fun M l c a b => ⟨mkS [p, q] :: M, by show M.length + 1 ≤ 63; omega, .head _, two_clo c a b⟩
  -- the parts of one side
  have tr : ∀ p q, In p → In q → ((la n = p ∧ lb n = q) ∨ (la n = q ∧ lb n = p)) → q ≠ p → tII In la lb p → ∃ M : List (List Nat), M.length ≤ 1 ∧ clo In la lb M ∧ XT In la lb p q M := fun p q hp hq pq ne t => ⟨[mkS [q, la p, lb p]], Nat.le_refl _, trip_clo h hn hp hq pq t, fun _ => by rw [ex_two ne]; exact .head _⟩
  have ll : ∀ p q, In p → In q → q ≠ p → tLL In la lb p → ∃ M : List (List Nat), M.length ≤ 20 ∧ clo In la lb M ∧ XT In la lb p q M := fun p q hp hq ne t => by
    have bp := h.2.1 p (h.1 p hp)
    exact ⟨CuM In la lb (la p) (lb p) q, CuM_len h bp.2.2.2.1 bp.2.2.2.2.1 t.1 t.2 hq, CuM_clo h t.1 t.2 bp.2.2.1 hq, fun _ => by rw [ex_two ne]; exact CuM_mem chn_1⟩
  have il : ∀ p q i x, In p → In q → q ≠ p → tIL In la lb p i x → XT In la lb p q (PuM In la lb x p q ++ (EuM In la lb x p q ++ EuM In la lb x q p)) := fun p q i x hp hq ne t _ => by
    rw [ex_IL t hp ne]
    exact List.mem_append.2 (.inl (PuM_mem (chn_next h p p hp (Nat.le_refl _) p chn_1 i (tIL_nx t)) chn_1))
  have join : ∀ M N : List (List Nat), M.length + N.length ≤ 62 → clo In la lb M → clo In la lb N → XT In la lb p q M → XT In la lb q p N → ∃ M : List (List Nat), M.length ≤ 63 ∧ mkS [p, q] ∈ M ∧ clo In la lb M := fun M N l a b c d => fin (M ++ N) (by rw [List.length_append]; exact l) (clo_app a b) (fun g => List.mem_append.2 (.inl (c g))) (fun g => List.mem_append.2 (.inr (d g)))
  -- a leaf x of p's own, and q of two leaves
  have emLL : ∀ p q x, In p → In q → q ≠ p → tLL In la lb q → XT In la lb q p (PuM In la lb x p q ++ (EuM In la lb x p q ++ EuM In la lb x q p)) := fun p q x hp hq ne t _ => by
    rw [ex_two (fun e => ne e.symm)]
    refine List.mem_append.2 (.inr (List.mem_append.2 (.inl ?_)))
    unfold EuM
    rw [chn_none (tLL_no t)]
    show _ ∈ cG (¬ In (la q) ∧ ¬ In (lb q)) (CuM In la lb (la q) (lb q) p) []
    rw [cG_t (show ¬ In (la q) ∧ ¬ In (lb q) from t)]
    exact CuM_mem chn_1
  -- lengths when q's own leaf is another one
  have shortL : ∀ p q j x y, In p → In q → Wd x → ¬ In x → tIL In la lb q j y → x ≠ y → (PuM In la lb x p q ++ (EuM In la lb x p q ++ EuM In la lb x q p)).length ≤ 23 := fun p q j x y hp hq hx nx t ne' => by
    have cq := chn_none (tIL_no t ne' nx) q
    have a := chn_len1 h hx nx (f := p) hp
    have e2 := EuM_len (x := x) h hq hp
    have e1 : (EuM In la lb x p q) = [] := by
      unfold EuM
      rw [cq]
      show cG (¬ In (la q) ∧ ¬ In (lb q)) _ [] = []
      refine cG_f (fun g => ?_)
      rcases t.2.2 with ⟨a, b⟩ | ⟨a, b⟩
      · exact g.1 (by rw [a]; exact t.1)
      · exact g.2 (by rw [b]; exact t.1)
    rw [List.length_append, List.length_append, PuM_len, cq, e1]
    show _ * 1 + (0 + _) ≤ 23
    omega
  -- the mirror
  have PMs : ∀ x p q c, c ∈ PuM In la lb x p q → c ∈ PuM In la lb x q p := fun x p q c hc => by
    obtain ⟨u, v, hu, hv, rfl⟩ := PuM_inv hc
    rw [show mkS [u, v, x] = mkS [v, u, x] from mkS_eq (fun y => by rw [m3l, m3l]; exact ⟨fun g => g.elim (fun g => .inr (.inl g)) (fun g => g.elim .inl (fun g => .inr (.inr g))), fun g => g.elim (fun g => .inr (.inl g)) (fun g => g.elim .inl (fun g => .inr (.inr g)))⟩)]
    exact PuM_mem hv hu
  have ALs : ∀ x p q c, c ∈ PuM In la lb x p q ++ (EuM In la lb x p q ++ EuM In la lb x q p) → c ∈ PuM In la lb x q p ++ (EuM In la lb x q p ++ EuM In la lb x p q) := fun x p q c hc => by
    rcases List.mem_append.1 hc with hc | hc
    · exact List.mem_append.2 (.inl (PMs x p q c hc))
    · rcases List.mem_append.1 hc with hc | hc
      · exact List.mem_append.2 (.inr (List.mem_append.2 (.inr hc)))
      · exact List.mem_append.2 (.inr (List.mem_append.2 (.inl hc)))
  rcases t_any In la lb p with t | t | ⟨i, x, t⟩ <;> rcases t_any In la lb q with t' | t' | ⟨j, y, t'⟩
  · obtain ⟨M, a1, a2, a3⟩ := tr p q hp hq pq ne t
    obtain ⟨N, b1, b2, b3⟩ := tr q p hq hp pq' (fun e => ne e.symm) t'
    exact join M N (by omega) a2 b2 a3 b3
  · obtain ⟨M, a1, a2, a3⟩ := tr p q hp hq pq ne t
    obtain ⟨N, b1, b2, b3⟩ := ll q p hq hp (fun e => ne e.symm) t'
    exact join M N (by omega) a2 b2 a3 b3
  · obtain ⟨M, a1, a2, a3⟩ := tr p q hp hq pq ne t
    have wy := (tIL_wd h aq t').1
    exact join M _ (by have := PuM_all h hq hp wy t'.2.1; omega) a2 (PuM_clo h hn hq hp pq' wy t'.2.1) a3 (il q p j y hq hp (fun e => ne e.symm) t')
  · obtain ⟨M, a1, a2, a3⟩ := ll p q hp hq ne t
    obtain ⟨N, b1, b2, b3⟩ := tr q p hq hp pq' (fun e => ne e.symm) t'
    exact join M N (by omega) a2 b2 a3 b3
  · obtain ⟨M, a1, a2, a3⟩ := ll p q hp hq ne t
    obtain ⟨N, b1, b2, b3⟩ := ll q p hq hp (fun e => ne e.symm) t'
    exact join M N (by omega) a2 b2 a3 b3
  · have wy := (tIL_wd h aq t').1
    exact fin (PuM In la lb y q p ++ (EuM In la lb y q p ++ EuM In la lb y p q)) (by have := PuM_all h hq hp wy t'.2.1; omega) (PuM_clo h hn hq hp pq' wy t'.2.1) (emLL q p y hq hp (fun e => ne e.symm) t) (il q p j y hq hp (fun e => ne e.symm) t')
  · have wx := (tIL_wd h ap t).1
    obtain ⟨N, b1, b2, b3⟩ := tr q p hq hp pq' (fun e => ne e.symm) t'
    exact join _ N (by have := PuM_all h hp hq wx t.2.1; omega) (PuM_clo h hn hp hq pq wx t.2.1) b2 (il p q i x hp hq ne t) b3
  · have wx := (tIL_wd h ap t).1
    exact fin (PuM In la lb x p q ++ (EuM In la lb x p q ++ EuM In la lb x q p)) (by have := PuM_all h hp hq wx t.2.1; omega) (PuM_clo h hn hp hq pq wx t.2.1) (il p q i x hp hq ne t) (emLL p q x hp hq ne t')
  · have wx := (tIL_wd h ap t).1
    have wy := (tIL_wd h aq t').1
    by_cases xy : x = y
    · subst xy
      exact fin (PuM In la lb x p q ++ (EuM In la lb x p q ++ EuM In la lb x q p)) (by have := PuM_all h hp hq wx t.2.1; omega) (PuM_clo h hn hp hq pq wx t.2.1) (il p q i x hp hq ne t) (fun g => ALs x q p _ (il q p j x hq hp (fun e => ne e.symm) t' g))
    · have s1 := shortL p q j x y hp hq wx t.2.1 t' xy
      have s2 := shortL q p i y x hq hp wy t'.2.1 t (fun e => xy e.symm)
      exact join _ _ (by omega) (PuM_clo h hn hp hq pq wx t.2.1) (PuM_clo h hn hq hp pq' wy t'.2.1) (il p q i x hp hq ne t) (il q p j y hq hp (fun e => ne e.symm) t')
/-- a list of all cuts of a node -/
theorem cover (h : TG In And Wd la lb pa pb val P) (hn : And n) : ∃ M : List (List Nat), M.length ≤ 63 ∧ mkS [la n, lb n] ∈ M ∧ clo In la lb M := by
  have bn := h.2.1 n hn
  by_cases a : In (la n) <;> by_cases b : In (lb n)
  · exact two_cover h hn a b (.inl ⟨rfl, rfl⟩)
  · obtain ⟨M, m1, m2, m3⟩ := one_cover h a bn.2.2.2.2.1 b
    exact ⟨M, by omega, m2, m3⟩
  · obtain ⟨M, m1, m2, m3⟩ := one_cover h b bn.2.2.2.1 a
    refine ⟨M, by omega, ?_, m3⟩
    rw [show mkS [la n, lb n] = mkS [lb n, la n] from mkS_eq (fun y => by simp only [List.mem_cons, List.not_mem_nil, or_false]; exact Or.comm)]
    exact m2
  · refine ⟨[mkS [la n, lb n]], by show 1 ≤ 63; omega, .head _, fun c hc r hr hi _ => ?_⟩
    exfalso
    rcases List.mem_cons.1 hc with g | g
    · subst g
      rcases m2.1 hr with g | g
      · exact a (by rw [← g]; exact hi)
      · exact b (by rw [← g]; exact hi)
    · exact (nomatch g)
end COUNT
