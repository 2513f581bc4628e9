/-! trees of nodes that are not alike: chains; no program -/
def TG (In And Wd : Nat → Prop) (la lb : Nat → Nat) (pa pb : Nat → Bool) (val : Nat → Nat → Bool) (P : Nat) : Prop :=
  (∀ x, In x → And x) ∧ (∀ x, And x → la x < x ∧ lb x < x ∧ la x ≠ lb x ∧ Wd (la x) ∧ Wd (lb x) ∧ Wd x) ∧
  (∀ x, And x → ∀ p, p < P → val p x = ((val p (la x) ^^ pa x) && (val p (lb x) ^^ pb x))) ∧
  (∀ x m m', In x → And m → And m' → (x = la m ∨ x = lb m) → (x = la m' ∨ x = lb m') → m = m') ∧
  (∀ x y, Wd x → Wd y → x ≠ y → (∃ p, p < P ∧ val p x ≠ val p y) ∧ ∃ p, p < P ∧ val p x = val p y) ∧
  (∀ x, Wd x → (∃ p, p < P ∧ val p x = true) ∧ ∃ p, p < P ∧ val p x = false)
noncomputable def nxS (In Z : Nat → Prop) (la lb : Nat → Nat) (u : Nat) : Option Nat := cG (Z (la u) ∧ In (lb u)) (some (lb u)) (cG (Z (lb u) ∧ In (la u)) (some (la u)) none)
noncomputable def chn (In Z : Nat → Prop) (la lb : Nat → Nat) : Nat → Nat → List Nat
  | 0, u => [u]
  | f + 1, u => u :: (match nxS In Z la lb u with | none => [] | some v => chn In Z la lb f v)
def lstN : List Nat → Nat
  | [] => 0
  | [x] => x
  | _ :: y :: l => lstN (y :: l)
section CHAINS
variable {In And Wd Z : Nat → Prop} {la lb : Nat → Nat} {pa pb : Nat → Bool} {val : Nat → Nat → Bool} {P : Nat}
theorem nxS_some (h : TG In And Wd la lb pa pb val P) {u v : Nat} (hu : In u) (e : nxS In Z la lb u = some v) : In v ∧ v < u ∧ ∃ z, Z z ∧ ((la u = z ∧ lb u = v) ∨ (la u = v ∧ lb u = z)) := by
  have l := h.2.1 u (h.1 u hu)
  unfold nxS at e
  by_cases q : Z (la u) ∧ In (lb u)
  · rw [cG_t q] at e
    cases e
    exact ⟨q.2, l.2.1, _, q.1, .inl ⟨rfl, rfl⟩⟩
  · rw [cG_f q] at e
    by_cases q : Z (lb u) ∧ In (la u)
    · rw [cG_t q] at e
      cases e
      exact ⟨q.2, l.1, _, q.1, .inr ⟨rfl, rfl⟩⟩
    · rw [cG_f q] at e; cases e
theorem nxS_none {u : Nat} (e : nxS In Z la lb u = none) : ¬ (Z (la u) ∧ In (lb u)) ∧ ¬ (Z (lb u) ∧ In (la u)) := by
  unfold nxS at e
  by_cases q : Z (la u) ∧ In (lb u)
  · rw [cG_t q] at e; cases e
  · rw [cG_f q] at e
    by_cases q2 : Z (lb u) ∧ In (la u)
    · rw [cG_t q2] at e; cases e
    · exact ⟨q, q2⟩
theorem chn_1 {f u : Nat} : u ∈ chn In Z la lb f u := by cases f <;> exact .head _
theorem chn_in (h : TG In And Wd la lb pa pb val P) : ∀ (f u : Nat), In u → ∀ w ∈ chn In Z la lb f u, In w ∧ w ≤ u := by
  intro f
  induction f with
  | zero => intro u hu w hw; rcases List.mem_cons.1 hw with rfl | g; exact ⟨hu, Nat.le_refl _⟩; exact (nomatch g)
  | succ f ih =>
    intro u hu w hw
    rcases List.mem_cons.1 hw with rfl | g
    · exact ⟨hu, Nat.le_refl _⟩
    · cases e : nxS In Z la lb u with
      | none => rw [e] at g; exact (nomatch g)
      | some v =>
        rw [e] at g
        have k := nxS_some h hu e
        have := ih v k.1 w g
        exact ⟨this.1, by omega⟩
theorem chn_next (h : TG In And Wd la lb pa pb val P) : ∀ (f u : Nat), In u → u ≤ f → ∀ w ∈ chn In Z la lb f u, ∀ v, nxS In Z la lb w = some v → v ∈ chn In Z la lb f u := by
  intro f
  induction f with
  | zero =>
    intro u hu l w hw v e
    rcases List.mem_cons.1 hw with rfl | g
    · have := (nxS_some h hu e).2.1; omega
    · exact (nomatch g)
  | succ f ih =>
    intro u hu l w hw v e
    rcases List.mem_cons.1 hw with rfl | g
    · show v ∈ w :: _
      rw [e]; exact .tail _ chn_1
    · show v ∈ u :: _
      cases k : nxS In Z la lb u with
      | none => rw [k] at g; exact (nomatch g)
      | some v' =>
        rw [k] at g
        have k' := nxS_some h hu k
        exact .tail _ (ih v' k'.1 (by omega) w g v e)
theorem chn_last (h : TG In And Wd la lb pa pb val P) : ∀ (f u : Nat), In u → u ≤ f → ∀ w ∈ chn In Z la lb f u, nxS In Z la lb w = none → w = lstN (chn In Z la lb f u) := by
  intro f
  induction f with
  | zero =>
    intro u hu l w hw e
    rcases List.mem_cons.1 hw with rfl | g
    · rfl
    · exact (nomatch g)
  | succ f ih =>
    intro u hu l w hw e
    rcases List.mem_cons.1 hw with rfl | g
    · show w = lstN (w :: _)
      rw [e]; rfl
    · show w = lstN (u :: _)
      cases k : nxS In Z la lb u with
      | none => rw [k] at g; exact (nomatch g)
      | some v' =>
        rw [k] at g
        have k' := nxS_some h hu k
        have r := ih v' k'.1 (by omega) w g e
        show w = lstN (u :: chn In Z la lb f v')
        rw [r]
        cases f <;> rfl
theorem chn_lst_mem : ∀ (f u : Nat), lstN (chn In Z la lb f u) ∈ chn In Z la lb f u := by
  have key : ∀ l : List Nat, l ≠ [] → lstN l ∈ l := by
    intro l
    induction l with
    | nil => exact fun h => absurd rfl h
    | cons x l ih =>
      intro _
      cases l with
      | nil => exact .head _
      | cons y l => exact .tail _ (ih (fun h => by cases h))
  intro f u
  exact key _ (by cases f <;> exact fun h => by cases h)
theorem chn_nodup (h : TG In And Wd la lb pa pb val P) : ∀ (f u : Nat), In u → (chn In Z la lb f u).Nodup := by
  intro f
  induction f with
  | zero => intro u _; exact List.nodup_cons.2 ⟨fun g => (nomatch g), List.nodup_nil⟩
  | succ f ih =>
    intro u hu
    show (u :: _).Nodup
    cases k : nxS In Z la lb u with
    | none => exact List.nodup_cons.2 ⟨fun g => (nomatch g), List.nodup_nil⟩
    | some v =>
      have k' := nxS_some h hu k
      exact List.nodup_cons.2 ⟨fun g => by have := (chn_in h f v k'.1 u g).2; omega, ih v k'.1⟩
/-- the code of a node over a last node and two leaves -/
def Al8 (val : Nat → Nat → Bool) (P D x y u g : Nat) : Prop := (∀ p, p < P → val p u = ev8 g (val p D) (val p x) (val p y)) ∨ ∀ p, p < P → val p u = !(ev8 g (val p D) (val p x) (val p y))
theorem Al8_inj (h : TG In And Wd la lb pa pb val P) {D x y u v g : Nat} (hu : Wd u) (hv : Wd v) (a : Al8 val P D x y u g) (b : Al8 val P D x y v g) : u = v := by
  refine Classical.byContradiction (fun ne => ?_)
  obtain ⟨⟨p, p1, p2⟩, ⟨q, q1, q2⟩⟩ := h.2.2.2.2.1 u v hu hv ne
  rcases a with a | a <;> rcases b with b | b
  · rw [a p p1, b p p1] at p2; exact p2 rfl
  · rw [a q q1, b q q1] at q2
    generalize ev8 g (val q D) (val q x) (val q y) = b at q2
    cases b <;> cases q2
  · rw [a q q1, b q q1] at q2
    generalize ev8 g (val q D) (val q x) (val q y) = b at q2
    cases b <;> cases q2
  · rw [a p p1, b p p1] at p2; exact p2 rfl
theorem Al8_bad (h : TG In And Wd la lb pa pb val P) {D x y u g : Nat} (hu : Wd u) (hx : Wd x) (hy : Wd y) (ux : u ≠ x) (uy : u ≠ y) (a : ∀ p, p < P → val p u = ev8 g (val p D) (val p x) (val p y)) : g ∉ bad8 := fun hb => by
  obtain ⟨⟨p, p1, p2⟩, ⟨q, q1, q2⟩⟩ := h.2.2.2.2.2 u hu
  obtain ⟨⟨p', x1, x2⟩, ⟨q', x3, x4⟩⟩ := h.2.2.2.2.1 u x hu hx ux
  obtain ⟨⟨p'', y1, y2⟩, ⟨q'', y3, y4⟩⟩ := h.2.2.2.2.1 u y hu hy uy
  have e0 : ∀ d x y : Bool, ev8 0 d x y = false := by intro d x y; cases d <;> cases x <;> cases y <;> rfl
  have e1 : ∀ d x y : Bool, ev8 255 d x y = true := by intro d x y; cases d <;> cases x <;> cases y <;> rfl
  have e2 : ∀ d x y : Bool, ev8 204 d x y = x := by intro d x y; cases d <;> cases x <;> cases y <;> rfl
  have e3 : ∀ d x y : Bool, ev8 51 d x y = !x := by intro d x y; cases d <;> cases x <;> cases y <;> rfl
  have e4 : ∀ d x y : Bool, ev8 170 d x y = y := by intro d x y; cases d <;> cases x <;> cases y <;> rfl
  have e5 : ∀ d x y : Bool, ev8 85 d x y = !y := by intro d x y; cases d <;> cases x <;> cases y <;> rfl
  simp only [bad8, List.mem_cons, List.not_mem_nil, or_false] at hb
  rcases hb with rfl | rfl | rfl | rfl | rfl | rfl
  · rw [a p p1, e0] at p2; cases p2
  · rw [a q q1, e1] at q2; cases q2
  · exact x2 (by rw [a p' x1, e2])
  · rw [a q' x3, e3] at x4
    generalize val q' x = b at x4
    cases b <;> cases x4
  · exact y2 (by rw [a p'' y1, e4])
  · rw [a q'' y3, e5] at y4
    generalize val q'' y = b at y4
    cases b <;> cases y4
theorem Al8_ok (h : TG In And Wd la lb pa pb val P) {D x y u g : Nat} {Cl : List Nat} (hu : Wd u) (hx : Wd x) (hy : Wd y) (ux : u ≠ x) (uy : u ≠ y) (a : ∀ p, p < P → val p u = ev8 g (val p D) (val p x) (val p y)) (ok : ok8 Cl g = true) : ∃ k ∈ Cl, Al8 val P D x y u k := by
  unfold ok8 at ok
  rw [Bool.or_eq_true, Bool.or_eq_true] at ok
  rcases ok with (ok | ok) | ok
  · exact ⟨g, List.contains_iff_mem.1 ok, .inl a⟩
  · refine ⟨g ^^^ 255, List.contains_iff_mem.1 ok, .inr (fun p hp => ?_)⟩
    rw [ev8_not, a p hp, Bool.not_not]
  · exact absurd (List.contains_iff_mem.1 ok) (Al8_bad h hu hx hy ux uy a)
/-- a chain's codes -/
theorem chn_code (h : TG In And Wd la lb pa pb val P) {F : List (List Nat)} {Zs : List Bool} (hF : fam8 F Zs) {x y : Nat} (hx : Wd x) (hy : Wd y) (nx : ¬ In x) (ny : ¬ In y) (hZ : ∀ z, Z z → ∃ b ∈ Zs, z = if b = true then y else x) :
    ∀ (f u : Nat), In u → ∃ D l, chn In Z la lb f u = l ++ [D] ∧ (l = [] ∨ ∃ Cl ∈ F, ∀ w ∈ l, ∃ g ∈ Cl, Al8 val P D x y w g) := by
  have one : ∀ u v, In u → nxS In Z la lb u = some v → ∃ s t : Bool, ∃ z ∈ Zs, ∀ p, p < P → val p u = ((val p v ^^ s) && ((if z = true then val p y else val p x) ^^ t)) := fun u v hu e => by
    obtain ⟨_, _, z, hz, k⟩ := nxS_some h hu e
    obtain ⟨b, hb, ez⟩ := hZ z hz
    have vz : ∀ p, val p z = (if b = true then val p y else val p x) := fun p => by rw [ez]; cases b <;> rfl
    rcases k with ⟨k1, k2⟩ | ⟨k1, k2⟩
    · refine ⟨pb u, pa u, b, hb, fun p hp => ?_⟩
      rw [h.2.2.1 u (h.1 u hu) p hp, k1, k2, vz, Bool.and_comm]
    · refine ⟨pa u, pb u, b, hb, fun p hp => ?_⟩
      rw [h.2.2.1 u (h.1 u hu) p hp, k1, k2, vz]
  intro f
  induction f with
  | zero => intro u _; exact ⟨u, [], rfl, .inl rfl⟩
  | succ f ih =>
    intro u hu
    have wu := (h.2.1 u (h.1 u hu)).2.2.2.2.2
    have ux : u ≠ x := fun e => nx (by rw [← e]; exact hu)
    have uy : u ≠ y := fun e => ny (by rw [← e]; exact hu)
    show ∃ D l, u :: _ = l ++ [D] ∧ _
    cases e : nxS In Z la lb u with
    | none => exact ⟨u, [], rfl, .inl rfl⟩
    | some v =>
      have k := nxS_some h hu e
      obtain ⟨s, t, z, hz, hv⟩ := one u v hu e
      obtain ⟨D, l, h1, h2⟩ := ih v k.1
      have hd : ∃ r, l ++ [D] = v :: r := by rw [← h1]; cases f <;> exact ⟨_, rfl⟩
      refine ⟨D, u :: l, by show u :: chn In Z la lb f v = _; rw [h1]; rfl, .inr ?_⟩
      cases l with
      | nil =>
        obtain ⟨r, hr⟩ := hd
        have ev : v = D := by
          have hr : [D] = v :: r := hr
          injection hr with a _
          exact a.symm
        subst ev
        obtain ⟨Cl, c1, c2⟩ := hF.2.1 s z hz t
        refine ⟨Cl, c1, fun w hw => ?_⟩
        rcases List.mem_cons.1 hw with rfl | hw
        · refine Al8_ok h wu hx hy ux uy (fun p hp => ?_) c2
          rw [ev8_stp, hv p hp]
          have : ev8 240 (val p v) (val p x) (val p y) = val p v := by cases val p v <;> cases val p x <;> cases val p y <;> rfl
          rw [this]
        · exact (nomatch hw)
      | cons v' l' =>
        obtain ⟨r, hr⟩ := hd
        have ev : v' = v := by
          have hr : v' :: (l' ++ [D]) = v :: r := hr
          injection hr
        subst ev
        rcases h2 with h2 | ⟨Cl, c1, c2⟩
        · cases h2
        refine ⟨Cl, c1, fun w hw => ?_⟩
        rcases List.mem_cons.1 hw with rfl | hw
        · obtain ⟨g, g1, g2⟩ := c2 v' (.head _)
          have ok := hF.1 Cl c1 g g1
          rcases g2 with g2 | g2
          · refine Al8_ok h wu hx hy ux uy (fun p hp => ?_) (ok s z hz t).1
            rw [ev8_stp, hv p hp, g2 p hp]
          · refine Al8_ok h wu hx hy ux uy (fun p hp => ?_) (ok s z hz t).2
            rw [ev8_stp, hv p hp, g2 p hp, ev8_not]
        · exact c2 w hw
theorem chn_len (h : TG In And Wd la lb pa pb val P) {F : List (List Nat)} {Zs : List Bool} {N : Nat} (hF : fam8 F Zs) (hN : ∀ Cl ∈ F, Cl.length ≤ N) {x y : Nat} (hx : Wd x) (hy : Wd y) (nx : ¬ In x) (ny : ¬ In y) (hZ : ∀ z, Z z → ∃ b ∈ Zs, z = if b = true then y else x) {f u : Nat} (hu : In u) : (chn In Z la lb f u).length ≤ N + 1 := by
  obtain ⟨D, l, h1, h2⟩ := chn_code h hF hx hy nx ny hZ f u hu
  have nd := chn_nodup (Z := Z) h f u hu
  rw [h1, List.length_append]
  show l.length + 1 ≤ N + 1
  rcases h2 with h2 | ⟨Cl, c1, c2⟩
  · subst h2; exact Nat.succ_le_succ (Nat.zero_le _)
  · rw [h1] at nd
    have wd : ∀ w ∈ l, Wd w := fun w hw => (h.2.1 w (h.1 w (chn_in (Z := Z) h f u hu w (by rw [h1]; exact List.mem_append.2 (.inl hw))).1)).2.2.2.2.2
    have := pig (Al8 val P D x y) l Cl (List.nodup_append.1 nd).1 c2 (fun u hu v hv g a b => Al8_inj h (wd u hu) (wd v hv) a b)
    have := hN Cl c1
    omega
theorem chn_len2 (h : TG In And Wd la lb pa pb val P) {x y : Nat} (hx : Wd x) (hy : Wd y) (nx : ¬ In x) (ny : ¬ In y) {f u : Nat} (hu : In u) : (chn In (fun z => z = x ∨ z = y) la lb f u).length ≤ 19 :=
  chn_len h fam_xy (N := 18) (by decide +kernel) hx hy nx ny (fun z hz => hz.elim (fun e => ⟨false, .head _, e⟩) (fun e => ⟨true, .tail _ (.head _), e⟩)) hu
theorem chn_len1 (h : TG In And Wd la lb pa pb val P) {x : Nat} (hx : Wd x) (nx : ¬ In x) {f u : Nat} (hu : In u) : (chn In (fun z => z = x) la lb f u).length ≤ 3 :=
  chn_len h fam_x (N := 2) (by decide +kernel) hx hx nx nx (fun z e => ⟨false, .head _, e⟩) hu
end CHAINS
