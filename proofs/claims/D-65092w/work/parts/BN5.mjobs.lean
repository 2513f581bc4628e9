/-! the reference's jobs: the steps -/
def PJb (a i : Nat) : Prop := (a = 2000 ∧ (i = 129 ∨ i = 134 ∨ i = 137)) ∨ (2099 ≤ a ∧ a ≤ 2104)
def MKg (z : Sto) (G : Dsg) (B : Lib) (d l : Nat) : Prop := MGx z d G ∧ MLx z l B ∧ MRo z G ∧ MWz z G B (gNo G)
def MSg (z : Sto) (G : Dsg) (B : Lib) (s : MkS) : Prop := gI z 2000 129 = (s.1.length : Int) ∧ (∀ i, i < s.1.length → gI z 2099 i = (s.1.getD i (0, 0, 0, 0)).1 ∧ gI z 2100 (3 * i) = (s.1.getD i (0, 0, 0, 0)).2.1 ∧ gI z 2100 (3 * i + 1) = (s.1.getD i (0, 0, 0, 0)).2.2.1 ∧ gI z 2100 (3 * i + 2) = (s.1.getD i (0, 0, 0, 0)).2.2.2) ∧ (∀ n, gFi G ≤ n → n < gNo G → gI z 2101 (2 * n) = s.2 n 0 ∧ gI z 2101 (2 * n + 1) = s.2 n 1) ∧ ∀ n, n < gNo G → gI z 2102 n = s.2 n 2
def jbC (p : Nat × Nat) : Nat := if p.2 = 2 then p.1 else 2 * p.1 + p.2
def jbK (p : Nat × Nat) : Nat := if p.2 = 2 then 1 else 0
def stkD (z : Sto) : List (Nat × Nat) → Prop
  | [] => True
  | p :: L => gI z 2103 L.length = (jbC p : Int) ∧ gI z 2104 L.length = (jbK p : Int) ∧ stkD z L
def MSk (z : Sto) (L : List (Nat × Nat)) : Prop := gI z 2000 137 = (L.length : Int) ∧ stkD z L
section MJOBS
variable {S z : Sto} {G : Dsg} {B : Lib} {d n i k l m o tu x t b f p : Nat} {s s1 : MkS} {L : List (Nat × Nat)}
theorem MKg.cw (w : WFG G) (wl : WFL B) (hl : l < 3) (h : MKg S G B d l) (g : ChW PJb S z) : MKg z G B d l := by
  obtain ⟨h1, h2, h3, h4⟩ := h
  have o : ∀ a i, ¬ PJb a i → gI z a i = gI S a i := g.1
  exact ⟨h1.cw w g (fun a i e => by unfold PJb at e; omega), h2.cw wl hl g (fun a i e => by unfold PJb at e; omega), fun n q1 q2 => (o _ _ (fun q => by unfold PJb at q; omega)).trans (h3 n q1 q2), h4.cw w wl g (fun a i e => .inr (by unfold PJb at e; omega))⟩
theorem stkD.mv : ∀ {L : List (Nat × Nat)}, stkD S L → (∀ i, i < L.length → gI z 2103 i = gI S 2103 i ∧ gI z 2104 i = gI S 2104 i) → stkD z L := by
  intro L
  induction L with
  | nil => exact fun _ _ => trivial
  | cons p L ih =>
    intro h e
    have e0 := e L.length (Nat.lt_succ_self _)
    exact ⟨e0.1.trans h.1, e0.2.trans h.2.1, ih h.2.2 (fun i hi => e i (Nat.lt_succ_of_lt hi))⟩
theorem m_leafNet (w : WFG G) (hM : MKg S G B d l) (hd : d < 6) (hs : MSg S G B s) (hx : WdG G x) : mX23_leafNet S (x : Int) = some (if gFi G ≤ x then s.2 x 0 else (x : Int) - 1) := by
  have hno := no_le w
  have xl := Wt_lt w hx.1
  have nn := w.nums
  have e3 := hM.1.2.1.2.2.2.2.1
  have wi := w.i
  have ws := w.s
  unfold mX23_leafNet
  rw [hM.1.1, rdI_e (by omega), Int.toNat_natCast, e3, w32_id (x := (x : Int)) (by omega), w32_id (by omega)]
  have e13 : gFi G = 1 + gIn G + gSt G := rfl
  by_cases g : gFi G ≤ x
  · rw [if_neg (by omega), rdI_e (by omega), show (2 * (x : Int)).toNat = 2 * x by omega, (hs.2.2.1 x g xl).1, bX_some, if_pos g]
  · rw [if_pos (by omega), bX_some, if_neg g]
theorem m_isLeaf (w : WFG G) (hM : MKg S G B d l) (hd : d < 6) (hx : WdG G x) : mX23_isLeaf S (x : Int) = some (cI (InG G x) 0 1) := by
  unfold mX23_isLeaf
  rw [m_isInner hM.1 w hd hM.2.2.1 hx.1, bX_some]
  by_cases q : InG G x
  · rw [cI_t q, cI_t q]; rfl
  · rw [cI_f q, cI_f q]; rfl
theorem m_netOfInput (w : WFG G) (hM : MKg S G B d l) (hd : d < 6) (hs : MSg S G B s) (hx : WdG G x) (ht : t < 2) : mX23_netOfInput S (x : Int) (t : Int) = some (inN G s x t) := by
  have hno := no_le w
  have xl := Wt_lt w hx.1
  unfold mX23_netOfInput inN
  rw [m_isLeaf w hM hd hx, bX_some]
  have z2 : (2 * (x : Int) + (t : Int)).toNat = 2 * x + t := by omega
  by_cases q : InG G x
  · have e := hs.2.2.1 x q.1 xl
    rw [cI_t q, if_pos (by decide), rdI_e (by omega), z2, bX_some, cG_t q]
    rcases (show t = 0 ∨ t = 1 by omega) with rfl | rfl
    · exact congrArg some e.1
    · exact congrArg some e.2
  · rw [cI_f q, if_neg (by decide), cG_f q, w32_id (by omega)]
    by_cases g : t = 0
    · rw [if_pos (by omega), m_leafNet w hM hd hs hx, bX_some, bX_some, if_pos g]
    · rw [if_neg (by omega), rdI_e (by omega), Int.toNat_natCast, bX_some, if_neg g, hs.2.2.2 x xl]
theorem m_job (h : MSk S L) (hL : L.length < 5000) (hc : jbC (n, k) < 5000) {ki co : Int} (e1 : ki = (jbK (n, k) : Int)) (e2 : co = (jbC (n, k) : Int)) : WP (mX23_job S ki co) (fun z => MSk z ((n, k) :: L) ∧ ChW (fun a i => (a = 2000 ∧ i = 137) ∨ 2103 ≤ a ∧ a ≤ 2104) S z) := by
  have kb : jbK (n, k) ≤ 1 := by unfold jbK; split <;> omega
  unfold mX23_job
  rw [h.1, wrI_e (by omega), Int.toNat_natCast, hI_sI_a (show (2000 : Nat) ≠ 2103 by omega), h.1, wrI_e (by omega), Int.toNat_natCast, wf_eq]
  refine WP_some.2 ⟨⟨?_, ?_, ?_, ?_⟩, ((ChW.refl.sI (.inr (by omega))).sI (.inr (by omega))).sI (.inl ⟨rfl, rfl⟩)⟩
  · rw [gI_set, hI_sI_a (by omega), hI_sI_a (by omega), h.1, w32_id (by omega)]
    show _ = ((L.length + 1 : Nat) : Int)
    omega
  · rw [hI_sI_a (by omega), hI_sI_a (by omega), gI_set, e2, w32_id (by omega)]
  · rw [hI_sI_a (by omega), gI_set, e1, w32_id (by omega)]
  · refine h.2.mv (fun i hi => ⟨?_, ?_⟩)
    · rw [hI_sI_a (by omega), hI_sI_a (by omega), hI_sI_i (by omega)]
    · rw [hI_sI_a (by omega), hI_sI_i (by omega), hI_sI_a (by omega)]
theorem m_make (w : WFG G) (hM : MKg S G B d l) (hd : d < 6) (hs : MSg S G B s) (hl : s.1.length < 5000) {p1 p2 p3 p4 : Int} (r1 : -2147483648 ≤ p1 ∧ p1 < 2147483648) (r2 : -2147483648 ≤ p2 ∧ p2 < 2147483648) (r3 : -2147483648 ≤ p3 ∧ p3 < 2147483648) (r4 : -2147483648 ≤ p4 ∧ p4 < 2147483648) :
    WP (mX23_make S p1 p2 p3 p4) (fun y => y.1 = (gFi G : Int) - 1 + (s.1.length : Int) ∧ MSg y.2 G B (s.1 ++ [(p1, p2, p3, p4)], s.2) ∧ ChW (fun a i => (a = 2000 ∧ i = 129) ∨ 2099 ≤ a ∧ a ≤ 2100) S y.2) := by
  obtain ⟨g1, g2, g3, g4⟩ := hs
  obtain ⟨q, hle⟩ : ∃ l, l = s.1.length := ⟨_, rfl⟩
  rw [← hle] at g1 g2 hl ⊢
  have z0 : (3 * (q : Int)).toNat = 3 * q := by omega
  have z1 : (3 * (q : Int) + 1).toNat = 3 * q + 1 := by omega
  have z2 : (3 * (q : Int) + 2).toNat = 3 * q + 2 := by omega
  unfold mX23_make
  have f9 : ∀ {T : Sto} {a i v}, a ≠ 2000 → gI (sI T a i v) 2000 129 = gI T 2000 129 := fun {T a i v} h => hI_sI_a (by omega)
  rw [g1, wrI_e (by omega), Int.toNat_natCast, f9 (by omega), g1, wrI_e (by omega), z0, f9 (by omega), f9 (by omega), g1, wrI_e (by omega), z1, f9 (by omega), f9 (by omega), f9 (by omega), g1, wrI_e (by omega), z2, f9 (by omega), f9 (by omega), f9 (by omega), f9 (by omega), g1, wf_eq]
  obtain ⟨Y, hY⟩ : ∃ Y, Y = sI (sI (sI (sI (sI S 2099 q p1) 2100 (3 * q) p2) 2100 (3 * q + 1) p3) 2100 (3 * q + 2) p4) 2000 129 ((q : Int) + 1) := ⟨_, rfl⟩
  rw [← hY]
  have cY : ChW (fun a i => (a = 2000 ∧ i = 129) ∨ 2099 ≤ a ∧ a ≤ 2100) S Y := by
    rw [hY]
    exact ((((ChW.refl.sI (.inr (by omega))).sI (.inr (by omega))).sI (.inr (by omega))).sI (.inr (by omega))).sI (.inl ⟨rfl, rfl⟩)
  have y6 : gI Y 2000 129 = (q : Int) + 1 := by rw [hY, gI_set, w32_id (by omega)]
  have yc : ∀ j, gI Y 2099 j = if j = q then p1 else gI S 2099 j := fun j => by
    rw [hY, hI_sI_a (by omega), hI_sI_a (by omega), hI_sI_a (by omega), hI_sI_a (by omega)]
    by_cases g : j = q
    · rw [g, gI_set, if_pos rfl, w32_id r1]
    · rw [hI_sI_i g, if_neg g]
  have yn : ∀ j, j < 3 * q → gI Y 2100 j = gI S 2100 j := fun j hj => by
    rw [hY, hI_sI_a (by omega), hI_sI_i (by omega), hI_sI_i (by omega), hI_sI_i (by omega), hI_sI_a (by omega)]
  have yn2 : gI Y 2100 (3 * q + 2) = p4 := by rw [hY, hI_sI_a (by omega), gI_set, w32_id r4]
  have yn1 : gI Y 2100 (3 * q + 1) = p3 := by rw [hY, hI_sI_a (by omega), hI_sI_i (by omega), gI_set, w32_id r3]
  have yn0 : gI Y 2100 (3 * q) = p2 := by rw [hY, hI_sI_a (by omega), hI_sI_i (by omega), hI_sI_i (by omega), gI_set, w32_id r2]
  have MY : MGx Y d G := hM.1.cw w cY (fun a i e => by omega)
  have a0 := MY.2.1.1
  have a1 := MY.2.1.2.1
  rw [w.i] at a0
  rw [w.s] at a1
  unfold mX23_sources
  rw [MY.1, rdI_e (by omega), Int.toNat_natCast, a0, rdI_e (by omega), Int.toNat_natCast, a1, bX_some, y6]
  have ll : (s.1 ++ [(p1, p2, p3, p4)]).length = q + 1 := by rw [List.length_append, ← hle]; rfl
  refine WP_some.2 ⟨by dsimp only; unfold gFi; omega, ⟨?_, fun i hi => ?_, fun n q1 q2 => ?_, fun n q1 => ?_⟩, cY⟩
  · dsimp only; rw [ll, y6]; omega
  · dsimp only at hi ⊢
    rw [ll] at hi
    by_cases g : i = q
    · subst g
      have e : (s.1 ++ [(p1, p2, p3, p4)]).getD i (0, 0, 0, 0) = (p1, p2, p3, p4) := by
        rw [List.getD_eq_getElem?_getD, List.getElem?_append_right (by omega), hle, Nat.sub_self]; rfl
      rw [e, yc, if_pos rfl]
      exact ⟨rfl, yn0, yn1, yn2⟩
    · have e : (s.1 ++ [(p1, p2, p3, p4)]).getD i (0, 0, 0, 0) = s.1.getD i (0, 0, 0, 0) := by
        rw [List.getD_eq_getElem?_getD, List.getD_eq_getElem?_getD, List.getElem?_append_left (by omega)]
      have gi := g2 i (by omega)
      rw [e, yc, if_neg g, yn _ (by omega), yn _ (by omega), yn _ (by omega)]
      exact gi
  · have := g3 n q1 q2
    dsimp only
    rw [cY.1 _ _ (by omega), cY.1 _ _ (by omega)]
    exact this
  · dsimp only
    rw [cY.1 _ _ (by omega)]
    exact g4 n q1
theorem MSg_put {g : Int × Int × Int × Int} (hs : MSg S G B (s.1 ++ [g], s.2)) {v : Int} (ht : t < 2) (hv : v = (gFi G : Int) - 1 + (s.1.length : Int)) (hl : s.1.length < 5000) (h13 : gFi G ≤ 13) : MSg (sI S 2101 (2 * n + t) v) G B (mkA G s n t g) := by
  obtain ⟨h1, h2, h3, h4⟩ := hs
  have e : (mkA G s n t g).1 = s.1 ++ [g] := rfl
  refine ⟨?_, fun i hi => ?_, fun m q1 q2 => ?_, fun m hm => ?_⟩
  · rw [hI_sI_a (by omega), e]; exact h1
  · rw [hI_sI_a (by omega), hI_sI_a (by omega), hI_sI_a (by omega), hI_sI_a (by omega), e]; exact h2 i hi
  · obtain ⟨a, b⟩ := h3 m q1 q2
    have key : ∀ u, u < 2 → gI S 2101 (2 * m + u) = s.2 m u → gI (sI S 2101 (2 * n + t) v) 2101 (2 * m + u) = (mkA G s n t g).2 m u := fun u hu e => by
      by_cases q : m = n ∧ u = t
      · obtain ⟨rfl, rfl⟩ := q
        rw [gI_set, mkA_net, hv, w32_id (by unfold gFi at *; omega)]
      · rw [mkA_oth q, hI_sI_i (by omega)]; exact e
    exact ⟨key 0 (by omega) a, key 1 (by omega) b⟩
  · rw [hI_sI_a (by omega), mkA_oth (by omega)]; exact h4 m hm
theorem MSg_put2 {g : Int × Int × Int × Int} (hs : MSg S G B (s.1 ++ [g], s.2)) {v : Int} (hv : v = (gFi G : Int) - 1 + (s.1.length : Int)) (hl : s.1.length < 5000) (h13 : gFi G ≤ 13) : MSg (sI S 2102 n v) G B (mkA G s n 2 g) := by
  obtain ⟨h1, h2, h3, h4⟩ := hs
  have e : (mkA G s n 2 g).1 = s.1 ++ [g] := rfl
  refine ⟨?_, fun i hi => ?_, fun m q1 q2 => ?_, fun m hm => ?_⟩
  · rw [hI_sI_a (by omega), e]; exact h1
  · rw [hI_sI_a (by omega), hI_sI_a (by omega), hI_sI_a (by omega), hI_sI_a (by omega), e]; exact h2 i hi
  · obtain ⟨a, b⟩ := h3 m q1 q2
    exact ⟨by rw [hI_sI_a (by omega), mkA_oth (by omega)]; exact a, by rw [hI_sI_a (by omega), mkA_oth (by omega)]; exact b⟩
  · by_cases q : m = n
    · subst q
      rw [gI_set, mkA_net, hv, w32_id (by unfold gFi at *; omega)]
    · rw [mkA_oth (by omega), hI_sI_i q]; exact h4 m hm
end MJOBS
