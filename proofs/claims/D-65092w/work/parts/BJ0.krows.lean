/-! the class: rows of nets, how they go on -/
def Wk (C : Chp) : Nat → List Nat → Nat → Prop
  | s, [], a => s = a
  | s, x :: u, a => rdN C s x ∧ Wk C x u a
def Rw (C : Chp) (s a : Nat) (q : List Nat) : Prop := s < kB C ∧ ∃ u, q = s :: u ∧ Wk C s u a
def Rk (C : Chp) (y : List Nat × Int) : Prop := Rr C y ∧ (Vp C y.1 ∨ ∃ s a, Rw C s a y.1)
section ROWS
variable {C : Chp} {s a e n na : Nat} {p q r t : List Nat} {v : Int} {S z : Sto} {out : Nat → List Nat} {A : Nat → List Nat × Int} {Pd Pd' : List Nat → Prop}
theorem Wk_Tl (w : WFC C) : ∀ (u : List Nat) (s a : Nat), Wk C s u a → (Tl C e s (u ++ t) ↔ Tl C e a t) := by
  intro u
  induction u with
  | nil => intro s a h; have h : s = a := h; subst h; exact Iff.rfl
  | cons x u ih =>
    intro s a h
    obtain ⟨h1, h2⟩ : rdN C s x ∧ Wk C x u a := h
    have l := rdN_lt w h1
    have := kN_le w
    constructor
    · intro g
      rcases Tl_inv (show Tl C e s (x :: (u ++ t)) from g) with ⟨g, _⟩ | ⟨_, g⟩
      · omega
      · exact (ih x a h2).1 g
    · intro g
      exact Tl_go h1 ((ih x a h2).2 g)
theorem Wk_rng (w : WFC C) (wp : WFP C) : ∀ (u : List Nat) (s a : Nat), Wk C s u a → s < kN C → a < kN C ∧ u.length + s ≤ a ∧ (∀ y ∈ u, y < kN C) ∧ 0 ≤ tLen C u ∧ tLen C u ≤ 800 * (u.length : Int) := by
  intro u
  induction u with
  | nil => intro s a h hs; have h : s = a := h; subst h; exact ⟨hs, by show 0 + s ≤ s; omega, fun y hy => (nomatch hy), Int.le_refl 0, Int.le_refl 0⟩
  | cons x u ih =>
    intro s a h hs
    obtain ⟨h1, h2⟩ : rdN C s x ∧ Wk C x u a := h
    have l := rdN_lt w h1
    have := kN_le w
    have tm := kTime_rng w wp l.2.2
    obtain ⟨g1, g2, g3, g4, g5⟩ := ih x a h2 l.2.2
    refine ⟨g1, by show u.length + 1 + s ≤ a; omega, fun y hy => ?_, ?_⟩
    · rcases List.mem_cons.1 hy with rfl | hy
      · exact l.2.2
      · exact g3 y hy
    · rw [tLen_n (by omega)]
      show 0 ≤ _ ∧ _ ≤ 800 * ((u.length + 1 : Nat) : Int)
      omega
theorem Wk_snoc : ∀ (u : List Nat) (s a x : Nat), Wk C s u a → rdN C a x → Wk C s (u ++ [x]) x := by
  intro u
  induction u with
  | nil => intro s a x h g; have h : s = a := h; subst h; exact ⟨g, rfl⟩
  | cons y u ih => intro s a x h g; exact ⟨h.1, ih y a x h.2 g⟩
theorem Wk_last : ∀ (u : List Nat) (s a : Nat), Wk C s u a → (s :: u).getD ((s :: u).length - 1) 0 = a := by
  intro u
  induction u with
  | nil => intro s a h; exact h
  | cons y u ih => intro s a h; exact ih y a h.2
theorem Tl_last : ∀ (t : List Nat) (a s : Nat), Tl C e a t → (s :: t).getD ((s :: t).length - 1) 0 = 10000 + e := by
  intro t
  induction t with
  | nil => exact fun a s g => g.elim
  | cons x t ih =>
    intro a s g
    rcases g with ⟨g1, g2, _⟩ | ⟨_, g⟩
    · subst g2; exact g1
    · exact ih x x g
theorem getD_lt {l : List Nat} {b : Nat} (h : ∀ y ∈ l, y < b) (hb : 0 < b) (i : Nat) : l.getD i 0 < b := by
  by_cases q : i < l.length
  · rw [List.getD_eq_getElem?_getD, List.getElem?_eq_getElem q]
    exact h _ (List.getElem_mem q)
  · rw [List.getD_eq_getElem?_getD, List.getElem?_eq_none (by omega)]; exact hb
theorem Rw_cmp (w : WFC C) (h : Rw C s a q) : Cmp C q p ↔ ∃ t, p = q ++ t ∧ Tg C s a t := by
  obtain ⟨h1, u, rfl, h2⟩ := h
  constructor
  · rintro ⟨⟨s', t', e, rfl, g1, g2, g3, g4⟩, k, hk⟩
    have hk : s :: (u ++ k) = s' :: t' := hk
    injection hk with e1 e2
    subst e1 e2
    exact ⟨k, rfl, e, g2, g3, (Wk_Tl w u s a h2).1 g4⟩
  · rintro ⟨t, rfl, e, g2, g3, g4⟩
    exact ⟨⟨s, u ++ t, e, rfl, h1, g2, g3, (Wk_Tl w u s a h2).2 g4⟩, t, rfl⟩
theorem Rw_vp (w : WFC C) (h : Rw C s a q) : ¬ Vp C q := fun g => by
  obtain ⟨t, h1, e, _, _, h2⟩ := (Rw_cmp w h).1 (⟨g, List.prefix_rfl⟩ : Cmp C q q)
  have : t = [] := by
    have := congrArg List.length h1
    rw [List.length_append] at this
    exact List.eq_nil_of_length_eq_zero (by omega)
  subst this; exact h2
theorem Rw_ext (h : Rw C s a q) {x : Nat} (g : rdN C a x) : Rw C s x (q ++ [x]) := by
  obtain ⟨h1, u, rfl, h2⟩ := h
  exact ⟨h1, u ++ [x], rfl, Wk_snoc u s a x h2 g⟩
theorem Rw_rng (w : WFC C) (wp : WFP C) (h : Rw C s a q) : s < kB C ∧ a < kN C ∧ 1 ≤ q.length ∧ q.length ≤ 162 ∧ (∀ y ∈ q, y < kN C) ∧ 0 ≤ tLen C q ∧ tLen C q ≤ 130000 ∧ q.getD 0 0 = s ∧ q.getD (q.length - 1) 0 = a := by
  obtain ⟨h1, u, rfl, h2⟩ := h
  have hN := kN_le w
  have hn := w.nums
  have sN : s < kN C := by omega
  obtain ⟨g1, g2, g3, g4, g5⟩ := Wk_rng w wp u s a h2 sN
  have tm := kTime_rng w wp sN
  have ln : (s :: u).length = u.length + 1 := rfl
  refine ⟨h1, g1, by omega, by omega, fun y hy => ?_, ?_, ?_, rfl, Wk_last u s a h2⟩
  · rcases List.mem_cons.1 hy with rfl | hy
    · exact sN
    · exact g3 y hy
  · rw [tLen_n (by omega)]; omega
  · rw [tLen_n (by omega)]; omega
theorem Rw_x (w : WFC C) (h : Rw C s a q) {x : Nat} (g : Cmp C (q ++ [x]) p) : ∃ k, Tg C s a (x :: k) := by
  obtain ⟨g1, k, hk⟩ := g
  have e : q ++ (x :: k) = p := by rw [← hk, List.append_assoc]; rfl
  obtain ⟨t, h1, h2⟩ := (Rw_cmp w h).1 ⟨g1, x :: k, e⟩
  rw [← e] at h1
  have := List.append_cancel_left h1
  exact ⟨k, by rw [this]; exact h2⟩
theorem Rw_bd (w : WFC C) (h : Rw C s a q) (g : MxP C (Tg C s a) v) (hv : v ≠ -1) : Bd C q (tLen C q + v) := by
  rcases g with ⟨g, _⟩ | ⟨_, ⟨t, g1, g2⟩, g3⟩
  · exact absurd g hv
  · refine ⟨⟨q ++ t, (Rw_cmp w h).2 ⟨t, rfl, g1⟩, by rw [tLen_app, g2]⟩, fun c hc => ?_⟩
    obtain ⟨t', rfl, h2⟩ := (Rw_cmp w h).1 hc
    rw [tLen_app]; have := g3 t' h2; omega
theorem Rw_no (w : WFC C) (h : Rw C s a q) (g : MxP C (Tg C s a) (-1)) : ¬ ∃ p, Cmp C q p := by
  rintro ⟨p, hp⟩
  obtain ⟨t, _, ht⟩ := (Rw_cmp w h).1 hp
  rcases g with ⟨_, g⟩ | ⟨g, _⟩
  · exact g t ht
  · omega
theorem Rw_rk (w : WFC C) (wp : WFP C) (h : Rw C s a q) (hv : 0 ≤ v ∧ v < 1000000) : Rk C (q, v) := by
  have r := Rw_rng w wp h
  have := kN_le w
  exact ⟨⟨by show q.length ≤ 164; omega, fun i => getD_lt (fun y hy => by have := r.2.2.2.2.1 y hy; omega) (by omega) i, hv.1, hv.2, r.2.2.2.2.2.1, by have := r.2.2.2.2.2.2.1; show tLen C q < _; omega⟩, .inr ⟨s, a, h⟩⟩
/-- a row that has come to an end -/
theorem Rw_end (w : WFC C) (wp : WFP C) (h : Rw C s a q) (he : e < kO C + kR C) (hf : kFls C (s : Int) (e : Int) = false) (hE : kEnd C e = (a : Int)) : Vp C (q ++ [10000 + e]) ∧ Bd C (q ++ [10000 + e]) (tLen C q + moF C e) ∧ tLen C (q ++ [10000 + e]) = tLen C q + moF C e ∧ Rk C (q ++ [10000 + e], tLen C q + moF C e) := by
  have hn := w.nums
  have m := moF_rng (C := C) (e := e)
  have r := Rw_rng w wp h
  have hN := kN_le w
  have v : Vp C (q ++ [10000 + e]) := ((Rw_cmp w h).2 ⟨[10000 + e], rfl, e, he, hf, Tl_fin hE⟩).1
  have l : tLen C (q ++ [10000 + e]) = tLen C q + moF C e := by rw [tLen_app, tLen_e]
  have ll : (q ++ [10000 + e]).length = q.length + 1 := by rw [List.length_append]; rfl
  refine ⟨v, ⟨⟨_, ⟨v, List.prefix_rfl⟩, l⟩, fun c hc => ?_⟩, l, ⟨by show (q ++ [10000 + e]).length ≤ 164; omega, fun i => getD_lt (fun y hy => ?_) (by omega) i, ?_, ?_, ?_, ?_⟩, .inl v⟩
  · rw [Vp_pre w v hc, l]; exact Int.le_refl _
  · rcases List.mem_append.1 hy with hy | hy
    · have := r.2.2.2.2.1 y hy; omega
    · rcases List.mem_cons.1 hy with rfl | hy
      · omega
      · exact (nomatch hy)
  · show 0 ≤ tLen C q + moF C e; omega
  · show tLen C q + moF C e < _; omega
  · show 0 ≤ tLen C (q ++ [10000 + e]); omega
  · show tLen C (q ++ [10000 + e]) < _; omega
theorem Vp_last (h : Vp C p) : ∃ e, e < kO C + kR C ∧ p.getD (p.length - 1) 0 = 10000 + e := by
  obtain ⟨s, t, e, rfl, _, h2, _, h4⟩ := h
  exact ⟨e, h2, Tl_last t s s h4⟩
theorem Rw_one (h : s < kB C) : Rw C s s [s] := ⟨h, [], rfl, rfl⟩
/-- one more row is offered -/
theorem k_putP {G : List Nat × Int → Prop} (gr : ∀ y, G y → Rr C y) {x : List Nat × Int} (hq : KQu S C n na A) (qi : QIn C n out na A Pd) (hG : ∀ i, i < na → G (A i)) (hs : Spr S x.1) (Gx : G x) (bd : Bd C x.1 x.2) (pr : Pd x.1) (hP : ∀ u, Pd' u ↔ Pd u ∧ u ≠ x.1) {p1 p2 p3 : Int} (e1 : p1 = x.2) (e2 : p2 = tLen C x.1) (e3 : p3 = (x.1.length : Int)) :
    WP (mX17_offer S p1 p2 p3) (fun z => (∃ na' A', KQu z C n na' A' ∧ QIn C n out na' A' Pd' ∧ ∀ i, i < na' → G (A' i)) ∧ ChW PO S z) := by
  subst e1 e2 e3
  have q5 := qi.2.2.2.2.1
  refine (k_offer hq hs (gr x Gx) (fun i hi => gr _ (hG i hi)) qi.1 (fun i j h1 h2 => (q5.2 i j h1 h2).1) (qi.2.2.2.2.2.2.2.1 _ pr)).mono (fun z hz => ?_)
  obtain ⟨t, t1, t2, t3, t4⟩ := hz
  rcases t4 with ⟨t4, rfl⟩ | ⟨t4, t5, t6⟩
  · exact ⟨⟨na, A, hq, qi.dropX bd pr t1 t2 hP t4, hG⟩, ChW.refl⟩
  · refine ⟨⟨_, _, t5, qi.ins bd pr t1 t2 t3 hP t4 rfl, fun i hi => ?_⟩, t6⟩
    rcases qIns_mem (A := A) (x := x) (na := na) hi (by omega) t1 with ⟨j, j1, j2⟩ | j2
    · rw [j2]; exact hG j j1
    · rw [j2]; exact Gx
end ROWS
