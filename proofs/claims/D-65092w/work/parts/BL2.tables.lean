/-! what a node tells of a cut; no program -/
def stg {α : Type} (d : α) (f : Nat → (Nat → α) → α) : Nat → Nat → α
  | 0, _ => d
  | k + 1, n => if n = k then f k (stg d f k) else stg d f k n
theorem stg_lt {α : Type} {d : α} {f : Nat → (Nat → α) → α} : ∀ k n, n < k → stg d f k n = f n (stg d f n) := by
  intro k
  induction k with
  | zero => intro n h; exact absurd h (Nat.not_lt_zero _)
  | succ k ih =>
    intro n h
    show (if n = k then f k (stg d f k) else stg d f k n) = _
    by_cases e : n = k
    · rw [if_pos e, e]
    · rw [if_neg e]; exact ih n (by omega)
/-- the value of a strong recursion -/
theorem stg_eq {α : Type} {d : α} {f : Nat → (Nat → α) → α} {n k : Nat} (h : n < k) : stg d f k n = stg d f (n + 1) n := by rw [stg_lt k n h, stg_lt (n + 1) n (by omega)]
def pat8 (i : Nat) : Nat := if i = 0 then 170 else if i = 1 then 204 else 240
def plc (x : Nat) : List Nat → Nat
  | [] => 0
  | y :: l => if x = y then 0 else plc x l + 1
def xr8 (t b : Nat) : Nat := if b = 1 then t ^^^ 255 else t
noncomputable def tbF (G : Dsg) (c : List Nat) (x : Nat) (v : Nat → Nat) : Nat := if x ∈ c then pat8 (plc x c) else xr8 (v (aN' G x)) (lA G x % 2) &&& xr8 (v (bN' G x)) (lB G x % 2)
noncomputable def tbT (G : Dsg) (c : List Nat) (x : Nat) : Nat := stg 0 (tbF G c) (x + 1) x
def cvF (G : Dsg) (c : List Nat) (x : Nat) (v : Nat → Prop) : Prop := x ∈ c ∨ (AndG G x ∧ v (aN' G x) ∧ v (bN' G x))
def Cv (G : Dsg) (c : List Nat) (x : Nat) : Prop := stg False (cvF G c) (x + 1) x
/-- below a node: its sides are covered -/
def Cb (G : Dsg) (c : List Nat) (x : Nat) : Prop := AndG G x ∧ Cv G c (aN' G x) ∧ Cv G c (bN' G x)
section TABLES
variable {G : Dsg} {c : List Nat} {x y n : Nat}
theorem xr8_lt {t b : Nat} (h : t < 256) : xr8 t b < 256 := by
  unfold xr8
  by_cases q : b = 1
  · rw [if_pos q]; exact Nat.xor_lt_two_pow (n := 8) h (by omega)
  · rw [if_neg q]; exact h
theorem pat8_lt {i : Nat} : pat8 i < 256 := by unfold pat8; split <;> (try split) <;> omega
theorem tbT_in (h : x ∈ c) : tbT G c x = pat8 (plc x c) := by
  unfold tbT
  rw [stg_lt _ _ (Nat.lt_succ_self x)]
  unfold tbF
  rw [if_pos h]
theorem tbT_and (w : WFG G) (h : ¬ x ∈ c) (a : AndG G x) : tbT G c x = (xr8 (tbT G c (aN' G x)) (lA G x % 2) &&& xr8 (tbT G c (bN' G x)) (lB G x % 2)) := by
  have l := aN_lt w a.1 a.2.1
  unfold tbT
  rw [stg_lt _ _ (Nat.lt_succ_self x)]
  unfold tbF
  rw [if_neg h, stg_eq l.1, stg_eq l.2]
theorem tbT_lt : tbT G c x < 256 := by
  unfold tbT
  rw [stg_lt _ _ (Nat.lt_succ_self x)]
  have key : ∀ k n, stg 0 (tbF G c) k n < 256 := by
    intro k
    induction k with
    | zero => intro n; show (0 : Nat) < 256; omega
    | succ k ih =>
      intro n
      show (if n = k then tbF G c k (stg 0 (tbF G c) k) else stg 0 (tbF G c) k n) < 256
      by_cases e : n = k
      · rw [if_pos e]
        unfold tbF
        by_cases q : k ∈ c
        · rw [if_pos q]; exact pat8_lt
        · rw [if_neg q]; exact Nat.and_lt_two_pow (n := 8) _ (xr8_lt (ih _))
      · rw [if_neg e]; exact ih n
  unfold tbF
  by_cases q : x ∈ c
  · rw [if_pos q]; exact pat8_lt
  · rw [if_neg q]; exact Nat.and_lt_two_pow (n := 8) _ (xr8_lt (key _ _))
theorem Cv_in (h : x ∈ c) : Cv G c x := by
  unfold Cv
  rw [stg_lt _ _ (Nat.lt_succ_self x)]
  exact .inl h
theorem Cv_iff (w : WFG G) : Cv G c x ↔ x ∈ c ∨ Cb G c x := by
  unfold Cv
  rw [stg_lt _ _ (Nat.lt_succ_self x)]
  constructor
  · rintro (h | ⟨h1, h2, h3⟩)
    · exact .inl h
    · have l := aN_lt w h1.1 h1.2.1
      rw [stg_eq l.1] at h2
      rw [stg_eq l.2] at h3
      exact .inr ⟨h1, h2, h3⟩
  · rintro (h | ⟨h1, h2, h3⟩)
    · exact .inl h
    · have l := aN_lt w h1.1 h1.2.1
      exact .inr ⟨h1, by rw [stg_eq l.1]; exact h2, by rw [stg_eq l.2]; exact h3⟩
theorem Cv_ex (w : WFG G) (hx : InG G x) : ∀ y, Cv G c y → Cv G (exC (aN' G) (bN' G) c x) y := by
  intro y
  induction y using Nat.strongRecOn with
  | _ y ih =>
    intro h
    rcases (Cv_iff w).1 h with h | h
    · by_cases e : y = x
      · refine (Cv_iff w).2 (.inr ?_)
        rw [e]
        exact ⟨⟨hx.1, hx.2.1, hx.2.2.1⟩, Cv_in (exC_mem.2 (.inr (.inl rfl))), Cv_in (exC_mem.2 (.inl rfl))⟩
      · exact Cv_in (exC_mem.2 (.inr (.inr ⟨h, e⟩)))
    · have l := aN_lt w h.1.1 h.1.2.1
      exact (Cv_iff w).2 (.inr ⟨h.1, ih _ l.1 h.2.1, ih _ l.2 h.2.2⟩)
theorem kst_all {In : Nat → Prop} {la lb : Nat → Nat} {Q : List Nat → Prop} (h0 : Q (mkS [la n, lb n])) (hs : ∀ c x, Q c → In x → x ∈ c → Q (exC la lb c x)) : ∀ k c, c ∈ kst In la lb n k → Q c := by
  intro k
  induction k with
  | zero =>
    intro c hc
    rcases List.mem_cons.1 hc with e | e
    · rw [e]; exact h0
    · exact (nomatch e)
  | succ k ih =>
    intro c hc
    have hc : c ∈ (if k < (kst In la lb n k).length then exI In la lb ((kst In la lb n k).getD k []) (kst In la lb n k) ((kst In la lb n k).getD k []).length else kst In la lb n k) := hc
    by_cases q : k < (kst In la lb n k).length
    · rw [if_pos q] at hc
      have m := getD_mem (d := []) q
      have Qm := ih _ m
      generalize (kst In la lb n k).getD k [] = e at *
      have key : ∀ i, i ≤ e.length → ∀ c, c ∈ exI In la lb e (kst In la lb n k) i → Q c := by
        intro i
        induction i with
        | zero => exact fun _ c hc => ih c hc
        | succ i ihi =>
          intro hi c hc
          have hc : c ∈ cG (In (e.getD i 0)) (addK (exI In la lb e (kst In la lb n k) i) (exC la lb e (e.getD i 0))) (exI In la lb e (kst In la lb n k) i) := hc
          by_cases g : In (e.getD i 0)
          · rw [cG_t g] at hc
            rcases addK_or (exI In la lb e (kst In la lb n k) i) (exC la lb e (e.getD i 0)) with a | ⟨a, _⟩
            · rw [a] at hc; exact ihi (by omega) c hc
            · rw [a] at hc
              rcases List.mem_append.1 hc with hc | hc
              · exact ihi (by omega) c hc
              · rcases List.mem_cons.1 hc with r | r
                · rw [r]; exact hs e _ Qm g (getD_mem (by omega))
                · exact (nomatch r)
          · rw [cG_f g] at hc; exact ihi (by omega) c hc
      exact key _ (Nat.le_refl _) c hc
    · rw [if_neg q] at hc; exact ih c hc
/-- a node's cuts cover it from below -/
theorem cut_cov (w : WFG G) (hn : AndG G n) (hc : c ∈ cutK (InG G) (aN' G) (bN' G) n) : Cb G c n ∧ ∀ x ∈ c, x < n := by
  have l := aN_lt w hn.1 hn.2.1
  have := kst_all (In := InG G) (la := aN' G) (lb := bN' G) (n := n) (Q := fun c => (Cv G c (aN' G n) ∧ Cv G c (bN' G n)) ∧ ∀ x ∈ c, x < n) ⟨⟨Cv_in (m2.2 (.inl rfl)), Cv_in (m2.2 (.inr rfl))⟩, fun x hx => by rcases m2.1 hx with e | e <;> omega⟩ (fun c x hQ hx hm => ⟨⟨Cv_ex w hx _ hQ.1.1, Cv_ex w hx _ hQ.1.2⟩, fun y hy => by
    have lx := aN_lt w hx.1 hx.2.1
    have := hQ.2 x hm
    rcases exC_mem.1 hy with e | e | ⟨e, _⟩
    · omega
    · omega
    · exact hQ.2 y e⟩) 64 c hc
  exact ⟨⟨hn, this.1.1, this.1.2⟩, this.2⟩
theorem cut_ok (w : WFG G) (hn : AndG G n) : ∃ M : List (List Nat), M.length ≤ 63 ∧ KOK (WdG G) M (cutK (InG G) (aN' G) (bN' G) n) := by
  obtain ⟨M, m1, m2', m3⟩ := cover (TG_G w) hn
  exact ⟨M, m1, kst_ok (TG_G w) hn m2' m3 64⟩
theorem plc_get : ∀ (c : List Nat), c.Nodup → ∀ i, i < c.length → plc (c.getD i 0) c = i := by
  intro c
  induction c with
  | nil => intro _ i h; exact absurd h (Nat.not_lt_zero _)
  | cons x c ih =>
    intro hn i hi
    have h1 := List.nodup_cons.1 hn
    cases i with
    | zero => show (if x = x then 0 else _) = 0; rw [if_pos rfl]
    | succ i =>
      have hi : i + 1 < c.length + 1 := hi
      show (if c.getD i 0 = x then 0 else plc (c.getD i 0) c + 1) = i + 1
      have m := getD_mem (d := 0) (show i < c.length by omega)
      rw [if_neg (fun e => h1.1 (by rw [← e]; exact m)), ih h1.2 i (by omega)]
end TABLES
