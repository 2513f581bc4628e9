/-! the list of a node's cuts, sorted; no program -/
def addK (K : List (List Nat)) (c : List Nat) : List (List Nat) := if c.length ≤ 3 ∧ ¬ c ∈ K then K ++ [c] else K
noncomputable def exI (In : Nat → Prop) (la lb : Nat → Nat) (c : List Nat) (K : List (List Nat)) : Nat → List (List Nat)
  | 0 => K
  | i + 1 => cG (In (c.getD i 0)) (addK (exI In la lb c K i) (exC la lb c (c.getD i 0))) (exI In la lb c K i)
noncomputable def kst (In : Nat → Prop) (la lb : Nat → Nat) (n : Nat) : Nat → List (List Nat)
  | 0 => [mkS [la n, lb n]]
  | k + 1 => if k < (kst In la lb n k).length then exI In la lb ((kst In la lb n k).getD k []) (kst In la lb n k) ((kst In la lb n k).getD k []).length else kst In la lb n k
noncomputable def oins (c : List Nat) : List (List Nat) → List (List Nat)
  | [] => [c]
  | d :: L => cG (lx c d) (c :: d :: L) (d :: oins c L)
/-- the first i, sorted -/
noncomputable def stC (K : List (List Nat)) : Nat → List (List Nat)
  | 0 => []
  | i + 1 => oins (K.getD i []) (stC K i)
/-- all cuts of a node -/
noncomputable def cutK (In : Nat → Prop) (la lb : Nat → Nat) (n : Nat) : List (List Nat) := kst In la lb n 64
noncomputable def cutZ (In : Nat → Prop) (la lb : Nat → Nat) (n : Nat) : List (List Nat) := stC (cutK In la lb n) (cutK In la lb n).length
/-- what holds of cuts while they are gathered -/
def KOK (Wd : Nat → Prop) (M K : List (List Nat)) : Prop := K.Nodup ∧ (∀ c ∈ K, c ∈ M ∧ SS c ∧ 1 ≤ c.length ∧ c.length ≤ 3 ∧ ∀ x ∈ c, Wd x)
section CUTS
variable {In And Wd : Nat → Prop} {la lb : Nat → Nat} {pa pb : Nat → Bool} {val : Nat → Nat → Bool} {P n m : Nat} {M K : List (List Nat)} {c : List Nat} {L : List (List Nat)}
theorem getD_mem {α : Type} {l : List α} {i : Nat} {d : α} (h : i < l.length) : l.getD i d ∈ l := by
  rw [List.getD_eq_getElem?_getD, List.getElem?_eq_getElem h]; exact List.getElem_mem h
theorem mem_getD {α : Type} {l : List α} {x : α} (d : α) (h : x ∈ l) : ∃ i, i < l.length ∧ l.getD i d = x := by
  obtain ⟨i, hi, e⟩ := List.getElem_of_mem h
  exact ⟨i, hi, by rw [List.getD_eq_getElem?_getD, List.getElem?_eq_getElem hi]; exact e⟩
theorem getD_app_l {α : Type} {l m : List α} {i : Nat} {d : α} (h : i < l.length) : (l ++ m).getD i d = l.getD i d := by
  rw [List.getD_eq_getElem?_getD, List.getD_eq_getElem?_getD, List.getElem?_append_left h]
theorem addK_or (K : List (List Nat)) (c : List Nat) : addK K c = K ∨ (addK K c = K ++ [c] ∧ c.length ≤ 3 ∧ ¬ c ∈ K) := by
  unfold addK
  by_cases h : c.length ≤ 3 ∧ ¬ c ∈ K
  · rw [if_pos h]; exact .inr ⟨rfl, h⟩
  · rw [if_neg h]; exact .inl rfl
theorem KOK.len (h : KOK Wd M K) (hM : M.length ≤ 63) : K.length ≤ 63 := by
  have := nodup_sub K M h.1 (fun c hc => (h.2 c hc).1)
  omega
theorem KOK.add (h : KOK Wd M K) (hc : c ∈ M ∨ 3 < c.length) (hs : SS c) (h1 : 1 ≤ c.length) (hw : ∀ x ∈ c, Wd x) : KOK Wd M (addK K c) := by
  rcases addK_or K c with e | ⟨e, l, nm⟩
  · rw [e]; exact h
  · rw [e]
    refine ⟨List.nodup_append.2 ⟨h.1, List.nodup_cons.2 ⟨fun g => (nomatch g), List.nodup_nil⟩, fun a ha b hb e' => ?_⟩, fun d hd => ?_⟩
    · rcases List.mem_cons.1 hb with g | g
      · subst g; subst e'; exact nm ha
      · exact (nomatch g)
    · rcases List.mem_append.1 hd with hd | hd
      · exact h.2 d hd
      · rcases List.mem_cons.1 hd with e | e
        · subst e; exact ⟨hc.resolve_right (by omega), hs, h1, l, hw⟩
        · exact (nomatch e)
theorem exI_pre : ∀ i, ∃ T, exI In la lb c K i = K ++ T := by
  intro i
  induction i with
  | zero => exact ⟨[], (List.append_nil K).symm⟩
  | succ i ih =>
    obtain ⟨T, hT⟩ := ih
    show ∃ U, cG (In (c.getD i 0)) (addK (exI In la lb c K i) (exC la lb c (c.getD i 0))) (exI In la lb c K i) = _
    by_cases q : In (c.getD i 0)
    · rw [cG_t q]
      rcases addK_or (exI In la lb c K i) (exC la lb c (c.getD i 0)) with e | ⟨e, _⟩
      · exact ⟨T, by rw [e, hT]⟩
      · exact ⟨T ++ [exC la lb c (c.getD i 0)], by rw [e, hT, List.append_assoc]⟩
    · rw [cG_f q]; exact ⟨T, hT⟩
theorem exI_ok (h : TG In And Wd la lb pa pb val P) (hM : clo In la lb M) (hK : KOK Wd M K) (hc : c ∈ K) : ∀ i, i ≤ c.length → KOK Wd M (exI In la lb c K i) := by
  intro i
  obtain ⟨c1, c2, c3, c4, c5⟩ := hK.2 c hc
  induction i with
  | zero => exact fun _ => hK
  | succ i ih =>
    intro hi
    have ih := ih (by omega)
    show KOK Wd M (cG (In (c.getD i 0)) (addK (exI In la lb c K i) (exC la lb c (c.getD i 0))) (exI In la lb c K i))
    by_cases q : In (c.getD i 0)
    · rw [cG_t q]
      have a := h.2.1 _ (h.1 _ q)
      refine ih.add ?_ exC_ss ?_ (fun x hx => ?_)
      · by_cases l : (exC la lb c (c.getD i 0)).length ≤ 3
        · exact .inl (hM c c1 _ (getD_mem (by omega)) q l)
        · exact .inr (by omega)
      · have : la (c.getD i 0) ∈ exC la lb c (c.getD i 0) := exC_mem.2 (.inr (.inl rfl))
        cases e : exC la lb c (c.getD i 0) with
        | nil => rw [e] at this; exact (nomatch this)
        | cons x l => show 1 ≤ l.length + 1; omega
      · rcases exC_mem.1 hx with e | e | ⟨e, _⟩
        · rw [e]; exact a.2.2.2.2.1
        · rw [e]; exact a.2.2.2.1
        · exact c5 x e
    · rw [cG_f q]; exact ih
theorem kst_ok (h : TG In And Wd la lb pa pb val P) (hn : And n) (hm : mkS [la n, lb n] ∈ M) (hM : clo In la lb M) : ∀ k, KOK Wd M (kst In la lb n k) := by
  intro k
  have a := h.2.1 n hn
  induction k with
  | zero =>
    refine ⟨List.nodup_cons.2 ⟨fun g => (nomatch g), List.nodup_nil⟩, fun c hc => ?_⟩
    rcases List.mem_cons.1 hc with e | e
    · subst e
      refine ⟨hm, mkS_ss, ?_, ?_, fun x hx => ?_⟩
      · show 1 ≤ (insN (la n) (insN (lb n) [])).length
        have := nodup_sub [la n] (mkS [la n, lb n]) (List.nodup_cons.2 ⟨fun g => (nomatch g), List.nodup_nil⟩) (fun x hx => by
          rcases List.mem_cons.1 hx with e | e
          · rw [e]; exact m2.2 (.inl rfl)
          · exact (nomatch e))
        exact this
      · have := nodup_sub (mkS [la n, lb n]) [la n, lb n] (SS_nodup mkS_ss) (fun x hx => by rw [mkS_mem] at hx; exact hx)
        have e : [la n, lb n].length = 2 := rfl
        omega
      · rcases m2.1 hx with e | e
        · rw [e]; exact a.2.2.2.1
        · rw [e]; exact a.2.2.2.2.1
    · exact (nomatch e)
  | succ k ih =>
    show KOK Wd M (if k < (kst In la lb n k).length then _ else kst In la lb n k)
    by_cases q : k < (kst In la lb n k).length
    · rw [if_pos q]; exact exI_ok h hM ih (getD_mem q) _ (Nat.le_refl _)
    · rw [if_neg q]; exact ih
theorem kst_stop (hl : ∀ k, (kst In la lb n k).length ≤ 63) {k : Nat} (hk : (kst In la lb n k).length ≤ k) : ∀ j, k ≤ j → kst In la lb n j = kst In la lb n k := by
  intro j
  induction j with
  | zero => intro h; rw [show k = 0 by omega]
  | succ j ih =>
    intro h
    by_cases e : k = j + 1
    · rw [e]
    · have ih := ih (by omega)
      show (if j < (kst In la lb n j).length then _ else kst In la lb n j) = _
      rw [if_neg (by rw [ih]; omega)]; exact ih
theorem kst_len (h : TG In And Wd la lb pa pb val P) (hn : And n) (k : Nat) : (kst In la lb n k).length ≤ 63 := by
  obtain ⟨M, m1, m2, m3⟩ := cover h hn
  exact (kst_ok h hn m2 m3 k).len m1
theorem cut_at (h : TG In And Wd la lb pa pb val P) (hn : And n) {k : Nat} (hk : (kst In la lb n k).length ≤ k) : cutK In la lb n = kst In la lb n k := by
  have hl := kst_len h hn
  by_cases q : k ≤ 64
  · exact kst_stop hl hk 64 q
  · exact (kst_stop hl (k := 64) (by have := hl 64; omega) k (by omega)).symm
/-- sorted lists of cuts -/
def srt : List (List Nat) → Prop
  | [] => True
  | c :: L => (∀ d ∈ L, lx c d) ∧ srt L
theorem oins_mem {d : List Nat} : d ∈ oins c L ↔ d = c ∨ d ∈ L := by
  induction L with
  | nil => exact List.mem_cons
  | cons e L ih =>
    unfold oins
    by_cases q : lx c e
    · rw [cG_t q]; exact List.mem_cons
    · rw [cG_f q, List.mem_cons, List.mem_cons, ih]
      exact ⟨fun h => h.elim (fun h => .inr (.inl h)) (fun h => h.elim .inl (fun h => .inr (.inr h))), fun h => h.elim (fun h => .inr (.inl h)) (fun h => h.elim .inl (fun h => .inr (.inr h)))⟩
theorem oins_len : (oins c L).length = L.length + 1 := by
  induction L with
  | nil => rfl
  | cons e L ih =>
    unfold oins
    by_cases q : lx c e
    · rw [cG_t q]; rfl
    · rw [cG_f q]; show (oins c L).length + 1 = _; rw [ih]; rfl
theorem oins_srt (h : srt L) (hc : ¬ c ∈ L) : srt (oins c L) := by
  induction L with
  | nil => exact ⟨fun d hd => (nomatch hd), trivial⟩
  | cons e L ih =>
    unfold oins
    by_cases q : lx c e
    · rw [cG_t q]
      refine ⟨fun d hd => ?_, h⟩
      rcases List.mem_cons.1 hd with g | g
      · rw [g]; exact q
      · exact lx_tr _ _ _ q (h.1 d g)
    · rw [cG_f q]
      refine ⟨fun d hd => ?_, ih h.2 (fun g => hc (.tail _ g))⟩
      rcases oins_mem.1 hd with g | g
      · rw [g]
        exact (lx_tot c e (fun g => hc (by rw [g]; exact .head _))).resolve_left q
      · exact h.1 d g
theorem srt_get (h : srt L) : ∀ i j, i < j → j < L.length → lx (L.getD i []) (L.getD j []) := by
  induction L with
  | nil => intro i j _ hj; exact absurd hj (Nat.not_lt_zero _)
  | cons e L ih =>
    intro i j hij hj
    have hj : j < L.length + 1 := hj
    obtain ⟨j', rfl⟩ : ∃ j', j = j' + 1 := ⟨j - 1, by omega⟩
    cases i with
    | zero => exact h.1 _ (getD_mem (by omega))
    | succ i => exact ih h.2 i j' (by omega) (by omega)
/-- where it comes in, from behind -/
theorem oins_pos : ∀ (L : List (List Nat)) (t : Nat), t ≤ L.length → (∀ i, i < t → ¬ lx c (L.getD i [])) → (∀ i, t ≤ i → i < L.length → lx c (L.getD i [])) → ∀ i, (oins c L).getD i [] = if i < t then L.getD i [] else if i = t then c else L.getD (i - 1) [] := by
  intro L
  induction L with
  | nil =>
    intro t ht _ _ i
    have : t = 0 := by simpa using ht
    subst this
    cases i with
    | zero => rfl
    | succ i => rw [if_neg (by omega), if_neg (by omega)]; rfl
  | cons e L ih =>
    intro t ht h1 h2 i
    cases t with
    | zero =>
      have : lx c e := h2 0 (Nat.le_refl _) (Nat.succ_pos _)
      unfold oins
      rw [cG_t this, if_neg (by omega)]
      cases i with
      | zero => rfl
      | succ i => rw [if_neg (by omega)]; rfl
    | succ t =>
      have : ¬ lx c e := h1 0 (by omega)
      unfold oins
      rw [cG_f this]
      cases i with
      | zero => rw [if_pos (by omega)]; rfl
      | succ i =>
        show (oins c L).getD i [] = _
        rw [ih t (by have ht : t + 1 ≤ L.length + 1 := ht; omega) (fun i hi => h1 (i + 1) (by omega)) (fun i hi hl => h2 (i + 1) (by omega) (by show i + 1 < L.length + 1; omega)) i]
        by_cases q : i < t
        · rw [if_pos q, if_pos (by omega)]; rfl
        · rw [if_neg q, if_neg (show ¬ i + 1 < t + 1 by omega)]
          by_cases q2 : i = t
          · rw [if_pos q2, if_pos (by omega)]
          · rw [if_neg q2, if_neg (by omega)]
            obtain ⟨i', rfl⟩ : ∃ i', i = i' + 1 := ⟨i - 1, by omega⟩
            rfl
theorem stC_mem : ∀ i, i ≤ K.length → ∀ d, d ∈ stC K i ↔ ∃ j, j < i ∧ K.getD j [] = d := by
  intro i
  induction i with
  | zero => intro _ d; exact ⟨fun h => (nomatch h), fun ⟨j, h, _⟩ => absurd h (Nat.not_lt_zero _)⟩
  | succ i ih =>
    intro hi d
    show d ∈ oins (K.getD i []) (stC K i) ↔ _
    rw [oins_mem, ih (by omega) d]
    constructor
    · rintro (h | ⟨j, j1, j2⟩)
      · exact ⟨i, by omega, h.symm⟩
      · exact ⟨j, by omega, j2⟩
    · rintro ⟨j, j1, j2⟩
      by_cases e : j = i
      · subst e; exact .inl j2.symm
      · exact .inr ⟨j, by omega, j2⟩
theorem stC_len : ∀ i, (stC K i).length = i := by
  intro i
  induction i with
  | zero => rfl
  | succ i ih => show (oins _ _).length = _; rw [oins_len, ih]
theorem nodup_getD {i j : Nat} (h : K.Nodup) (hi : i < K.length) (hj : j < K.length) (e : K.getD i [] = K.getD j []) : i = j := by
  rw [List.getD_eq_getElem?_getD, List.getD_eq_getElem?_getD, List.getElem?_eq_getElem hi, List.getElem?_eq_getElem hj] at e
  exact (List.getElem_inj h).1 e
theorem stC_new (h : K.Nodup) {i : Nat} (hi : i < K.length) : ¬ K.getD i [] ∈ stC K i := fun g => by
  obtain ⟨j, j1, j2⟩ := (stC_mem i (by omega) _).1 g
  have := nodup_getD h (by omega) hi j2
  omega
theorem stC_srt (h : K.Nodup) : ∀ i, i ≤ K.length → srt (stC K i) := by
  intro i
  induction i with
  | zero => exact fun _ => trivial
  | succ i ih => exact fun hi => oins_srt (ih (by omega)) (stC_new h (by omega))
/-- the place that both find -/
theorem stC_pos (h : K.Nodup) {i t : Nat} (hi : i < K.length) (ht : t ≤ i) (h1 : t = 0 ∨ ¬ lx (K.getD i []) ((stC K i).getD (t - 1) [])) (h2 : ∀ j, t ≤ j → j < i → lx (K.getD i []) ((stC K i).getD j [])) : ∀ j, (stC K (i + 1)).getD j [] = if j < t then (stC K i).getD j [] else if j = t then K.getD i [] else (stC K i).getD (j - 1) [] := by
  have sl := stC_len (K := K) i
  refine oins_pos (stC K i) t (by omega) (fun j hj => ?_) (fun j hj hl => h2 j hj (by omega))
  by_cases e : j = t - 1
  · rw [e]; exact h1.resolve_left (by omega)
  · intro g
    exact (h1.resolve_left (by omega)) (lx_tr _ _ _ g (srt_get (stC_srt h i (by omega)) j (t - 1) (by omega) (by omega)))
/-- where a node comes in -/
theorem insN_pos {n : Nat} : ∀ (l : List Nat) (t : Nat), t ≤ l.length → (∀ i, i < t → l.getD i 0 < n) → (t = l.length ∨ n ≤ l.getD t 0) → (t < l.length ∧ l.getD t 0 = n → insN n l = l) ∧ (¬ (t < l.length ∧ l.getD t 0 = n) → (insN n l).length = l.length + 1 ∧ ∀ i, (insN n l).getD i 0 = if i < t then l.getD i 0 else if i = t then n else l.getD (i - 1) 0) := by
  intro l
  induction l with
  | nil =>
    intro t ht _ _
    have : t = 0 := by simpa using ht
    subst this
    refine ⟨fun h => absurd h.1 (Nat.lt_irrefl _), fun _ => ⟨rfl, fun i => ?_⟩⟩
    cases i with
    | zero => rfl
    | succ i => rw [if_neg (by omega), if_neg (by omega)]; rfl
  | cons x l ih =>
    intro t ht h1 h2
    cases t with
    | zero =>
      have hx : n ≤ x := h2.resolve_left (fun h => by cases h)
      constructor
      · intro h
        have : x = n := h.2
        unfold insN
        rw [if_neg (by omega), if_pos this.symm]
      · intro h
        have : n < x := by
          have : x ≠ n := fun e => h ⟨Nat.succ_pos _, e⟩
          omega
        unfold insN
        rw [if_pos this]
        refine ⟨rfl, fun i => ?_⟩
        cases i with
        | zero => rfl
        | succ i => rw [if_neg (by omega), if_neg (by omega)]; rfl
    | succ t =>
      have hx : x < n := h1 0 (by omega)
      have ht : t + 1 ≤ l.length + 1 := ht
      obtain ⟨i1, i2⟩ := ih t (by omega) (fun i hi => h1 (i + 1) (by omega)) (h2.imp (fun h => by have h : t + 1 = l.length + 1 := h; omega) id)
      have e : insN n (x :: l) = x :: insN n l := by
        show (if n < x then _ else if n = x then _ else x :: insN n l) = _
        rw [if_neg (by omega), if_neg (by omega)]
      constructor
      · intro h
        rw [e, i1 ⟨by have := h.1; have : t + 1 < l.length + 1 := this; omega, h.2⟩]
      · intro h
        obtain ⟨j1, j2⟩ := i2 (fun g => h ⟨by show t + 1 < l.length + 1; have := g.1; omega, g.2⟩)
        rw [e]
        refine ⟨by show (insN n l).length + 1 = _; rw [j1]; rfl, fun i => ?_⟩
        cases i with
        | zero => rw [if_pos (by omega)]; rfl
        | succ i =>
          show (insN n l).getD i 0 = _
          rw [j2 i]
          by_cases q : i < t
          · rw [if_pos q, if_pos (by omega)]; rfl
          · rw [if_neg q, if_neg (show ¬ i + 1 < t + 1 by omega)]
            by_cases q2 : i = t
            · rw [if_pos q2, if_pos (by omega)]
            · rw [if_neg q2, if_neg (by omega)]
              obtain ⟨i', rfl⟩ : ∃ i', i = i' + 1 := ⟨i - 1, by omega⟩
              rfl
theorem insN_len {n : Nat} {l : List Nat} : (insN n l).length ≤ l.length + 1 := by
  induction l with
  | nil => exact Nat.le_refl _
  | cons x l ih =>
    unfold insN
    by_cases q : n < x
    · rw [if_pos q]; exact Nat.le_refl _
    · rw [if_neg q]
      by_cases e : n = x
      · rw [if_pos e]; exact Nat.le_succ _
      · rw [if_neg e]; show (insN n l).length + 1 ≤ l.length + 1 + 1; omega
/-- a cut without one of its places -/
def wiN (c : List Nat) (i : Nat) : Nat → List Nat
  | 0 => []
  | j + 1 => if j = i then wiN c i j else insN (c.getD j 0) (wiN c i j)
theorem wiN_ok {c : List Nat} {i : Nat} : ∀ j, SS (wiN c i j) ∧ (wiN c i j).length ≤ (if j ≤ i then j else j - 1) ∧ ∀ y, y ∈ wiN c i j ↔ ∃ j', j' < j ∧ j' ≠ i ∧ c.getD j' 0 = y := by
  intro j
  induction j with
  | zero => exact ⟨trivial, by rw [if_pos (Nat.zero_le _)]; exact Nat.le_refl _, fun y => ⟨fun h => (nomatch h), fun ⟨j', h, _⟩ => absurd h (Nat.not_lt_zero _)⟩⟩
  | succ j ih =>
    obtain ⟨h1, h2, h3⟩ := ih
    unfold wiN
    by_cases e : j = i
    · rw [if_pos e]
      refine ⟨h1, ?_, fun y => ?_⟩
      · rw [if_neg (by omega)]; rw [if_pos (by omega)] at h2; omega
      · rw [h3]
        constructor
        · rintro ⟨j', a, b⟩; exact ⟨j', by omega, b⟩
        · rintro ⟨j', a, b, c⟩; exact ⟨j', by omega, b, c⟩
    · rw [if_neg e]
      refine ⟨insN_ss h1, ?_, fun y => ?_⟩
      · have := insN_len (n := c.getD j 0) (l := wiN c i j)
        by_cases q : j ≤ i
        · rw [if_pos q] at h2; rw [if_pos (by omega)]; omega
        · rw [if_neg q] at h2; rw [if_neg (by omega)]; omega
      · rw [insN_mem, h3]
        constructor
        · rintro (g | ⟨j', a, b, g⟩)
          · exact ⟨j, by omega, e, g.symm⟩
          · exact ⟨j', by omega, b, g⟩
        · rintro ⟨j', a, b, g⟩
          by_cases q : j' = j
          · subst q; exact .inl g.symm
          · exact .inr ⟨j', by omega, b, g⟩
theorem exC_wi {c : List Nat} {i : Nat} (hs : SS c) (hi : i < c.length) : exC la lb c (c.getD i 0) = insN (lb (c.getD i 0)) (insN (la (c.getD i 0)) (wiN c i c.length)) := by
  obtain ⟨w1, w2, w3⟩ := wiN_ok (c := c) (i := i) c.length
  refine SS_ext _ _ exC_ss (insN_ss (insN_ss w1)) (fun y => ?_)
  rw [exC_mem, insN_mem, insN_mem, w3]
  have key : (y ∈ c ∧ y ≠ c.getD i 0) ↔ ∃ j', j' < c.length ∧ j' ≠ i ∧ c.getD j' 0 = y := by
    constructor
    · rintro ⟨a, b⟩
      obtain ⟨j, j1, j2⟩ := mem_getD 0 a
      exact ⟨j, j1, fun e => b (by rw [← j2, e]), j2⟩
    · rintro ⟨j, j1, j2, j3⟩
      refine ⟨by rw [← j3]; exact getD_mem j1, fun e => j2 ?_⟩
      rw [← j3, List.getD_eq_getElem?_getD, List.getD_eq_getElem?_getD, List.getElem?_eq_getElem j1, List.getElem?_eq_getElem hi] at e
      exact (List.getElem_inj (SS_nodup hs)).1 e
  rw [key]
end CUTS
