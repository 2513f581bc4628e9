/-! designs: what expressions mean, over the tokens; rows of code and widths -/
abbrev Row3 : Type := Int × Int × Int
/-- a name of a module: its token, its sort (0 in, 1 out, 2 let, 3 reg, 4 use), its width, its value or module -/
abbrev Nam : Type := Nat × Int × Int × Int
abbrev Mdl : Type := List Nam
abbrev RsD : Type := (Nat × List Row3 × Int) ⊕ (Int × Int)
abbrev VD : Type := List Row3 × List Int
def nm0 : Nam := (0, 0, 0, 0)
def mTk (m : Mdl) : List Nat := m.map (fun a => a.1)
def nuT (u : Nat → Int) (n : Nat) (lo hi : Int) (j : Nat) : Qq := if tkK u n j = 2 then (if lo ≤ tkV u n j ∧ tkV u n j ≤ hi then nxT u n j else flT u n 12 j) else flT u n 2 j
def conD (u : Nat → Int) (n : Nat) (j : Nat) : RsD := oB (nxT u n j) fun a => oB (tkT u n 64 (.inl a)) fun b => oB (nuT u n 1 8 b) fun c => if (2 : Int) ^ (tkV u n b).toNat ≤ tkV u n j then .inr (12, (tkB u n j : Int)) else .inl (c, [(0, tkV u n j, tkV u n b)], tkV u n b)
def biD (u : Nat → Int) (n : Nat) (w : Int) (a : Nat) : RsD := if isS u n 46 a = true then oB (nxT u n a) fun b => oB (nuT u n 0 (w - 1) b) fun c => .inl (c, [(3, tkV u n b, 0)], 1) else .inl (a, [], w)
def ofD (u : Nat → Int) (n : Nat) (m : Mdl) (i b : Nat) : RsD := if inNm u n (mTk m) b = true ∧ (m.getD (fiN u n (mTk m) b) nm0).2.1 = 1 then oB (nxT u n b) fun c => oB (biD u n (m.getD (fiN u n (mTk m) b) nm0).2.2.1 c) fun t => .inl (t.1, (2, (i : Int), (fiN u n (mTk m) b : Int)) :: t.2.1, t.2.2) else .inr (11, (tkB u n b : Int))
def dotD (u : Nat → Int) (n : Nat) (ms : List Mdl) (x : Nam) (i j a : Nat) : RsD := oB (nxT u n a) fun b =>
  if (tkK u n b = 1 ∧ x.2.1 ≠ 4) ∨ (tkK u n b = 2 ∧ x.2.1 = 4) then .inr (11, (tkB u n j : Int))
  else if tkK u n b = 1 then ofD u n (ms.getD x.2.2.2.toNat []) i b
  else oB (nuT u n 0 (x.2.2.1 - 1) b) fun c => .inl (c, [(1, (i : Int), 0), (3, tkV u n b, 0)], 1)
def namD (u : Nat → Int) (n : Nat) (ms : List Mdl) (cur : Mdl) (j : Nat) : RsD := if inNm u n (mTk cur) j = true then
    oB (nxT u n j) fun a => if isS u n 46 a = true then dotD u n ms (cur.getD (fiN u n (mTk cur) j) nm0) (fiN u n (mTk cur) j) j a
      else if (cur.getD (fiN u n (mTk cur) j) nm0).2.1 = 4 then .inr (11, (tkB u n j : Int)) else .inl (a, [(1, (fiN u n (mTk cur) j : Int), 0)], (cur.getD (fiN u n (mTk cur) j) nm0).2.2.1)
  else .inr (11, (tkB u n j : Int))
def opD (u : Nat → Int) (n : Nat) (ms : List Mdl) (cur : Mdl) (j : Nat) : RsD := if tkK u n j = 2 then conD u n j else if tkK u n j = 1 then namD u n ms cur j else .inr (2, (tkB u n j : Int))
def cdD (c : Int) : Int := if c = 124 then 6 else if c = 94 then 7 else if c = 38 then 5 else if c = 257 then 8 else 9
def apD (u : Nat → Int) (n : Nat) (c : Int) (p : Nat) : VD → VD ⊕ (Int × Int)
  | (k, b :: a :: l) => if a = b then .inl (k ++ [(cdD c, 0, 0)], (if c = 257 then 1 else a) :: l) else .inr (13, (tkB u n p : Int))
  | v => .inl v
def chD (u : Nat → Int) (n : Nat) (p : Nat) : VD → VD ⊕ (Int × Int)
  | (k, b :: a :: _ :: l) => if a = b then .inl (k ++ [(10, 0, 0)], a :: l) else .inr (13, (tkB u n p : Int))
  | _ => .inr (13, (tkB u n p : Int))
def tsD : VD → Bool
  | (_, w :: _) => decide (w = 1)
  | _ => false
def XD (u : Nat → Int) (n : Nat) (ms : List Mdl) (cur : Mdl) : OM VD := (u, n, false, fun j v => oB (opD u n ms cur j) (fun t => .inl (t.1, v.1 ++ t.2.1, t.2.2 :: v.2)), fun v => (v.1 ++ [(4, 0, 0)], v.2), apD u n, chD u n, tsD, fun v => v.2.length)
section XDK
variable {u : Nat → Int} {n N : Nat} {ms : List Mdl} {cur m : Mdl} {j a b i : Nat} {x : Nam} {t : Nat × List Row3 × Int}
theorem nuT_ok {lo hi : Int} {c : Nat} (h : nuT u n lo hi j = .inl c) : tkK u n j = 2 ∧ c = j + 1 ∧ tkK u n c ≠ 4 ∧ lo ≤ tkV u n j ∧ tkV u n j ≤ hi := by
  unfold nuT flT at h
  split at h
  · rename_i k
    split at h
    · rename_i g; have := nxT_ok h; exact ⟨k, this.1, this.2, g⟩
    · cases h
  · cases h
/-- a part ends behind where it began, at a good token; rows and widths -/
def RdK (u : Nat → Int) (n j : Nat) (r : RsD) : Prop := ∀ t, r = .inl t → j < t.1 ∧ tkK u n t.1 ≠ 4 ∧ t.2.1.length + j ≤ t.1 ∧ (∀ N, LstT u n N → j ≤ N → t.1 ≤ N)
theorem lt2 (hL : LstT u n N) (k : tkK u n j = 2) (h : j ≤ N) : j < N := hL.le (by rw [k]; decide) h
theorem lt1 (hL : LstT u n N) (k : tkK u n j = 1) (h : j ≤ N) : j < N := hL.le (by rw [k]; decide) h
theorem lt3 (hL : LstT u n N) (k : tkK u n j = 3) (h : j ≤ N) : j < N := hL.le (by rw [k]; decide) h
theorem conD_k (k : tkK u n j = 2) : RdK u n j (conD u n j) := by
  intro t h
  unfold conD at h
  obtain ⟨a, h1, h⟩ := oB_inv h
  obtain ⟨b, h2, h⟩ := oB_inv h
  obtain ⟨c, h3, h⟩ := oB_inv h
  split at h
  · cases h
  · injection h with h; subst h
    obtain ⟨a1, a2⟩ := nxT_ok h1
    obtain ⟨b1, b2, b3⟩ := tkT_ok h2
    obtain ⟨c1, c2, c3, _⟩ := nuT_ok h3
    refine ⟨by show j < c; omega, c3, by show 1 + j ≤ c; omega, fun N hL hj => ?_⟩
    have := lt2 hL k hj
    have := lt3 hL b3 (by omega)
    have := lt2 hL c1 (by omega)
    show c ≤ N; omega
theorem biD_k {w : Int} (h : biD u n w a = .inl t) : a ≤ t.1 ∧ (tkK u n a ≠ 4 → tkK u n t.1 ≠ 4) ∧ t.2.1.length + a ≤ t.1 ∧ (∀ N, LstT u n N → a ≤ N → t.1 ≤ N) := by
  unfold biD at h
  split at h
  · rename_i g
    obtain ⟨b, h1, h⟩ := oB_inv h
    obtain ⟨c, h2, h⟩ := oB_inv h
    injection h with h; subst h
    obtain ⟨a1, a2⟩ := nxT_ok h1
    obtain ⟨c1, c2, c3, _⟩ := nuT_ok h2
    refine ⟨by show a ≤ c; omega, fun _ => c3, by show 1 + a ≤ c; omega, fun N hL hj => ?_⟩
    have := lt3 hL (isS_K g) hj
    have := lt2 hL c1 (by omega)
    show c ≤ N; omega
  · injection h with h; subst h
    exact ⟨Nat.le_refl _, fun q => q, by show 0 + a ≤ a; omega, fun N _ q => q⟩
theorem ofD_k (k : tkK u n b = 1) : RdK u n b (ofD u n m i b) := by
  intro t h
  unfold ofD at h
  split at h
  · obtain ⟨c, h1, h⟩ := oB_inv h
    obtain ⟨s, h2, h⟩ := oB_inv h
    injection h with h; subst h
    obtain ⟨a1, a2⟩ := nxT_ok h1
    obtain ⟨b1, b2, b3, b4⟩ := biD_k h2
    refine ⟨by show b < s.1; omega, b2 a2, by show s.2.1.length + 1 + b ≤ s.1; omega, fun N hL hj => ?_⟩
    have := lt1 hL k hj
    exact b4 N hL (by omega)
  · cases h
theorem dotD_k (g : isS u n 46 a = true) : RdK u n a (dotD u n ms x i j a) := by
  intro t h
  unfold dotD at h
  obtain ⟨b, h1, h⟩ := oB_inv h
  obtain ⟨a1, a2⟩ := nxT_ok h1
  split at h
  · cases h
  · split at h
    · rename_i k
      obtain ⟨b1, b2, b3, b4⟩ := ofD_k k _ h
      refine ⟨by omega, b2, by omega, fun N hL hj => ?_⟩
      have := lt3 hL (isS_K g) hj
      exact b4 N hL (by omega)
    · obtain ⟨c, h2, h⟩ := oB_inv h
      injection h with h; subst h
      obtain ⟨c1, c2, c3, _⟩ := nuT_ok h2
      refine ⟨by show a < c; omega, c3, by show 2 + a ≤ c; omega, fun N hL hj => ?_⟩
      have := lt3 hL (isS_K g) hj
      have := lt2 hL c1 (by omega)
      show c ≤ N; omega
theorem namD_k (k : tkK u n j = 1) : RdK u n j (namD u n ms cur j) := by
  intro t h
  unfold namD at h
  split at h
  · obtain ⟨a, h1, h⟩ := oB_inv h
    obtain ⟨a1, a2⟩ := nxT_ok h1
    split at h
    · rename_i g
      obtain ⟨b1, b2, b3, b4⟩ := dotD_k g _ h
      refine ⟨by omega, b2, by omega, fun N hL hj => ?_⟩
      have := lt1 hL k hj
      exact b4 N hL (by omega)
    · split at h
      · cases h
      · injection h with h; subst h
        refine ⟨by show j < a; omega, a2, by show 1 + j ≤ a; omega, fun N hL hj => ?_⟩
        have := lt1 hL k hj
        show a ≤ N; omega
  · cases h
theorem opD_k : RdK u n j (opD u n ms cur j) := by
  intro t h
  unfold opD at h
  split at h
  · rename_i k; exact conD_k k t h
  · split at h
    · rename_i k; exact namD_k k t h
    · cases h
theorem XD_ok (hL : LstT u n N) : OX (XD u n ms cur) N := by
  refine ⟨hL, ?_, ?_, ?_, ?_⟩
  · intro j v t hj h4 _ _ e
    have e : oB (opD u n ms cur j) (fun t => (.inl (t.1, v.1 ++ t.2.1, t.2.2 :: v.2) : Rv VD)) = .inl t := e
    obtain ⟨s, e1, e2⟩ := oB_inv e
    injection e2 with e2; subst e2
    obtain ⟨a1, a2, a3, a4⟩ := opD_k s e1
    exact ⟨a1, a4 N hL hj, a2, rfl⟩
  · intro v; rfl
  · intro c p v w hv e
    obtain ⟨k, l⟩ := v
    match l, hv, e with
    | b :: a :: l, _, e =>
      have e : (if a = b then .inl (k ++ [(cdD c, 0, 0)], (if c = 257 then 1 else a) :: l) else .inr (13, (tkB u n p : Int)) : VD ⊕ (Int × Int)) = .inl w := e
      split at e
      · injection e with e; subst e; rfl
      · cases e
  · intro p v w hv e
    obtain ⟨k, l⟩ := v
    match l, hv, e with
    | b :: a :: d :: l, _, e =>
      have e : (if a = b then .inl (k ++ [(10, 0, 0)], a :: l) else .inr (13, (tkB u n p : Int)) : VD ⊕ (Int × Int)) = .inl w := e
      split at e
      · injection e with e; subst e; rfl
      · cases e
end XDK
