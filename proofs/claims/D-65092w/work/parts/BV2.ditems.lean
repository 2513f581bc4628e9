/-! designs: what items, modules and whole designs mean, over the tokens -/
/-- of each module: its name's token, the token behind its bracket, its names, its items (name, rows from, rows to) -/
abbrev Itm : Type := Int × Nat × Nat
abbrev Fin0 : Type := Nat × Nat × Mdl × List Itm
abbrev StM : Type := Nat × List Row3 × Mdl × List Nat × List Itm
abbrev StD : Type := Nat × List Row3 × List Fin0
def fMt (fs : List Fin0) : List Nat := fs.map (fun a => a.1)
def fMs (fs : List Fin0) : List Mdl := fs.map (fun a => a.2.2.1)
def fIt (its : List Itm) : List Row3 := its.map (fun t => (t.1, ((3 * t.2.1 : Nat) : Int), ((3 * t.2.2 : Nat) : Int)))
/-- steps in a row -/
def Chs {α : Type} (R : α → α → Prop) : Nat → α → α → Prop
  | 0, a, b => a = b
  | m + 1, a, b => ∃ c, R a c ∧ Chs R m c b
theorem Chs.snoc {α : Type} {R : α → α → Prop} : ∀ {m : Nat} {a b c : α}, Chs R m a b → R b c → Chs R (m + 1) a c
  | 0, a, b, c, h, g => by
    have h : a = b := h
    subst h
    exact ⟨c, g, rfl⟩
  | m + 1, a, b, c, h, g => by
    obtain ⟨d, h1, h2⟩ := h
    exact ⟨d, h1, Chs.snoc h2 g⟩
/-- inputs of a module -/
def insL (m : Mdl) : List Nat := (List.range m.length).filter (fun i => decide ((m.getD i nm0).2.1 = 0))
def sumW (s : Int) : Mdl → Int
  | [] => 0
  | x :: l => (if x.2.1 = s then x.2.2.1 else 0) + sumW s l
theorem sumW_app {s : Int} : ∀ {m : Mdl} {x : Nam}, sumW s (m ++ [x]) = sumW s m + if x.2.1 = s then x.2.2.1 else 0
  | [], x => by show _ + sumW s [] = sumW s [] + _; show _ + (0 : Int) = (0 : Int) + _; omega
  | y :: m, x => by
    show _ + sumW s (m ++ [x]) = (_ + sumW s m) + _
    rw [sumW_app (m := m)]; omega
/-- registers' bits and instances in all -/
def rgT (T : List (Int × Int)) : Mdl → Int
  | [] => 0
  | x :: l => (if x.2.1 = 3 then x.2.2.1 else if x.2.1 = 4 then (T.getD x.2.2.2.toNat (0, 0)).1 else 0) + rgT T l
def inT (T : List (Int × Int)) : Mdl → Int
  | [] => 0
  | x :: l => (if x.2.1 = 4 then 1 + (T.getD x.2.2.2.toNat (0, 0)).2 else 0) + inT T l
theorem rgT_app {T : List (Int × Int)} : ∀ {m : Mdl} {x : Nam}, rgT T (m ++ [x]) = rgT T m + if x.2.1 = 3 then x.2.2.1 else if x.2.1 = 4 then (T.getD x.2.2.2.toNat (0, 0)).1 else 0
  | [], x => by show _ + (0 : Int) = (0 : Int) + _; omega
  | y :: m, x => by
    show _ + rgT T (m ++ [x]) = (_ + rgT T m) + _
    rw [rgT_app (m := m)]; omega
theorem inT_app {T : List (Int × Int)} : ∀ {m : Mdl} {x : Nam}, inT T (m ++ [x]) = inT T m + if x.2.1 = 4 then 1 + (T.getD x.2.2.2.toNat (0, 0)).2 else 0
  | [], x => by show _ + (0 : Int) = (0 : Int) + _; omega
  | y :: m, x => by
    show _ + inT T (m ++ [x]) = (_ + inT T m) + _
    rw [inT_app (m := m)]; omega
def totS : List (Int × Int) → List Mdl → List (Int × Int)
  | T, [] => T
  | T, m :: l => totS (T ++ [(rgT T m, inT T m)]) l
theorem totS_app : ∀ {ms : List Mdl} {T : List (Int × Int)} {m : Mdl}, totS T (ms ++ [m]) = totS T ms ++ [(rgT (totS T ms) m, inT (totS T ms) m)]
  | [], T, m => rfl
  | y :: ms, T, m => by
    show totS (T ++ [(rgT T y, inT T y)]) (ms ++ [m]) = _
    rw [totS_app (ms := ms)]; rfl
theorem totS_len : ∀ {ms : List Mdl} {T : List (Int × Int)}, (totS T ms).length = T.length + ms.length
  | [], T => rfl
  | y :: ms, T => by
    show (totS (T ++ [(rgT T y, inT T y)]) ms).length = _
    rw [totS_len (ms := ms), List.length_append]; show T.length + 1 + ms.length = T.length + (ms.length + 1); omega
section DIT
variable (u : Nat → Int) (n : Nat)
/-- a new name and its width -/
def hdD (cur : Mdl) (j : Nat) : (Nat × Int) ⊕ (Int × Int) := oB (newT u n 40 (mTk cur) (nxT u n j)) (widD u n)
def inD (cur : Mdl) (j : Nat) : (Nat × Int) ⊕ (Int × Int) := oB (hdD u n cur j) fun t => oB (tkT u n 59 (.inl t.1)) fun e => .inl (e, t.2)
def rgV (w : Int) (b : Nat) : (Nat × Int) ⊕ (Int × Int) := if isS u n 61 b = true then oB (nxT u n b) fun a => oB (nuT u n 0 ((2 : Int) ^ w.toNat - 1) a) fun c => .inl (c, tkV u n a) else .inl (b, 0)
def rgD (cur : Mdl) (j : Nat) : (Nat × Int × Int) ⊕ (Int × Int) := oB (hdD u n cur j) fun t => oB (rgV u n t.2 t.1) fun s => oB (tkT u n 59 (.inl s.1)) fun e => .inl (e, t.2, s.2)
/-- an expression of a width; the fault is told at token p -/
def ExW (ms : List Mdl) (cur : Mdl) (w : Int) (p c : Nat) (k : List Row3) (res : (Nat × List Row3) ⊕ (Int × Int)) : Prop :=
  (∃ f, oGr (XD u n ms cur) (gE 0) c 0 (k, []) (.inr f) ∧ res = .inr f) ∨
  (∃ d k' w', oGr (XD u n ms cur) (gE 0) c 0 (k, []) (.inl (d, (k', [w']))) ∧ res = if w' = w then .inl (d, k') else .inr (13, (tkB u n p : Int)))
/-- a sign at token p, an expression -/
def GvB (ms : List Mdl) (cur : Mdl) (s w : Int) (p : Nat) (k : List Row3) (r : (Nat × List Row3) ⊕ (Int × Int)) : Prop :=
  (∃ f, tkT u n s (.inl p) = .inr f ∧ r = .inr f) ∨ ∃ c, tkT u n s (.inl p) = .inl c ∧ ExW u n ms cur w p c k r
/-- and a semicolon -/
def GvD (ms : List Mdl) (cur : Mdl) (s w : Int) (p : Nat) (k : List Row3) (res : (Nat × List Row3) ⊕ (Int × Int)) : Prop :=
  ∃ r, GvB u n ms cur s w p k r ∧ res = oB r (fun t => oB (tkT u n 59 (.inl t.1)) fun e => .inl (e, t.2))
def vaR (ms : List Mdl) (cur : Mdl) (j : Nat) (k : List Row3) (res : (Nat × List Row3 × Int) ⊕ (Int × Int)) : Prop :=
  (∃ f, hdD u n cur j = .inr f ∧ res = .inr f) ∨
  ∃ t, hdD u n cur j = .inl t ∧ ∃ r, GvD u n ms cur 61 t.2 t.1 k r ∧ res = oB r (fun s => .inl (s.1, s.2, t.2))
/-- a register whose next value is not yet told -/
def nkD (cur : Mdl) (gv : List Nat) (j : Nat) : Bool := inNm u n (mTk cur) j && decide ((cur.getD (fiN u n (mTk cur) j) nm0).2.1 = 3) && !(gv.contains (fiN u n (mTk cur) j))
def neH (cur : Mdl) (gv : List Nat) (j : Nat) : Qq := if tkK u n j = 1 then (if nkD u n cur gv j = true then nxT u n j else flT u n 11 j) else flT u n 2 j
def neR (ms : List Mdl) (cur : Mdl) (gv : List Nat) (j : Nat) (k : List Row3) (res : (Nat × List Row3) ⊕ (Int × Int)) : Prop :=
  (∃ f, neH u n cur gv j = .inr f ∧ res = .inr f) ∨
  ∃ b, neH u n cur gv j = .inl b ∧ GvD u n ms cur 256 (cur.getD (fiN u n (mTk cur) j) nm0).2.2.1 b k res
/-- one argument: the i-th; whether another one comes -/
def ArO (ms : List Mdl) (cur sub : Mdl) (own j i : Nat) (k : List Row3) (res : (Nat × List Row3 × Bool) ⊕ (Int × Int)) : Prop :=
  (∃ f, oGr (XD u n ms cur) (gE 0) j 0 (k, []) (.inr f) ∧ res = .inr f) ∨
  (∃ d k' w, oGr (XD u n ms cur) (gE 0) j 0 (k, []) (.inl (d, (k', [w]))) ∧ res =
    if i < (insL sub).length ∧ w ≠ (sub.getD ((insL sub).getD i 0) nm0).2.2.1 then .inr (13, (tkB u n j : Int))
    else if isS u n 44 d = true then (if (insL sub).length ≤ i + 1 then .inr (14, (tkB u n own : Int)) else oB (nxT u n d) fun j' => .inl (j', k', true)) else .inl (d, k', false))
def ArR (ms : List Mdl) (cur sub : Mdl) (own : Nat) : Nat → Nat → Nat → List Row3 → (Nat × Nat × List Row3) ⊕ (Int × Int) → Prop
  | 0, _, _, _, _ => False
  | m + 1, j, i, k, res => (∃ f, ArO u n ms cur sub own j i k (.inr f) ∧ res = .inr f) ∨ (∃ d k', ArO u n ms cur sub own j i k (.inl (d, k', false)) ∧ res = .inl (d, i + 1, k')) ∨ ∃ j' k', ArO u n ms cur sub own j i k (.inl (j', k', true)) ∧ ArR ms cur sub own m j' (i + 1) k' res
def AgR (ms : List Mdl) (cur sub : Mdl) (own j : Nat) (k : List Row3) (res : (Nat × Nat × List Row3) ⊕ (Int × Int)) : Prop :=
  (isS u n 41 j = true ∧ res = .inl (j, 0, k)) ∨ (isS u n 41 j = false ∧ ∃ m, ArR u n ms cur sub own m j 0 k res)
/-- the head of an instance: the token of its arguments, its module -/
def usH (mt : List Nat) (cur : Mdl) (j : Nat) : (Nat × Nat) ⊕ (Int × Int) := oB (newT u n 40 (mTk cur) (nxT u n j)) fun b =>
  if tkK u n b = 1 then (if inNm u n mt b = true then oB (tkT u n 40 (nxT u n b)) fun d => .inl (d, fiN u n mt b) else .inr (11, (tkB u n b : Int))) else .inr (2, (tkB u n b : Int))
def usT (sub : Mdl) (own e c : Nat) : Qq := if isS u n 41 e = true then (if c = (insL sub).length then tkT u n 59 (nxT u n e) else .inr (14, (tkB u n own : Int))) else flT u n 2 e
def usR (mt : List Nat) (ms : List Mdl) (cur : Mdl) (j : Nat) (k : List Row3) (res : (Nat × List Row3 × Nat) ⊕ (Int × Int)) : Prop :=
  (∃ f, usH u n mt cur j = .inr f ∧ res = .inr f) ∨
  ∃ t, usH u n mt cur j = .inl t ∧ ∃ r, AgR u n ms cur (ms.getD t.2 []) (j + 1) t.1 k r ∧ res = oB r (fun s => oB (usT u n (ms.getD t.2 []) (j + 1) s.1 s.2.1) (fun g => .inl (g, s.2.2, t.2)))
def isW (w : Int) (j : Nat) : Bool := decide (tkK u n j = 6 ∧ tkV u n j = w)
abbrev RIt : Type := Nat × List Row3 × Mdl × List Nat × List Int
/-- an item -/
def ItR (mt : List Nat) (ms : List Mdl) (cur : Mdl) (gv : List Nat) (j : Nat) (k : List Row3) (res : RIt ⊕ (Int × Int)) : Prop :=
  if isW u n 2 j = true then res = oB (inD u n cur j) (fun t => .inl (t.1, k, cur ++ [(j + 1, 0, t.2, 0)], gv, []))
  else if isW u n 3 j = true then ∃ r, vaR u n ms cur j k r ∧ res = oB r (fun t => .inl (t.1, t.2.1, cur ++ [(j + 1, 1, t.2.2, 0)], gv, [(cur.length : Int)]))
  else if isW u n 4 j = true then ∃ r, vaR u n ms cur j k r ∧ res = oB r (fun t => .inl (t.1, t.2.1, cur ++ [(j + 1, 2, t.2.2, 0)], gv, [(cur.length : Int)]))
  else if isW u n 5 j = true then res = oB (rgD u n cur j) (fun t => .inl (t.1, k, cur ++ [(j + 1, 3, t.2.1, t.2.2)], gv, [(cur.length : Int)]))
  else if isW u n 6 j = true then ∃ r, usR u n mt ms cur j k r ∧ res = oB r (fun t => .inl (t.1, t.2.1, cur ++ [(j + 1, 4, 0, (t.2.2 : Int))], gv, [(cur.length : Int)]))
  else ∃ r, neR u n ms cur gv j k r ∧ res = oB r (fun t => .inl (t.1, t.2, cur, gv ++ [fiN u n (mTk cur) j], [-1 - (fiN u n (mTk cur) j : Int)]))
def IStp (mt : List Nat) (ms : List Mdl) (a b : StM) : Prop := isS u n 125 a.1 = false ∧ ∃ r : RIt, ItR u n mt ms a.2.2.1 a.2.2.2.1 a.1 a.2.1 (.inl r) ∧ b = (r.1, r.2.1, r.2.2.1, r.2.2.2.1, a.2.2.2.2 ++ r.2.2.2.2.map (fun x => (x, a.2.1.length, r.2.1.length)))
def moH (mt : List Nat) (j : Nat) : Qq := tkT u n 123 (newT u n 16 mt (wT u n 1 (.inl j)))
/-- a module -/
def MoR (fs : List Fin0) (j : Nat) (k : List Row3) (res : (Nat × List Row3 × Fin0) ⊕ (Int × Int)) : Prop :=
  (∃ f, moH u n (fMt fs) j = .inr f ∧ res = .inr f) ∨
  ∃ b, moH u n (fMt fs) j = .inl b ∧ ∃ m a, Chs (IStp u n (fMt fs) (fMs fs)) m (b, k, [], [], []) a ∧
    ((isS u n 125 a.1 = true ∧ res = oB (nxT u n a.1) (fun e => .inl (e, a.2.1, (j + 1, b, a.2.2.1, a.2.2.2.2)))) ∨
     (isS u n 125 a.1 = false ∧ ∃ f, ItR u n (fMt fs) (fMs fs) a.2.2.1 a.2.2.2.1 a.1 a.2.1 (.inr f) ∧ res = .inr f))
def DStp (a b : StD) : Prop := (a.2.2 ≠ [] → tkK u n a.1 ≠ 5) ∧ ∃ r : Nat × List Row3 × Fin0, MoR u n a.2.2 a.1 a.2.1 (.inl r) ∧ b = (r.1, r.2.1, a.2.2 ++ [r.2.2])
def fLast (fs : List Fin0) : Fin0 := fs.getD (fs.length - 1) (0, 0, [], [])
/-- the last checks -/
def fnD (fs : List Fin0) : Int := if 200 < ((totS [] (fMs fs)).getD (fs.length - 1) (0, 0)).2 then 20 else if 6 < ((totS [] (fMs fs)).getD (fs.length - 1) (0, 0)).1 ∨ 12 < sumW 0 (fLast fs).2.2.1 + ((totS [] (fMs fs)).getD (fs.length - 1) (0, 0)).1 then 21 else if sumW 1 (fLast fs).2.2.1 = 0 ∨ 16 < sumW 1 (fLast fs).2.2.1 then 22 else 0
/-- a whole design -/
def DsR (res : (List Row3 × List Fin0) ⊕ (Int × Int)) : Prop :=
  (tkK u n 0 = 4 ∧ res = .inr (1, (tkB u n 0 : Int))) ∨
  (tkK u n 0 ≠ 4 ∧ ∃ m a, Chs (DStp u n) m (0, [], []) a ∧
    ((a.2.2 ≠ [] ∧ tkK u n a.1 = 5 ∧ res = if fnD a.2.2 = 0 then .inl (a.2.1, a.2.2) else .inr (fnD a.2.2, (tkB u n (fLast a.2.2).1 : Int))) ∨
     ((a.2.2 = [] ∨ tkK u n a.1 ≠ 5) ∧ ∃ f, MoR u n a.2.2 a.1 a.2.1 (.inr f) ∧ res = .inr f)))
end DIT
