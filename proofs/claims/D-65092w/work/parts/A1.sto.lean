/-! the store and the combinators of models: no machine in sight -/
abbrev Sto : Type := (Nat → Nat → Int32) × (Nat → Nat → Int64) × (Nat → Nat → Nat) × Nat × Nat
def gI (S : Sto) (a i : Nat) : Int := (S.1 a i).toInt
def gL (S : Sto) (a i : Nat) : Int64 := S.2.1 a i
def gR (S : Sto) (a i : Nat) : Nat := S.2.2.1 a i
def nC (S : Sto) : Nat := S.2.2.2.1
def nS (S : Sto) : Nat := S.2.2.2.2
def sI (S : Sto) (a i : Nat) (v : Int) : Sto := (fun b j => if b = a ∧ j = i then Int32.ofInt v else S.1 b j, S.2)
def sL (S : Sto) (a i : Nat) (v : Int64) : Sto := (S.1, fun b j => if b = a ∧ j = i then v else S.2.1 b j, S.2.2)
def sR (S : Sto) (a i : Nat) (v : Nat) : Sto := (S.1, S.2.1, fun b j => if b = a ∧ j = i then v else S.2.2.1 b j, S.2.2.2)
def w32 (x : Int) : Int := (Int32.ofInt x).toInt
def bz (x : Int) : Int := if x = 0 then 0 else 1
def cCB : Nat := 939359
def cSB : Nat := 6273932
def kKlo : List Nat := [0, 1, 100, 2, 3, 4, 101, 102, 106, 7, 4, 103, 104, 104, 104, 104, 105, 6, 0, 7, 4, 103, 104, 104, 104, 104, 105, 6, 0, 7, 4, 103, 104, 104, 104, 104, 105, 6, 0, 7, 4, 103, 104, 104, 104, 104, 105, 6, 0, 7, 4, 103, 104, 104, 104, 104, 105, 6, 0, 7, 4, 103, 104, 104, 104, 104, 105, 6, 0, 7, 4, 103, 104, 104, 104, 104, 105, 6, 0, 7, 4, 103, 104, 104, 104, 104, 105, 6, 0, 7, 4, 103, 104, 104, 104, 104, 105, 6, 0, 7, 4, 103, 104, 104, 104, 104, 105, 6, 0, 7, 4, 103, 104, 104, 104, 104, 105, 6, 0, 7, 4, 103, 104, 104, 104, 104, 105, 6, 0, 7, 4, 103, 104, 104, 104, 104, 105, 6, 0, 7, 4, 103, 104, 104, 104, 104, 105, 6, 0, 7, 4, 103, 104, 104, 104, 104, 105, 6, 0, 7, 4, 103, 104, 104, 104, 104, 105, 6, 0, 5, 6, 0, 8, 107, 108, 109, 110, 9, 111, 107, 108, 112, 113, 114, 10, 3, 4, 115, 116, 4, 117, 118, 11, 119, 119, 119, 120, 121, 12, 108, 108, 112, 108, 112, 122, 122, 123, 122, 124, 125, 124, 118, 108, 108, 122, 122, 108, 124, 126, 13, 127, 127, 127, 128, 128, 127, 14, 129, 130, 15, 131, 132, 133, 134, 132, 135, 136, 136, 128, 128, 16, 137, 138, 127, 17, 128, 128, 128, 128, 139, 139, 139, 140, 141, 104, 104, 142, 143, 18, 144, 144, 145, 146, 147, 19, 148, 148, 144, 119, 119, 144, 144, 151, 20, 108, 108, 108, 149, 150, 108, 119, 119, 20, 108, 108, 108, 149, 150, 108, 119, 119, 20, 108, 108, 108, 149, 150, 108, 119, 119, 20, 108, 108, 108, 149, 150, 108, 119, 119, 20, 108, 108, 108, 149, 150, 108, 119, 119, 20, 108, 108, 108, 149, 150, 108, 119, 119, 152, 21, 135, 135, 135, 135, 21, 135, 135, 135, 135, 21, 135, 135, 135, 135, 160, 22, 21, 135, 135, 135, 135, 153, 154, 149, 150, 155, 155, 131, 133, 144, 156, 104, 104, 157, 158, 157, 159, 22, 21, 135, 135, 135, 135, 153, 154, 149, 150, 155, 155, 131, 133, 144, 156, 104, 104, 157, 158, 157, 159, 22, 21, 135, 135, 135, 135, 153, 154, 149, 150, 155, 155, 131, 133, 144, 156, 104, 104, 157, 158, 157, 159, 22, 21, 135, 135, 135, 135, 153, 154, 149, 150, 155, 155, 131, 133, 144, 156, 104, 104, 157, 158, 157, 159, 161, 162, 163, 144]
def kKhi : List Nat := [23, 100, 164, 165, 165, 166, 165, 149, 149, 149, 127, 127, 127, 127, 167, 149, 149, 149, 149, 107, 107, 107, 168, 169, 169, 119, 169, 170, 171, 149, 149, 149, 149, 127, 107, 172, 161, 150, 150, 150, 150, 150, 150, 150, 150, 150, 150, 173, 173, 173, 174, 175, 176, 176, 177, 169, 178, 169, 149, 113, 147, 135, 135, 135, 135, 135, 162, 147, 175, 175, 175, 175, 179, 119, 119, 119, 119, 119, 119, 119, 119, 120, 169, 169, 169, 178, 178, 114, 180, 119, 119, 173, 119, 119, 120, 130, 169, 169, 114, 168, 176, 119, 169, 168, 168, 163, 118, 118, 118, 118, 118, 118, 181, 182, 114, 183, 118, 184, 184, 184, 184, 185, 118, 118, 186, 186, 187, 187, 187, 188, 188, 188, 188, 188, 163, 189, 190, 190, 190, 191, 132, 132, 132, 134, 132, 188, 163, 118, 192, 193, 194, 195, 196, 188, 188, 118, 197, 197, 198, 199, 199, 199, 188, 104, 104, 104, 200, 195, 201, 202, 147, 162, 118, 170, 203, 204, 205, 170, 206]
def kK (a : Nat) : Nat := if a < 2000 then kKlo.getD a 0 else kKhi.getD (a - 2000) 0
def aNl : List Nat := [65536, 204, 17, 480, 40, 40, 16, 1024, 1013, 64320, 5400, 64832, 1013, 64, 64, 156, 13, 48, 4, 4096, 4096, 4097, 2026, 6078, 4000, 12000, 576, 640, 162, 60, 8, 4712, 4712, 4712, 4712, 12, 56544, 2640, 2640, 41, 6724, 164, 6560, 1944, 162, 163, 20000, 3, 10368, 16, 6, 6, 3, 150, 450, 156, 10000, 1224, 1224, 78336, 4, 6, 3, 4, 65537, 65537, 65537, 640, 8192, 2048, 5120, 204800, 320, 12288, 96, 36, 24576, 131072, 2048, 4200, 192, 600, 1800, 24, 48, 256, 624, 700, 256, 18848, 18848, 1024, 40000, 2700, 65536, 256, 2700, 160, 5632, 225280, 512, 20010, 257, 5120, 102400, 32, 1]
def aN (κ : Nat) : Nat := aNl.getD (κ - 100) 0
/-- the combinators of models -/
def inb (j : Int) (n : Nat) : Prop := 0 ≤ w32 j ∧ w32 j < n
abbrev ixn (j : Int) : Nat := (w32 j).toNat
def rdI {τ : Type} (n : Nat) (S : Sto) (a : Nat) (j : Int) (k : Int → Option τ) : Option τ := if 0 ≤ w32 j ∧ w32 j < n then k (gI S a (ixn j)) else none
def rdZ {τ : Type} (n : Nat) (S : Sto) (a : Nat) (j : Int) (k : Int → Option τ) : Option τ := if 0 ≤ w32 j ∧ w32 j < n then k (bz (gI S a (ixn j))) else none
def rdL {τ : Type} (n : Nat) (S : Sto) (a : Nat) (j : Int) (k : Int64 → Option τ) : Option τ := if 0 ≤ w32 j ∧ w32 j < n then k (gL S a (ixn j)) else none
def wrI {τ : Type} (n : Nat) (S : Sto) (a : Nat) (j v : Int) (k : Sto → Option τ) : Option τ := if 0 ≤ w32 j ∧ w32 j < n then k (sI S a (ixn j) v) else none
def wrL {τ : Type} (n : Nat) (S : Sto) (a : Nat) (j : Int) (v : Int64) (k : Sto → Option τ) : Option τ := if 0 ≤ w32 j ∧ w32 j < n then k (sL S a (ixn j) v) else none
def wf {τ : Type} (S : Sto) (a i : Nat) (v : Int) (k : Sto → Option τ) : Option τ := k (sI S a i v)
def wfL {τ : Type} (S : Sto) (a i : Nat) (v : Int64) (k : Sto → Option τ) : Option τ := k (sL S a i v)
def wfR {τ : Type} (S : Sto) (a i : Nat) (v : Nat) (k : Sto → Option τ) : Option τ := k (sR S a i v)
def bX {σ τ : Type} (mm : Option σ) (k : σ → Option τ) : Option τ := match mm with
  | none => none
  | some s => k s
def bE {σ τ : Type} (mm : Option (σ ⊕ τ)) (k : σ → Option τ) : Option τ := match mm with
  | none => none
  | some (.inl s) => k s
  | some (.inr t) => some t
def lp {σ ρ : Type} (f : σ → Option (σ ⊕ ρ)) : Nat → σ → Option ρ
  | 0, _ => none
  | n + 1, s => match f s with
    | none => none
    | some (.inl s') => lp f n s'
    | some (.inr r) => some r
def cFU : Nat := 1000000000000
def lpF {σ ρ : Type} (f : σ → Option (σ ⊕ ρ)) (s : σ) : Option ρ := lp f cFU s
def gz {τ : Type} (v : Int) (k : Option τ) : Option τ := if v = 0 ∨ v = 1 then k else none
def gnz {τ : Type} (v : Int) (k : Option τ) : Option τ := if w32 v = 0 then none else k
def gref {τ : Type} (a : Nat) (k : Option τ) : Option τ := if a = 0 then none else k
/-- arithmetic that isn't that of Int -/
def aDiv (x y : Int) : Int := (Int32.ofInt x / Int32.ofInt y).toInt
def aRem (x y : Int) : Int := (Int32.ofInt x - Int32.ofInt x / Int32.ofInt y * Int32.ofInt y).toInt
def aAnd (x y : Int) : Int := (Int32.ofInt x &&& Int32.ofInt y).toInt
def aOr (x y : Int) : Int := (Int32.ofInt x ||| Int32.ofInt y).toInt
def aXor (x y : Int) : Int := (Int32.ofInt x ^^^ Int32.ofInt y).toInt
def aShl (x y : Int) : Int := (Int32.ofInt x <<< (Int32.ofInt y &&& 31)).toInt
def aShr (x y : Int) : Int := (Int32.ofInt x >>> (Int32.ofInt y &&& 31)).toInt
def aUsh (x y : Int) : Int := ((Int32.ofInt x).toUInt32 >>> ((Int32.ofInt y).toUInt32 &&& Int32.toUInt32 31)).toInt32.toInt
def w8 (x : Int) : Int := (Int32.ofInt x).toInt8.toInt32.toInt
def w16 (x : Int) : Int := (Int32.ofInt x).toInt16.toInt32.toInt
def w1 (x : Int) : Int := (vp_nar .boolean (Int32.ofInt x)).toInt
def i2l (x : Int) : Int64 := (Int32.ofInt x).toInt64
def l2i (x : Int64) : Int := x.toInt32.toInt
def lCmp (x y : Int64) : Int := (lg_cmp x y).toInt
def lShl (x : Int64) (y : Int) : Int64 := x <<< ((Int32.ofInt y).toInt64 &&& 63)
def lShr (x : Int64) (y : Int) : Int64 := x >>> ((Int32.ofInt y).toInt64 &&& 63)
def lUsh (x : Int64) (y : Int) : Int64 := (x.toUInt64 >>> ((Int32.ofInt y).toInt64.toUInt64 &&& Int64.toUInt64 63)).toInt64
def rdA {τ : Type} (n : Nat) (j : Int) (k : Nat → Option τ) : Option τ := if 0 ≤ w32 j ∧ w32 j < n then k (ixn j) else none
def gk {τ : Type} (e κ : Nat) (k : Nat → Option τ) : Option τ := if kK e = κ then k e else none
def gkc {τ : Type} (e κ : Nat) (k : Option τ) : Option τ := if kK e = κ then k else none
/-- kinds of arrays of booleans -/
def zKs : List Nat := [105, 112, 113, 120, 129, 134, 138, 144, 158, 161, 162, 163, 167, 178, 190, 191, 194, 195, 196, 203]
def gB {τ : Type} (e : Nat) (k : Option τ) : Option τ := if kK e ∈ zKs then k else none
/-- a place of a list that nobody writes -/
def rdC {τ : Type} (vs : List Int) (j : Int) (k : Int → Option τ) : Option τ := if 0 ≤ w32 j ∧ w32 j < vs.length then k (vs.getD (ixn j) 0) else none
/-- a place of a Row's own array, found before at e -/
def rdW {τ : Type} (S : Sto) (a e : Nat) (j : Int) (k : Int → Option τ) : Option τ := if gR S a 0 = e ∧ 0 ≤ w32 j ∧ w32 j < gI S a 2 then k (gI S (a + 1) (ixn j)) else none
/-- a stretch of an array is copied -/
def sCp (S : Sto) (a i b j n : Nat) : Sto := (fun c x => if c = b ∧ j ≤ x ∧ x < j + n then S.1 a (x - j + i) else S.1 c x, S.2)
def cpI {τ : Type} (n1 n2 : Nat) (S : Sto) (a : Nat) (i : Int) (b : Nat) (j n : Int) (k : Sto → Option τ) : Option τ := if 0 ≤ w32 i ∧ 0 ≤ w32 j ∧ 0 ≤ w32 n ∧ w32 i + w32 n ≤ n1 ∧ w32 j + w32 n ≤ n2 then k (sCp S a (ixn i) b (ixn j) (ixn n)) else none
/-- an exception is made -/
def thrS (S : Sto) : Sto := (S.1, S.2.1, S.2.2.1, nC S + 1, nS S + 6)
def gth {τ : Type} (S : Sto) (k : Option τ) : Option τ := if nC S + 1 ≤ cCB ∧ nS S + 6 ≤ cSB then k else none
def bT {σ τ : Type} (mm : Option (σ ⊕ (Nat × Sto))) (k : σ → Option (τ ⊕ (Nat × Sto))) : Option (τ ⊕ (Nat × Sto)) := match mm with
  | none => none
  | some (.inl s) => k s
  | some (.inr t) => some (.inr t)
/-- Row.add -/
def rGrow (S : Sto) (a n : Nat) : Sto := (fun b j => if b = a + 1 ∧ n ≤ j then 0 else if b = a ∧ j = 2 then Int32.ofInt (2 * n) else S.1 b j, S.2.1, fun b j => if b = a ∧ j = 0 then nC S else S.2.2.1 b j, nC S + 1, nS S + 2 * n)
def mX6_grow (S : Sto) (a : Nat) : Option Sto := if gI S a 1 = gI S a 2 then (if 0 ≤ gI S a 1 ∧ gI S a 1 ≤ 1000000 ∧ nC S + 1 ≤ cCB ∧ nS S + 2 * (gI S a 1).toNat ≤ cSB then some (rGrow S a (gI S a 1).toNat) else none) else some S
def mX6_add (S : Sto) (a0 : Nat) (p1 : Int) : Option Sto := bX (mX6_grow S a0) fun S1 => if 0 ≤ gI S1 a0 1 ∧ gI S1 a0 1 < gI S1 a0 2 then some (sI (sI S1 a0 1 (gI S1 a0 1 + 1)) (a0 + 1) (gI S1 a0 1).toNat p1) else none
/-- a call within a try: kinds of exceptions and the numbers that their handlers give -/
def bC {σ : Type} (mm : Option (σ ⊕ (Nat × Sto))) (k : σ → Option (Int × Sto)) (cs : List (Nat × Int)) : Option (Int × Sto) := match mm with
  | none => none
  | some (.inl s) => k s
  | some (.inr t) => match cs.lookup t.1 with
    | some c => some (c, t.2)
    | none => none
