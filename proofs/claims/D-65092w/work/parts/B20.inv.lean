/-! what holds between calls -/
def HeapOk (c : Nat) (S : Sto) : Prop := nC S ≤ 1000 + 10 * c ∧ nS S ≤ 3100000 + 20000 * c
/-- designs -/
abbrev Dsg : Type := Nat → Nat → Int
def gIn (G : Dsg) : Nat := (G 0 0).toNat
def gSt (G : Dsg) : Nat := (G 1 0).toNat
def gOu (G : Dsg) : Nat := (G 2 0).toNat
def gNo (G : Dsg) : Nat := (G 3 0).toNat
def gFi (G : Dsg) : Nat := 1 + gIn G + gSt G
def mxF (z : Int) (f : Nat → Int) : Nat → Int
  | 0 => z
  | n + 1 => max (mxF z f n) (f n)
def gDepth (G : Dsg) : Int := mxF (mxF 0 (fun k => G 16 ((G 7 k).toNat / 2)) (gOu G)) (fun k => G 16 ((G 8 k).toNat / 2)) (gSt G)
/-- values of nodes by patterns; what a swept node stands for: the least one that is alike -/
def litV (v : Nat → Bool) (l : Int) : Bool := v (l.toNat / 2) ^^ decide (l % 2 = 1)
def gvN (lo hi : Nat → Int) (fi p : Nat) : Nat → Nat → Bool
  | 0, n => if n = 0 then false else p.testBit (n - 1)
  | k + 1, n => if n = fi + k then (litV (gvN lo hi fi p k) (lo n) && litV (gvN lo hi fi p k) (hi n)) else gvN lo hi fi p k n
def gVal (G : Dsg) (p n : Nat) : Bool := gvN (G 4) (G 5) (gFi G) p (gNo G - gFi G) n
def swOk (val : Nat → Nat → Bool) (st : Nat → Int) (P N : Nat) : Prop := ∀ n, n < N → (∀ p, p < P → val p n = litV (val p) (st n)) ∧ ∀ m, m < (st n).toNat / 2 → (∃ p, p < P ∧ val p n ≠ val p m) ∧ ∃ p, p < P ∧ val p n = val p m
def gSw (G : Dsg) : Prop := swOk (gVal G) (G 6) (2 ^ (gIn G + gSt G)) (gNo G)
def WFG (G : Dsg) : Prop :=
  (0 ≤ G 0 0 ∧ 0 ≤ G 1 0 ∧ G 1 0 ≤ 6 ∧ G 0 0 + G 1 0 ≤ 12 ∧ 1 ≤ G 2 0 ∧ G 2 0 ≤ 16 ∧ 1 + G 0 0 + G 1 0 ≤ G 3 0 ∧ G 3 0 ≤ 1 + G 0 0 + G 1 0 + 1000 ∧ gSw G) ∧
  (∀ n, gFi G ≤ n → n < gNo G → 0 ≤ G 4 n ∧ G 4 n < 2 * n ∧ 0 ≤ G 5 n ∧ G 5 n < 2 * n) ∧
  (∀ n, n < gNo G → 0 ≤ G 6 n ∧ G 6 n < 2 * (n + 1) ∧ 0 ≤ G 16 n ∧ G 16 n ≤ 1000) ∧
  (∀ k, k < gOu G → 0 ≤ G 7 k ∧ G 7 k < 2 * G 3 0) ∧
  (∀ k, k < gSt G → 0 ≤ G 8 k ∧ G 8 k < 2 * G 3 0) ∧
  (∀ p, p < 2 ^ (gIn G + gSt G) → 0 ≤ G 9 p ∧ G 9 p < 2 ^ gOu G ∧ 0 ≤ G 10 p ∧ G 10 p < 2 ^ gSt G) ∧
  (0 ≤ G 11 0 ∧ G 11 0 < 2 ^ gSt G ∧ 0 ≤ G 12 0 ∧ G 12 0 < 2 ^ gSt G ∧ G 13 0 = gDepth G)
def RepG (S : Sto) (L : Nat) (G : Dsg) : Prop :=
  ((gI S L 4) = G 0 0 ∧ (gI S L 5) = G 1 0 ∧ (gI S L 6) = G 2 0 ∧ (gI S L 3) = G 3 0 ∧ (gI S L 7) = G 11 0 ∧ (gI S L 8) = G 12 0 ∧ (gI S L 14) = G 14 0 ∧ (gI S L 15) = G 15 0) ∧
  (∀ n, gFi G ≤ n → n < gNo G → (gI S (L + 1) n) = G 4 n ∧ (gI S (L + 2) n) = G 5 n) ∧
  (∀ n, n < gNo G → (gI S (L + 6) n) = G 6 n ∧ (gI S (L + 3) n) = G 16 n) ∧
  (∀ k, k < gOu G → (gI S (L + 4) k) = G 7 k) ∧ (∀ k, k < gSt G → (gI S (L + 5) k) = G 8 k) ∧
  (∀ p, p < 2 ^ (gIn G + gSt G) → (gI S (L + 7) p) = G 9 p ∧ (gI S (L + 8) p) = G 10 p)
def RefG (S : Sto) (d : Nat) (G : Dsg) : Prop :=
  ((gI S 2037 d) = G 0 0 ∧ (gI S 2038 d) = G 1 0 ∧ (gI S 2039 d) = G 2 0 ∧ (gI S 2042 d) = G 3 0 ∧ (gI S 2043 d) = 1 + G 0 0 + G 1 0 ∧ (gI S 2040 d) = G 11 0 ∧ (gI S 2041 d) = G 12 0 ∧ (gI S 2045 d) = G 14 0 ∧ (gI S 2046 d) = G 15 0 ∧ (gI S 2044 d) = G 13 0) ∧
  (∀ n, gFi G ≤ n → n < gNo G → (gI S 2047 (2048 * d + n)) = G 4 n ∧ (gI S 2048 (2048 * d + n)) = G 5 n) ∧
  (∀ n, n < gNo G → (gI S 2049 (2048 * d + n)) = G 6 n) ∧
  (∀ k, k < gOu G → (gI S 2050 (16 * d + k)) = G 7 k) ∧ (∀ k, k < gSt G → (gI S 2051 (6 * d + k)) = G 8 k) ∧
  (∀ p, p < 2 ^ (gIn G + gSt G) → (gI S 2052 (4096 * d + p)) = G 9 p ∧ (gI S 2053 (4096 * d + p)) = G 10 p)
/-- libraries -/
abbrev Lib : Type := Nat → Nat → Int
def liN (B : Lib) : Nat := (B 0 0).toNat
def WFL (B : Lib) : Prop := (1 ≤ B 0 0 ∧ B 0 0 ≤ 12) ∧ ∀ c, c < liN B → 1 ≤ B 1 c ∧ B 1 c ≤ 3 ∧ 0 ≤ B 2 c ∧ B 2 c < 2 ^ (2 ^ (B 1 c).toNat) ∧ 1 ≤ B 3 c ∧ B 3 c ≤ 1000 ∧ 1 ≤ B 4 c ∧ B 4 c ≤ 100
def RepL (S : Sto) (L : Nat) (B : Lib) : Prop := (gI S L 0) = B 0 0 ∧ ∀ c, c < liN B → (gI S (L + 1) c) = B 1 c ∧ (gI S (L + 2) c) = B 2 c ∧ (gI S (L + 3) c) = B 3 c ∧ (gI S (L + 4) c) = B 4 c
def RefL (S : Sto) (l : Nat) (B : Lib) : Prop := (gI S 2067 l) = B 0 0 ∧ ∀ c, c < liN B → (gI S 2068 (12 * l + c)) = B 1 c ∧ (gI S 2069 (12 * l + c)) = B 2 c ∧ (gI S 2070 (12 * l + c)) = B 3 c ∧ (gI S 2071 (12 * l + c)) = B 4 c
/-- the tape -/
def InvT (c : Nat) (S : Sto) : Prop := ∃ n : Nat, n ≤ 20 * c ∧ (gI S 1 1) = n ∧ (gI S 2000 2) = n ∧ ∀ i, i < n → (gI S 2 i) = (gI S 2001 i) ∧ -128 ≤ (gI S 2 i) ∧ (gI S 2 i) < 128
/-- rows that grow; marks of the mappers -/
def rowL (a : Nat) : Bool := Nat.beq a 170 || (Nat.ble 17 a && Nat.ble a 167 && Nat.beq (a % 10) 7)
def keptN (a i : Nat) : Bool := (rowL a && Nat.beq i 2) || (Nat.beq a 198 && Nat.beq i 20) || Nat.beq a 213 || (Nat.beq a 2000 && Nat.beq i 127) || Nat.beq a 2096
def InvN (c : Nat) (S : Sto) : Prop := (∀ a, rowL a = true → ∃ k : Nat, k ≤ 5 ∧ gI S a 2 = ((256 * 2 ^ k : Nat) : Int)) ∧ (0 ≤ gI S 198 20 ∧ gI S 198 20 ≤ 100000 * c ∧ ∀ n, n < 1013 → gI S 213 n ≤ gI S 198 20) ∧
  (0 ≤ gI S 2000 127 ∧ gI S 2000 127 ≤ 100000 * c ∧ ∀ n, n < 2048 → - gI S 2000 127 ≤ gI S 2096 n ∧ gI S 2096 n ≤ gI S 2000 127)
def InvF (c : Nat) (S : Sto) : Prop := (gI S 1 2) = (gI S 2000 79) ∧ InvN c S
def InvW (S : Sto) : Prop := ∃ n : Nat, n ≤ 4097 ∧ (gI S 192 5) = n ∧ (gI S 2000 95) = n ∧ ∀ i, i < n → (gI S 197 i) = (gI S 2072 i)
def thG (S : Sto) (d : Nat) : Prop := (gI S 432 d) = 1
def thL (S : Sto) (l : Nat) : Prop := (gI S 433 l) = 1
def thC (S : Sto) (k : Nat) : Prop := (gI S 434 k) = 1
def InvG (S : Sto) (d : Nat) : Prop := ((gI S 432 d) = 0 ∨ (gI S 432 d) = 1) ∧ (gI S 2036 d) = (gI S 432 d) ∧ (thG S d → ∃ G, WFG G ∧ RepG S (273 + 9 * d) G ∧ RefG S d G)
def InvL (S : Sto) (l : Nat) : Prop := ((gI S 433 l) = 0 ∨ (gI S 433 l) = 1) ∧ (gI S 2066 l) = (gI S 433 l) ∧ (thL S l → ∃ B, WFL B ∧ RepL S (328 + 5 * l) B ∧ RefL S l B)
/-- places -/
def kS (C : Chp) : Nat := (C 15 0).toNat
def kY (C : Chp) : Nat := (C 16 0).toNat
def kE (C : Chp) : Nat := kR C + kG C
def kSz (C : Chp) (e : Nat) : Nat := if e < kR C then 2 else kAr C (e - kR C) + 1
def kH (C : Chp) : Int := if C 16 0 = 0 then 0 else max (3 * C 16 0 + 2) (max (C 0 0) (C 2 0))
def WFP (C : Chp) : Prop :=
  (0 ≤ C 15 0 ∧ C 15 0 ≤ 60 ∧ 0 ≤ C 16 0 ∧ C 16 0 ≤ 12 ∧ (C 16 0 = 0 → C 15 0 = 0) ∧ (C 16 0 ≠ 0 → 4 ≤ C 15 0)) ∧
  (C 16 0 ≠ 0 → ∀ e, e < kE C → 0 ≤ C 17 e ∧ C 17 e + kSz C e ≤ C 15 0 ∧ 0 ≤ C 18 e ∧ C 18 e < C 16 0) ∧
  (C 16 0 ≠ 0 → ∀ e f, e < kE C → f < kE C → e ≠ f → C 18 e = C 18 f → C 17 e + kSz C e ≤ C 17 f ∨ C 17 f + kSz C f ≤ C 17 e)
def RepP (S : Sto) (L : Nat) (C : Chp) : Prop :=
  ((gI S L 11) = C 15 0 ∧ (gI S L 12) = C 16 0 ∧ (gI S L 13) = kH C) ∧
  (C 16 0 ≠ 0 → ∀ e, e < kE C → (gI S (L + 10) e) = C 17 e ∧ (gI S (L + 11) e) = C 18 e)
def RefP (S : Sto) (k : Nat) (C : Chp) : Prop :=
  ((gI S 2123 k) = C 16 0 ∧ (C 16 0 ≠ 0 → (gI S 2122 k) = C 15 0)) ∧
  (C 16 0 ≠ 0 → ∀ e, e < kE C → (gI S 2124 (156 * k + e)) = C 17 e ∧ (gI S 2125 (156 * k + e)) = C 18 e)
/-- wires: whether routed; by points the net, steps in X, in Y, vias; by nets whether open -/
def kLy (C : Chp) : Nat := (kS C + 2) * (kH C).toNat
def WFW (C : Chp) : Prop := (C 19 0 = 0 ∨ C 19 0 = 1) ∧ (C 19 0 = 1 → C 16 0 ≠ 0 ∧
  (∀ p, p < 2 * kLy C → -1 ≤ C 20 p ∧ C 20 p < kN C ∧ (C 21 p = 0 ∨ C 21 p = 1) ∧ (C 31 p = 0 ∨ C 31 p = 1) ∧ (C 32 p = 0 ∨ C 32 p = 1)) ∧
  (∀ p, p < 2 * kLy C → C 21 p = 1 → p < kLy C ∧ p % (kS C + 2) + 1 < kS C + 2 ∧ C 20 (p + 1) = C 20 p ∧ C 20 p ≠ -1) ∧
  (∀ p, p < 2 * kLy C → C 31 p = 1 → kLy C ≤ p ∧ p + (kS C + 2) < 2 * kLy C ∧ C 20 (p + (kS C + 2)) = C 20 p ∧ C 20 p ≠ -1) ∧
  (∀ p, p < 2 * kLy C → C 32 p = 1 → p < kLy C ∧ C 20 p ≠ -1) ∧
  (∀ n, n < kN C → C 22 n = 0 ∨ C 22 n = 1))
def RepW (S : Sto) (L : Nat) (C : Chp) : Prop := (gI S L 16) = C 19 0 ∧ (C 19 0 = 1 → (∀ p, p < 2 * kLy C → (gI S (L + 12) p) = C 20 p ∧ (gI S (L + 13) p) = C 21 p + 2 * C 31 p + 4 * C 32 p) ∧ ∀ n, n < kN C → (gI S (L + 14) n) = C 22 n)
def RefW (S : Sto) (k : Nat) (C : Chp) : Prop := (gI S 2134 k) = C 19 0 ∧ (C 19 0 = 1 → (∀ p, p < 2 * kLy C → (gI S 2135 (4712 * k + p)) = C 20 p ∧ (gI S 2136 (4712 * k + p)) = C 21 p ∧ (gI S 2137 (4712 * k + p)) = C 31 p ∧ (gI S 2138 (4712 * k + p)) = C 32 p) ∧ ∀ n, n < kN C → (gI S 2139 (256 * k + n)) = C 22 n)
/-- what is drawn: nets, rows, columns, vias; out of widths, owners, steps -/
abbrev Bx5 : Type := Int × Int × Int × Int × Int
def rwB (sx : Nat → Int) (W y : Nat) : Nat → Nat
  | 0 => 0
  | x + 1 => if sx (y * W + x) = 1 then rwB sx W y x else x + 1
def dRw (own sx : Nat → Int) (n W y : Nat) : Nat → List Bx5
  | 0 => []
  | x + 1 => dRw own sx n W y x ++ (if own (y * W + x) = (n : Int) ∧ sx (y * W + x) = 0 then [(0, 4 * (rwB sx W y x : Int) - 1, 4 * (y : Int) - 1, 4 * (x : Int) + 1, 4 * (y : Int) + 1)] else [])
def dRws (own sx : Nat → Int) (n W : Nat) : Nat → List Bx5
  | 0 => []
  | y + 1 => dRws own sx n W y ++ dRw own sx n W y W
def clB (sy : Nat → Int) (W l x : Nat) : Nat → Nat
  | 0 => 0
  | y + 1 => if sy (l + (y * W + x)) = 1 then clB sy W l x y else y + 1
def dCl (own sy : Nat → Int) (n W l x : Nat) : Nat → List Bx5
  | 0 => []
  | y + 1 => dCl own sy n W l x y ++ (if own (l + (y * W + x)) = (n : Int) ∧ sy (l + (y * W + x)) = 0 then [(1, 4 * (x : Int) - 1, 4 * (clB sy W l x y : Int) - 1, 4 * (x : Int) + 1, 4 * (y : Int) + 1)] else [])
def dCls (own sy : Nat → Int) (n W l H : Nat) : Nat → List Bx5
  | 0 => []
  | x + 1 => dCls own sy n W l H x ++ dCl own sy n W l x H
def dVi (own v : Nat → Int) (n W : Nat) : Nat → List Bx5
  | 0 => []
  | p + 1 => dVi own v n W p ++ (if own p = (n : Int) ∧ v p = 1 then [(2, 4 * ((p % W : Nat) : Int) - 1, 4 * ((p / W : Nat) : Int) - 1, 4 * ((p % W : Nat) : Int) + 1, 4 * ((p / W : Nat) : Int) + 1)] else [])
def dNts (own sx sy v : Nat → Int) (W H : Nat) : Nat → List Bx5
  | 0 => []
  | n + 1 => dNts own sx sy v W H n ++ (dRws own sx n W H ++ (dCls own sy n W (W * H) H W ++ dVi own v n W (W * H)))
def dAll (C : Chp) : List Bx5 := dNts (C 20) (C 21) (C 31) (C 32) (kS C + 2) (kH C).toNat (kN C)
def dOkB (C : Chp) : Prop := C 23 0 ≠ -1 → C 16 0 ≠ 0 ∧ (dAll C).length ≤ 2000
/-- boxes: how many or -1, their five numbers -/
def kBx (C : Chp) : Nat := (C 23 0).toNat
def WFB (C : Chp) : Prop := (-1 ≤ C 23 0 ∧ C 23 0 ≤ 2000 ∧ dOkB C) ∧ ∀ b, b < kBx C → 0 ≤ C 24 (5 * b) ∧ C 24 (5 * b) ≤ 2 ∧ -1000 ≤ C 24 (5 * b + 1) ∧ C 24 (5 * b + 1) < C 24 (5 * b + 3) ∧ C 24 (5 * b + 3) ≤ 1000 ∧ -1000 ≤ C 24 (5 * b + 2) ∧ C 24 (5 * b + 2) < C 24 (5 * b + 4) ∧ C 24 (5 * b + 4) ≤ 1000
def RepB (S : Sto) (L : Nat) (C : Chp) : Prop := (gI S L 20) = C 23 0 ∧ ∀ i, i < 5 * kBx C → (gI S (L + 15) i) = C 24 i
def RefB (S : Sto) (k : Nat) (C : Chp) : Prop := (gI S 2146 k) = (if C 23 0 = -1 then 0 else 1) ∧ (C 23 0 ≠ -1 → (gI S 2147 k) = C 23 0) ∧ ∀ i, i < 5 * kBx C → (gI S 2148 (10000 * k + i)) = C 24 i
/-- false pairs -/
def kFs (C : Chp) : Nat := (C 25 0).toNat
def WFF (C : Chp) : Prop := (0 ≤ C 25 0 ∧ C 25 0 ≤ 40) ∧ ∀ i, i < kFs C → 0 ≤ C 26 i ∧ C 26 i < kB C ∧ 0 ≤ C 27 i ∧ C 27 i < kO C + kR C
def RepF (S : Sto) (L : Nat) (C : Chp) : Prop := (gI S L 22) = C 25 0 ∧ ∀ i, i < kFs C → (gI S (L + 16) i) = C 26 i ∧ (gI S (L + 17) i) = C 27 i
def RefF (S : Sto) (k : Nat) (C : Chp) : Prop := (gI S 2155 k) = C 25 0 ∧ ∀ i, i < kFs C → (gI S 2156 (40 * k + i)) = C 26 i ∧ (gI S 2157 (40 * k + i)) = C 27 i
/-- sets of tests, and what was found before -/
def kSn (C : Chp) : Nat := (C 28 0).toNat
def WFT (C : Chp) : Prop := (-1 ≤ C 28 0 ∧ C 28 0 ≤ 1224) ∧ ∀ i, i < kSn C → 0 ≤ C 29 i ∧ C 29 i < 2 ^ kB C ∧ (C 30 i = 0 ∨ C 30 i = 1)
def RepT (S : Sto) (L : Nat) (C : Chp) : Prop := (gI S L 25) = C 28 0 ∧ (∀ i, i < kSn C → (gI S (L + 18) i) = C 29 i ∧ (gI S (L + 19) i) = C 30 i) ∧
  ((gI S L 30) = 0 ∨ (gI S L 30) = 1) ∧ ((gI S L 30) = 1 → ∀ f, f < kFa C → (gI S (L + 20) f) = kLeast C f ∧ ∀ p, p < 2 ^ kB C → tb ((gL S (L + 21) (64 * f + p / 64))) (p % 64) = kShow C f p)
def RefT (S : Sto) (k : Nat) (C : Chp) : Prop := (gI S 2172 k) = C 28 0 ∧ (∀ i, i < kSn C → (gI S 2173 (1280 * k + i)) = C 29 i ∧ (gI S 2174 (1280 * k + i)) = C 30 i) ∧
  (∀ i f, i < kSn C → f < kFa C → tb ((gL S 2175 (20 * (1280 * k + i) + f / 64))) (f % 64) = kShow C f (C 29 i).toNat) ∧
  (∀ f, f < kFa C → (gI S 2177 (1280 * k + f)) = 0 ∨ (gI S 2177 (1280 * k + f)) = 2 + kLeast C f)
def RepX (S : Sto) (L : Nat) (C : Chp) : Prop := RepP S L C ∧ RepW S L C ∧ RepB S L C ∧ RepF S L C ∧ RepT S L C
def RefX (S : Sto) (k : Nat) (C : Chp) : Prop := RefP S k C ∧ RefW S k C ∧ RefB S k C ∧ RefF S k C ∧ RefT S k C
def WFX (C : Chp) : Prop := WFP C ∧ WFW C ∧ WFB C ∧ WFF C ∧ WFT C
def InvC (S : Sto) (k : Nat) : Prop := ((gI S 434 k) = 0 ∨ (gI S 434 k) = 1) ∧ (gI S 2105 k) = (gI S 434 k) ∧ (thC S k → ∃ C, (WFC C ∧ RepK S (344 + 22 * k) C ∧ RefK S k C) ∧ WFX C ∧ RepX S (344 + 22 * k) C ∧ RefX S k C)
def Inv (c : Nat) (S : Sto) : Prop := HeapOk c S ∧ InvT c S ∧ InvF c S ∧ InvW S ∧ (∀ d, d < 6 → InvG S d) ∧ (∀ l, l < 3 → InvL S l) ∧ (∀ k, k < 4 → InvC S k)
/-! parts are kept where their cells are -/
theorem RepG.cg {S S' : Sto} {L : Nat} {G : Dsg} (h : RepG S L G) (e : ∀ a i, L ≤ a → a ≤ L + 8 → gI S' a i = gI S a i) : RepG S' L G := by
  obtain ⟨h1, h2, h3, h4, h5, h6⟩ := h
  refine ⟨?_, fun n q1 q2 => ?_, fun n q1 => ?_, fun n q1 => ?_, fun n q1 => ?_, fun n q1 => ?_⟩
  · simp (disch := omega) only [e]; exact h1
  · simp (disch := omega) only [e]; exact h2 n q1 q2
  · simp (disch := omega) only [e]; exact h3 n q1
  · simp (disch := omega) only [e]; exact h4 n q1
  · simp (disch := omega) only [e]; exact h5 n q1
  · simp (disch := omega) only [e]; exact h6 n q1
def strG (a : Nat) : Nat := if a ≤ 2046 then 1 else if a ≤ 2049 then 2048 else if a ≤ 2050 then 16 else if a ≤ 2051 then 6 else 4096
theorem RefG.cg {S S' : Sto} {d : Nat} {G : Dsg} (w : WFG G) (h : RefG S d G) (e : ∀ a i, 2037 ≤ a → a ≤ 2053 → strG a * d ≤ i → i < strG a * d + strG a → gI S' a i = gI S a i) : RefG S' d G := by
  obtain ⟨h1, h2, h3, h4, h5, h6⟩ := h
  have w1 := w.1
  have wn : gNo G ≤ 1013 ∧ gOu G ≤ 16 ∧ gSt G ≤ 6 ∧ gIn G + gSt G ≤ 12 := by unfold gNo gOu gSt gIn; omega
  have wp : 2 ^ (gIn G + gSt G) ≤ 4096 := Nat.pow_le_pow_right (n := 2) (by omega) wn.2.2.2
  have e1 : ∀ a, 2037 ≤ a → a ≤ 2046 → gI S' a d = gI S a d := fun a x1 x2 => by
    have q : strG a = 1 := by unfold strG; rw [if_pos x2]
    exact e a d x1 (by omega) (by rw [q]; omega) (by rw [q]; omega)
  refine ⟨?_, fun n q1 q2 => ?_, fun n q1 => ?_, fun n q1 => ?_, fun n q1 => ?_, fun n q1 => ?_⟩
  · simp (disch := omega) only [e1]; exact h1
  · rw [e 2047 _ (by omega) (by omega) (show 2048 * d ≤ _ by omega) (show _ < 2048 * d + 2048 by omega), e 2048 _ (by omega) (by omega) (show 2048 * d ≤ _ by omega) (show _ < 2048 * d + 2048 by omega)]; exact h2 n q1 q2
  · rw [e 2049 _ (by omega) (by omega) (show 2048 * d ≤ _ by omega) (show _ < 2048 * d + 2048 by omega)]; exact h3 n q1
  · rw [e 2050 _ (by omega) (by omega) (show 16 * d ≤ _ by omega) (show _ < 16 * d + 16 by omega)]; exact h4 n q1
  · rw [e 2051 _ (by omega) (by omega) (show 6 * d ≤ _ by omega) (show _ < 6 * d + 6 by omega)]; exact h5 n q1
  · rw [e 2052 _ (by omega) (by omega) (show 4096 * d ≤ _ by omega) (show _ < 4096 * d + 4096 by omega), e 2053 _ (by omega) (by omega) (show 4096 * d ≤ _ by omega) (show _ < 4096 * d + 4096 by omega)]; exact h6 n q1
theorem RepL.cg {S S' : Sto} {L : Nat} {B : Lib} (h : RepL S L B) (e : ∀ a i, L ≤ a → a ≤ L + 4 → gI S' a i = gI S a i) : RepL S' L B := by
  obtain ⟨h1, h2⟩ := h
  refine ⟨?_, fun n q1 => ?_⟩
  · simp (disch := omega) only [e]; exact h1
  · simp (disch := omega) only [e]; exact h2 n q1
theorem RefL.cg {S S' : Sto} {l : Nat} {B : Lib} (w : WFL B) (h : RefL S l B) (e0 : gI S' 2067 l = gI S 2067 l) (e : ∀ a i, 2068 ≤ a → a ≤ 2071 → 12 * l ≤ i → i < 12 * l + 12 → gI S' a i = gI S a i) : RefL S' l B := by
  obtain ⟨h1, h2⟩ := h
  have w1 := w.1
  have wn : liN B ≤ 12 := by unfold liN; omega
  refine ⟨?_, fun n q1 => ?_⟩
  · rw [e0]; exact h1
  · rw [e 2068 _ (by omega) (by omega) (by omega) (by omega), e 2069 _ (by omega) (by omega) (by omega) (by omega), e 2070 _ (by omega) (by omega) (by omega) (by omega), e 2071 _ (by omega) (by omega) (by omega) (by omega)]; exact h2 n q1
def strC (a : Nat) : Nat := if a ≤ 2111 then 1 else if a ≤ 2112 then 150 else if a ≤ 2113 then 450 else if a ≤ 2114 then 16 else if a ≤ 2115 then 6 else if a ≤ 2116 then 1 else if a ≤ 2120 then 12 else if a ≤ 2123 then 1 else if a ≤ 2125 then 156 else if a ≤ 2134 then 1 else if a ≤ 2138 then 4712 else if a ≤ 2139 then 256 else if a ≤ 2147 then 1 else if a ≤ 2148 then 10000 else if a ≤ 2155 then 1 else if a ≤ 2157 then 40 else if a ≤ 2172 then 1 else if a ≤ 2174 then 1280 else if a ≤ 2175 then 25600 else 1280
/-- cells of the reference's chip k -/
def ownC (k a i : Nat) : Prop := ((2106 ≤ a ∧ a ≤ 2120) ∨ (2122 ≤ a ∧ a ≤ 2125) ∨ (2134 ≤ a ∧ a ≤ 2139) ∨ (2146 ≤ a ∧ a ≤ 2148) ∨ (2155 ≤ a ∧ a ≤ 2157) ∨ (2172 ≤ a ∧ a ≤ 2175) ∨ a = 2177) ∧ strC a * k ≤ i ∧ i < strC a * k + strC a
theorem ownC_1 {k a : Nat} (h : (2106 ≤ a ∧ a ≤ 2111) ∨ a = 2116 ∨ a = 2122 ∨ a = 2123 ∨ a = 2134 ∨ a = 2146 ∨ a = 2147 ∨ a = 2155 ∨ a = 2172) : ownC k a k := by
  have q : strC a = 1 := by
    rcases h with h | rfl | rfl | rfl | rfl | rfl | rfl | rfl | rfl
    · unfold strC; rw [if_pos h.2]
    all_goals rfl
  unfold ownC; rw [q]; omega
theorem RefK.cg' {S S' : Sto} {k : Nat} {C : Chp} (w : WFC C) (h : RefK S k C) (e : ∀ a i, ownC k a i → a ≤ 2120 → gI S' a i = gI S a i) : RefK S' k C := by
  obtain ⟨h1, h2, h3, h4, h5, h6⟩ := h
  have hn := w.nums
  refine ⟨?_, fun g hg => ?_, fun g hg => ?_, fun g hg => ?_, fun g hg => ?_, fun g hg => ?_⟩
  · rw [e _ _ (ownC_1 (by omega)) (by omega), e _ _ (ownC_1 (by omega)) (by omega), e _ _ (ownC_1 (by omega)) (by omega), e _ _ (ownC_1 (by omega)) (by omega), e _ _ (ownC_1 (by omega)) (by omega), e _ _ (ownC_1 (by omega)) (by omega), e _ _ (ownC_1 (by omega)) (by omega)]; exact h1
  · rw [e 2112 _ ⟨by omega, show 150 * k ≤ _ by omega, show _ < 150 * k + 150 by omega⟩ (by omega)]; exact h2 g hg
  · rw [e 2113 _ ⟨by omega, show 450 * k ≤ _ by omega, show _ < 450 * k + 450 by omega⟩ (by omega)]; exact h3 g hg
  · rw [e 2114 _ ⟨by omega, show 16 * k ≤ _ by omega, show _ < 16 * k + 16 by omega⟩ (by omega)]; exact h4 g hg
  · rw [e 2115 _ ⟨by omega, show 6 * k ≤ _ by omega, show _ < 6 * k + 6 by omega⟩ (by omega)]; exact h5 g hg
  · rw [e 2117 _ ⟨by omega, show 12 * k ≤ _ by omega, show _ < 12 * k + 12 by omega⟩ (by omega), e 2118 _ ⟨by omega, show 12 * k ≤ _ by omega, show _ < 12 * k + 12 by omega⟩ (by omega), e 2119 _ ⟨by omega, show 12 * k ≤ _ by omega, show _ < 12 * k + 12 by omega⟩ (by omega), e 2120 _ ⟨by omega, show 12 * k ≤ _ by omega, show _ < 12 * k + 12 by omega⟩ (by omega)]; exact h6 g hg
theorem RepX.cg {S S' : Sto} {L : Nat} {C : Chp} (h : RepX S L C) (e : ∀ a i, L ≤ a → a ≤ L + 21 → gI S' a i = gI S a i) (eL : ∀ i, gL S' (L + 21) i = gL S (L + 21) i) : RepX S' L C := by
  obtain ⟨hP, hW, hB, hF, hT⟩ := h
  have e' : ∀ d, d ≤ 21 → ∀ i, gI S' (L + d) i = gI S (L + d) i := fun d hd i => e _ _ (by omega) (by omega)
  refine ⟨?_, ?_, ?_, ?_, ?_⟩
  · unfold RepP at hP ⊢; simp (disch := omega) only [e]; exact hP
  · unfold RepW at hW ⊢; simp (disch := omega) only [e]; exact hW
  · unfold RepB at hB ⊢; simp (disch := omega) only [e]; exact hB
  · unfold RepF at hF ⊢; simp (disch := omega) only [e]; exact hF
  · unfold RepT at hT ⊢; simp (disch := omega) only [e, eL]; exact hT
/-- the size of a chip's grid -/
theorem kLy_le {C : Chp} (w : WFC C) (wp : WFP C) : kLy C ≤ 2356 := by
  have w1 := w.1
  have p1 := wp.1
  unfold kLy kS kH
  have a : (C 15 0).toNat + 2 ≤ 62 := by omega
  have b : (if C 16 0 = 0 then 0 else max (3 * C 16 0 + 2) (max (C 0 0) (C 2 0)) : Int).toNat ≤ 38 := by split <;> omega
  exact Nat.mul_le_mul a b
theorem RefX.cg {S S' : Sto} {k : Nat} {C : Chp} (w : WFC C) (wx : WFX C) (h : RefX S k C) (e : ∀ a i, ownC k a i → gI S' a i = gI S a i) (eL : ∀ i, ownC k 2175 i → gL S' 2175 i = gL S 2175 i) : RefX S' k C := by
  obtain ⟨hP, hW, hB, hF, hT⟩ := h
  obtain ⟨xP, xW, xB, xF, xT⟩ := wx
  have hn := w.nums
  have he : kE C ≤ 156 := by unfold kE; omega
  have hl := kLy_le w xP
  have hfa := kFa_le w
  have hb : kBx C ≤ 2000 := by have := xB.1; unfold kBx; omega
  have hf : kFs C ≤ 40 := by have := xF.1; unfold kFs; omega
  have hs : kSn C ≤ 1224 := by have := xT.1; unfold kSn; omega
  have e1 : ∀ a, (2106 ≤ a ∧ a ≤ 2111) ∨ a = 2116 ∨ a = 2122 ∨ a = 2123 ∨ a = 2134 ∨ a = 2146 ∨ a = 2147 ∨ a = 2155 ∨ a = 2172 → gI S' a k = gI S a k := fun a z => e _ _ (ownC_1 z)
  refine ⟨⟨?_, fun q n q1 => ?_⟩, ⟨?_, fun q => ⟨fun p hp => ?_, fun n hn' => ?_⟩⟩, ⟨?_, fun q => ?_, fun i hi => ?_⟩, ⟨?_, fun i hi => ?_⟩, ?_, fun i hi => ?_, fun i f hi hf' => ?_, fun f hf' => ?_⟩
  · rw [e1 _ (by omega), e1 _ (by omega)]; exact hP.1
  · rw [e 2124 _ ⟨by omega, show 156 * k ≤ _ by omega, show _ < 156 * k + 156 by omega⟩, e 2125 _ ⟨by omega, show 156 * k ≤ _ by omega, show _ < 156 * k + 156 by omega⟩]; exact hP.2 q n q1
  · rw [e1 _ (by omega)]; exact hW.1
  · rw [e 2135 _ ⟨by omega, show 4712 * k ≤ _ by omega, show _ < 4712 * k + 4712 by omega⟩, e 2136 _ ⟨by omega, show 4712 * k ≤ _ by omega, show _ < 4712 * k + 4712 by omega⟩, e 2137 _ ⟨by omega, show 4712 * k ≤ _ by omega, show _ < 4712 * k + 4712 by omega⟩, e 2138 _ ⟨by omega, show 4712 * k ≤ _ by omega, show _ < 4712 * k + 4712 by omega⟩]; exact (hW.2 q).1 p hp
  · rw [e 2139 _ ⟨by omega, show 256 * k ≤ _ by omega, show _ < 256 * k + 256 by omega⟩]; exact (hW.2 q).2 n hn'
  · rw [e1 _ (by omega)]; exact hB.1
  · rw [e1 _ (by omega)]; exact hB.2.1 q
  · rw [e 2148 _ ⟨by omega, show 10000 * k ≤ _ by omega, show _ < 10000 * k + 10000 by omega⟩]; exact hB.2.2 i hi
  · rw [e1 _ (by omega)]; exact hF.1
  · rw [e 2156 _ ⟨by omega, show 40 * k ≤ _ by omega, show _ < 40 * k + 40 by omega⟩, e 2157 _ ⟨by omega, show 40 * k ≤ _ by omega, show _ < 40 * k + 40 by omega⟩]; exact hF.2 i hi
  · rw [e1 _ (by omega)]; exact hT.1
  · rw [e 2173 _ ⟨by omega, show 1280 * k ≤ _ by omega, show _ < 1280 * k + 1280 by omega⟩, e 2174 _ ⟨by omega, show 1280 * k ≤ _ by omega, show _ < 1280 * k + 1280 by omega⟩]; exact hT.2.1 i hi
  · rw [eL _ ⟨by omega, show 25600 * k ≤ _ by omega, show _ < 25600 * k + 25600 by omega⟩]; exact hT.2.2.1 i f hi hf'
  · rw [e 2177 _ ⟨by omega, show 1280 * k ≤ _ by omega, show _ < 1280 * k + 1280 by omega⟩]; exact hT.2.2.2 f hf'
theorem InvT.cg {c c' : Nat} {S S' : Sto} (h : InvT c S) (hc : c ≤ c') (e1 : gI S' 1 1 = gI S 1 1) (e2 : gI S' 2000 2 = gI S 2000 2) (e3 : ∀ i, gI S' 2 i = gI S 2 i) (e4 : ∀ i, gI S' 2001 i = gI S 2001 i) : InvT c' S' := by
  obtain ⟨n, q1, q2, q3, q4⟩ := h
  exact ⟨n, by omega, by rw [e1]; exact q2, by rw [e2]; exact q3, fun i hi => by rw [e3, e4]; exact q4 i hi⟩
theorem keptN_row {a : Nat} (h : rowL a = true) : keptN a 2 = true := by unfold keptN; rw [h]; rfl
theorem InvN.cg {c c' : Nat} {S S' : Sto} (h : InvN c S) (hc : c ≤ c') (e : ∀ a i, keptN a i = true → gI S' a i = gI S a i) : InvN c' S' := by
  obtain ⟨h1, h2, h3⟩ := h
  have e1 : gI S' 198 20 = gI S 198 20 := e _ _ rfl
  have e2 : gI S' 2000 127 = gI S 2000 127 := e _ _ rfl
  refine ⟨fun a ha => by rw [e _ _ (keptN_row ha)]; exact h1 a ha, ⟨by rw [e1]; exact h2.1, by rw [e1]; omega, fun n hn => by rw [e1, e 213 n rfl]; exact h2.2.2 n hn⟩, ⟨by rw [e2]; exact h3.1, by rw [e2]; omega, fun n hn => by rw [e2, e 2096 n rfl]; exact h3.2.2 n hn⟩⟩
theorem InvF.cg {c c' : Nat} {S S' : Sto} (h : InvF c S) (hc : c ≤ c') (e1 : gI S' 1 2 = gI S 1 2) (e2 : gI S' 2000 79 = gI S 2000 79) (e3 : ∀ a i, keptN a i = true → gI S' a i = gI S a i) : InvF c' S' := ⟨by rw [e1, e2]; exact h.1, h.2.cg hc e3⟩
theorem InvW.cg {S S' : Sto} (h : InvW S) (e1 : gI S' 192 5 = gI S 192 5) (e2 : gI S' 2000 95 = gI S 2000 95) (e3 : ∀ i, gI S' 197 i = gI S 197 i) (e4 : ∀ i, gI S' 2072 i = gI S 2072 i) : InvW S' := by
  obtain ⟨n, q1, q2, q3, q4⟩ := h
  exact ⟨n, q1, by rw [e1]; exact q2, by rw [e2]; exact q3, fun i hi => by rw [e3, e4]; exact q4 i hi⟩
theorem InvG.cg {d : Nat} {S S' : Sto} (h : InvG S d) (e0 : gI S' 432 d = gI S 432 d) (e1 : gI S' 2036 d = gI S 2036 d) (e2 : ∀ a i, 273 + 9 * d ≤ a → a ≤ 273 + 9 * d + 8 → gI S' a i = gI S a i) (e3 : ∀ a i, 2037 ≤ a → a ≤ 2053 → strG a * d ≤ i → i < strG a * d + strG a → gI S' a i = gI S a i) : InvG S' d := by
  unfold InvG thG at h ⊢
  rw [e0, e1]
  refine ⟨h.1, h.2.1, fun ht => ?_⟩
  obtain ⟨G, g1, g2, g3⟩ := h.2.2 ht
  exact ⟨G, g1, g2.cg e2, g3.cg g1 e3⟩
theorem InvL.cg {l : Nat} {S S' : Sto} (h : InvL S l) (e0 : gI S' 433 l = gI S 433 l) (e1 : gI S' 2066 l = gI S 2066 l) (e2 : ∀ a i, 328 + 5 * l ≤ a → a ≤ 328 + 5 * l + 4 → gI S' a i = gI S a i) (e3 : gI S' 2067 l = gI S 2067 l) (e4 : ∀ a i, 2068 ≤ a → a ≤ 2071 → 12 * l ≤ i → i < 12 * l + 12 → gI S' a i = gI S a i) : InvL S' l := by
  unfold InvL thL at h ⊢
  rw [e0, e1]
  refine ⟨h.1, h.2.1, fun ht => ?_⟩
  obtain ⟨G, g1, g2, g3⟩ := h.2.2 ht
  exact ⟨G, g1, g2.cg e2, g3.cg g1 e3 e4⟩
theorem InvC.cg {k : Nat} {S S' : Sto} (h : InvC S k) (e0 : gI S' 434 k = gI S 434 k) (e1 : gI S' 2105 k = gI S 2105 k) (e2 : ∀ a i, 344 + 22 * k ≤ a → a ≤ 344 + 22 * k + 21 → gI S' a i = gI S a i) (e2L : ∀ i, gL S' (344 + 22 * k + 21) i = gL S (344 + 22 * k + 21) i) (e3 : ∀ a i, ownC k a i → gI S' a i = gI S a i) (e3L : ∀ i, ownC k 2175 i → gL S' 2175 i = gL S 2175 i) : InvC S' k := by
  unfold InvC thC at h ⊢
  rw [e0, e1]
  refine ⟨h.1, h.2.1, fun ht => ?_⟩
  obtain ⟨C, ⟨g1, g2, g3⟩, g4, g5, g6⟩ := h.2.2 ht
  exact ⟨C, ⟨g1, g2.cg e2, g3.cg' g1 (fun a i l _ => e3 a i l)⟩, g4, g5.cg e2 e2L, g6.cg g1 g4 e3 e3L⟩
/-- cells that must last -/
def keptO (a i : Nat) : Bool := (Nat.beq a 1 && (Nat.beq i 1 || Nat.beq i 2)) || Nat.beq a 2 || (Nat.beq a 192 && Nat.beq i 5) || Nat.beq a 197 || (Nat.ble 273 a && Nat.ble a 434) ||
  (Nat.beq a 2000 && (Nat.beq i 2 || Nat.beq i 79 || Nat.beq i 95)) || Nat.beq a 2001 || (Nat.ble 2036 a && Nat.ble a 2053) || (Nat.ble 2066 a && Nat.ble a 2072) || (Nat.ble 2105 a && Nat.ble a 2120) || (Nat.ble 2122 a && Nat.ble a 2125) || (Nat.ble 2134 a && Nat.ble a 2139) || (Nat.ble 2146 a && Nat.ble a 2148) || (Nat.ble 2155 a && Nat.ble a 2157) || (Nat.ble 2172 a && Nat.ble a 2175) || Nat.beq a 2177
def keptLO (a : Nat) : Bool := Nat.beq a 1 || Nat.beq a 2 || Nat.beq a 192 || Nat.beq a 197 || (Nat.ble 273 a && Nat.ble a 434) ||
  Nat.beq a 2000 || Nat.beq a 2001 || (Nat.ble 2036 a && Nat.ble a 2053) || (Nat.ble 2066 a && Nat.ble a 2072) || (Nat.ble 2105 a && Nat.ble a 2120) || (Nat.ble 2122 a && Nat.ble a 2125) || (Nat.ble 2134 a && Nat.ble a 2139) || (Nat.ble 2146 a && Nat.ble a 2148) || (Nat.ble 2155 a && Nat.ble a 2157) || (Nat.ble 2172 a && Nat.ble a 2175) || Nat.beq a 2177
def keptLN (a : Nat) : Bool := rowL a || Nat.beq a 198 || Nat.beq a 213 || Nat.beq a 2000 || Nat.beq a 2096
def kept (a i : Nat) : Bool := keptO a i || keptN a i
def keptL (a : Nat) : Bool := keptLO a || keptLN a
def okK : List (Nat × Option Nat) → Bool
  | [] => true
  | (a, none) :: W => !keptL a && okK W
  | (a, some i) :: W => !kept a i && okK W
theorem keptO_lab {a i : Nat} (h : keptO a i = true) : keptLO a = true := by
  unfold keptO at h
  unfold keptLO
  simp only [Bool.or_eq_true, Bool.and_eq_true] at h ⊢
  grind
theorem keptN_lab {a i : Nat} (h : keptN a i = true) : keptLN a = true := by
  unfold keptN at h
  unfold keptLN
  cases hr : rowL a with
  | true => rfl
  | false =>
    rw [hr] at h
    simp only [Bool.or_eq_true, Bool.and_eq_true, Bool.false_and, Bool.false_or] at h ⊢
    grind
theorem kept_lab {a i : Nat} (h : kept a i = true) : keptL a = true := by
  unfold kept at h
  unfold keptL
  rw [Bool.or_eq_true] at h ⊢
  exact h.imp keptO_lab keptN_lab
theorem okK_ok {W : List (Nat × Option Nat)} (h : okK W = true) {a i : Nat} (hk : kept a i = true) : okP W a i := by
  induction W with
  | nil => exact okP_nil
  | cons z W ih =>
    obtain ⟨b, o⟩ := z
    cases o with
    | none =>
      have h : (!keptL b && okK W) = true := h
      rw [Bool.and_eq_true] at h
      refine okP_cons (fun e => ?_) (ih h.2)
      have e : b = a := e
      subst e
      rw [kept_lab hk] at h
      exact absurd h.1 (by decide)
    | some j =>
      have h : (!kept b j && okK W) = true := h
      rw [Bool.and_eq_true] at h
      refine okP_cons (fun e => ⟨fun h => (nomatch h), fun hj => ?_⟩) (ih h.2)
      have e : b = a := e
      have hj : j = i := Option.some.inj hj
      subst e; subst hj
      rw [hk] at h
      exact absurd h.1 (by decide)
theorem keptO_rng {a i : Nat} (h : (273 ≤ a ∧ a ≤ 434) ∨ (2036 ≤ a ∧ a ≤ 2053) ∨ (2066 ≤ a ∧ a ≤ 2072) ∨ (2105 ≤ a ∧ a ≤ 2120) ∨ (2122 ≤ a ∧ a ≤ 2125) ∨ (2134 ≤ a ∧ a ≤ 2139) ∨ (2146 ≤ a ∧ a ≤ 2148) ∨ (2155 ≤ a ∧ a ≤ 2157) ∨ (2172 ≤ a ∧ a ≤ 2175) ∨ a = 2177 ∨ a = 2 ∨ a = 197 ∨ a = 2001 ∨ (a = 1 ∧ (i = 1 ∨ i = 2)) ∨ (a = 192 ∧ i = 5) ∨ (a = 2000 ∧ (i = 2 ∨ i = 79 ∨ i = 95))) : keptO a i = true := by
  unfold keptO
  simp only [Bool.or_eq_true, Bool.and_eq_true, Nat.beq_eq, Nat.ble_eq]
  grind
theorem kept_rng {a i : Nat} (h : (273 ≤ a ∧ a ≤ 434) ∨ (2036 ≤ a ∧ a ≤ 2053) ∨ (2066 ≤ a ∧ a ≤ 2072) ∨ (2105 ≤ a ∧ a ≤ 2120) ∨ (2122 ≤ a ∧ a ≤ 2125) ∨ (2134 ≤ a ∧ a ≤ 2139) ∨ (2146 ≤ a ∧ a ≤ 2148) ∨ (2155 ≤ a ∧ a ≤ 2157) ∨ (2172 ≤ a ∧ a ≤ 2175) ∨ a = 2177 ∨ a = 2 ∨ a = 197 ∨ a = 2001 ∨ (a = 1 ∧ (i = 1 ∨ i = 2)) ∨ (a = 192 ∧ i = 5) ∨ (a = 2000 ∧ (i = 2 ∨ i = 79 ∨ i = 95))) : kept a i = true := by unfold kept; rw [keptO_rng h]; rfl
theorem keptN_kept {a i : Nat} (h : keptN a i = true) : kept a i = true := by unfold kept; rw [h, Bool.or_true]
theorem keptN_rng {a i : Nat} (h : keptN a i = true) : (17 ≤ a ∧ a ≤ 170) ∨ a = 198 ∨ a = 213 ∨ (a = 2000 ∧ i = 127) ∨ a = 2096 := by
  unfold keptN rowL at h
  simp only [Bool.or_eq_true, Bool.and_eq_true, Nat.beq_eq, Nat.ble_eq] at h
  omega
theorem ownC_kept {k a i : Nat} (h : ownC k a i) : kept a i = true := kept_rng (by have := h.1; omega)
theorem Inv.cg {c c' : Nat} {S S' : Sto} (h : Inv c S) (e : ∀ a i, kept a i = true → gI S' a i = gI S a i) (eL : ∀ a i, (a = 365 ∨ a = 387 ∨ a = 409 ∨ a = 431) ∨ a = 2175 → gL S' a i = gL S a i) (hc : c ≤ c') (hh : HeapOk c' S') : Inv c' S' := by
  obtain ⟨h1, h2, h3, h4, h5, h6, h7⟩ := h
  refine ⟨hh, ?_, ?_, ?_, fun d hd => ?_, fun d hd => ?_, fun d hd => ?_⟩
  · exact h2.cg hc (e _ _ (kept_rng (by omega))) (e _ _ (kept_rng (by omega))) (fun i => e _ _ (kept_rng (by omega))) (fun i => e _ _ (kept_rng (by omega)))
  · exact h3.cg hc (e _ _ (kept_rng (by omega))) (e _ _ (kept_rng (by omega))) (fun a i q => e a i (keptN_kept q))
  · exact h4.cg (e _ _ (kept_rng (by omega))) (e _ _ (kept_rng (by omega))) (fun i => e _ _ (kept_rng (by omega))) (fun i => e _ _ (kept_rng (by omega)))
  · exact (h5 d hd).cg (e _ _ (kept_rng (by omega))) (e _ _ (kept_rng (by omega))) (fun a i l1 l2 => e _ _ (kept_rng (by omega))) (fun a i l1 l2 _ _ => e _ _ (kept_rng (by omega)))
  · exact (h6 d hd).cg (e _ _ (kept_rng (by omega))) (e _ _ (kept_rng (by omega))) (fun a i l1 l2 => e _ _ (kept_rng (by omega))) (e _ _ (kept_rng (by omega))) (fun a i l1 l2 _ _ => e _ _ (kept_rng (by omega)))
  · exact (h7 d hd).cg (e _ _ (kept_rng (by omega))) (e _ _ (kept_rng (by omega))) (fun a i l1 l2 => e _ _ (kept_rng (by omega))) (fun i => eL _ _ (by omega)) (fun a i l => e _ _ (ownC_kept l)) (fun i l => eL _ _ (by omega))
