/-! PLAIN LAW, 2: what holds between two calls of the law: the component's cells against the reference's -/
set_option maxRecDepth 100000
/-- points: what each gives to each state, by what state 0 has, then by what state 1 has -/
def ptL (K G : Nat) : List (Nat × Nat × Nat) := if K = 2 then (List.range (G + 1)).map (fun a => (a, G - a, 0)) else (List.range (G + 1)).flatMap (fun a => (List.range (G - a + 1)).map (fun b => (a, b, G - a - b)))
def ptN (K G : Nat) : Nat := (ptL K G).length
def ptV (K G p k : Nat) : Nat := match k with
  | 0 => ((ptL K G).getD p (0, 0, 0)).1
  | 1 => ((ptL K G).getD p (0, 0, 0)).2.1
  | _ => ((ptL K G).getD p (0, 0, 0)).2.2
/-- cells of the constants -/
def CO (st : St) : Prop := ∀ k, gBIG ≤ k → sh st k = kS k ∧ ln st k = kL k ∧ ∀ j, sI st k j = kI k j ∧ sR st k j = kR k j
/-- room for so many calls more -/
def Rm (b : Nat) (st : St) : Prop := 201 ≤ sN st ∧ sN st + 49990 * b ≤ gCAP ∧ sS st + 228000 * b ≤ gCAPS
def Er (st : St) : Prop := ∀ k, k < 9 → sI st 1 k = sI st 176 k
/-- the sizes of a house's games, by the reference's row -/
def Rg (q : Nat) (st : St) (K G M N : Nat) : Prop := (K = 2 ∨ K = 3) ∧ (1 ≤ G ∧ G ≤ 4) ∧ (1 ≤ M ∧ M ≤ 3) ∧ (1 ≤ N ∧ N ≤ 3) ∧ sI st q 0 = Int32.ofNat K ∧ sI st q 1 = Int32.ofNat G ∧ sI st q 2 = Int32.ofNat M ∧ sI st q 3 = Int32.ofNat N ∧ (∃ p, p < ptN K G ∧ sI st q 31 = Int32.ofNat p) ∧ (∀ j, 4 ≤ j → j < 31 → (-20) ≤ sI st q j ∧ sI st q j ≤ 20) ∧ ∀ j, 32 ≤ j → j < 35 → (-99) ≤ sI st q j ∧ sI st q j ≤ 99
/-- a house's own cells against the row -/
def Hc (o q : Nat) (st : St) : Prop := (∀ j, j < 4 → sI st o j = sI st q j) ∧ sI st o 4 = sI st q 31 ∧ (∀ g r c, g < 3 → r < 3 → c < 3 → sI st (o + (3 + 4 * g + r)) c = sI st q (4 + 9 * g + 3 * r + c)) ∧ ∀ k, k < 3 → sI st (o + 14) k = sI st q (32 + k)
def Gv (o : Nat) (st : St) (K G : Nat) : Prop := sI st o 9 = Int32.ofNat (ptN K G) ∧ ∀ p k, p < ptN K G → k < 3 → sI st (o + (16 + p)) k = Int32.ofNat (ptV K G p k)
/-- a node and those under it against rows i .. i + len - 1 of nodes in q, at a depth -/
def Tn (K G q : Nat) (st : St) : Nat → Nat → Nat → Nat → Nat → Prop
  | 0, _, _, _, _ => False
  | n + 1, v, i, d, len => 201 ≤ v ∧ v < sN st ∧ v < gBIG ∧ sh st v = 8 ∧ i + len ≤ 20 ∧ 1 ≤ len ∧ (∃ p, p < ptN K G ∧ sI st v 0 = Int32.ofNat p ∧ sI st q (36 + 3 * i) = Int32.ofNat p) ∧ (∃ r, r ≤ 99 ∧ sI st v 1 = Int32.ofNat r ∧ sI st q (37 + 3 * i) = Int32.ofNat r) ∧ sI st q (38 + 3 * i) = Int32.ofNat d ∧
    ∃ u, sR st v 2 = some u ∧ 201 ≤ u ∧ u < sN st ∧ u < gBIG ∧ sh st u = 116 ∧ ln st u = 3 ∧ ∃ m, m ≤ K ∧ sI st v 3 = Int32.ofNat m ∧ ∃ f : Nat → Nat, f 0 = i + 1 ∧ f m = i + len ∧ ∀ k, k < m → f k < f (k + 1) ∧ ∃ w, sR st u k = some w ∧ Tn K G q st n w (f k) (d + 1) (f (k + 1) - f k)
def Tr (o q : Nat) (st : St) (K G : Nat) : Prop := (sR st o 7 = none ∧ sI st q 35 = 0) ∨ ∃ v len, sR st o 7 = some v ∧ 1 ≤ len ∧ len ≤ 20 ∧ sI st q 35 = Int32.ofNat len ∧ Tn K G q st 6 v 0 0 len
def Hr (o q : Nat) (st : St) : Prop := ∃ K G M N, Rg q st K G M N ∧ Hc o q st ∧ Gv o st K G ∧ Tr o q st K G
def Im (b : Nat) (st : St) : Prop := sI st 0 4 = sI st 175 4 ∧ (∃ n, n + b ≤ 24 ∧ sI st 0 4 = Int32.ofNat n ∧ (n = 0 ∨ (Hr 33 178 st ∧ sI st 0 5 = sI st 178 96)))
/-- the rounds that were -/
def Ws (st : St) : Nat → Option Nat → Prop
  | 0, w => w = none
  | n + 1, w => ∃ a, w = some a ∧ 201 ≤ a ∧ a < sN st ∧ a < gBIG ∧ sh st a = 9 ∧ (∀ k, k < 3 → sI st a k = sI st 181 (5 * n + 1 + k) ∧ ∃ z : Int, sI st 181 (5 * n + 1 + k) = Int32.ofInt z ∧ -(20 * (n : Int)) ≤ z ∧ z ≤ 20 * (n : Int)) ∧ sI st a 3 = sI st 181 (5 * n) ∧ sI st a 4 = (if n = 0 then -1 else sI st 181 (5 * (n - 1) + 4)) ∧ Ws st n (sR st a 5)
def Py (st : St) : Prop := sI st 0 43 = sI st 175 5 ∧ (sI st 0 43 = 0 ∨ (sI st 0 43 = 1 ∧ ∃ n, n ≤ 60 ∧ sI st 0 44 = Int32.ofNat n ∧ sI st 175 6 = Int32.ofNat n ∧ (∀ k, k < 3 → sI st 147 k = sI st 180 k) ∧ (∀ k, k < 3 → ∃ z : Int, sI st 147 k = Int32.ofInt z ∧ -(20 * (n : Int)) ≤ z ∧ z ≤ 20 * (n : Int)) ∧ sI st 0 46 = (if n = 0 then -1 else sI st 181 (5 * (n - 1) + 4)) ∧ Ws st n (sR st 0 47)))
def Tp (st : St) : Prop := ∃ n, n ≤ 200 ∧ sI st 0 33 = Int32.ofNat n ∧ sI st 175 10 = Int32.ofNat n ∧ ∀ i, i < n → sI st 146 i = sI st 182 i ∧ ∃ b, b < 256 ∧ sI st 182 i = Int32.ofNat b
/-- a text: a String or a builder, its letters -/
def Tx (st : St) (a : Nat) (n : Nat) (f : Nat → Int32) : Prop := ∃ v, sR st a 0 = some v ∧ sh st v = 103 ∧ (∀ i, i < n → sI st v i = f i) ∧ ((sh st a = 10 ∧ sI st a 1 = 0 ∧ ln st v = n) ∨ (sh st a = 11 ∧ a < gBIG ∧ sI st a 1 = 0 ∧ sI st a 3 = Int32.ofNat n ∧ (n ≤ ln st v ∧ ln st v ≤ 100000))) ∧ (a < sN st ∨ gBIG ≤ a) ∧ (v < sN st ∨ gBIG ≤ v) ∧ ((201 ≤ a ∧ a < gBIG ∧ 201 ≤ v ∧ v < gBIG) ∨ (gBIG ≤ a ∧ gBIG ≤ v))
def Li (st : St) : Prop := ∃ a n, n ≤ 600 ∧ sR st 0 42 = some a ∧ Tx st a n (fun i => sI st 183 i) ∧ sI st 175 13 = Int32.ofNat n ∧ ∀ i, i < n → ∃ b, b < 128 ∧ sI st 183 i = Int32.ofNat b
/-- a sheet: none, a row of shorts, of longs -/
def Sk (st : St) (k : Nat) : Prop := (sR st (170 + k) 0 = none ∧ sI st 186 k = 0 ∧ sI st 187 k = 0) ∨ ∃ v n, sR st (170 + k) 0 = some v ∧ 201 ≤ v ∧ v < sN st ∧ v < gBIG ∧ n ≤ 60 ∧ ln st v = n ∧ sI st 187 k = Int32.ofNat n ∧ ((sh st v = 106 ∧ sI st 186 k = 16 ∧ ∀ i, i < n → (sI st v i).toInt64 = sL st 185 (60 * k + i)) ∨ (sh st v = 102 ∧ sI st 186 k = 64 ∧ ∀ i, i < n → sL st v i = sL st 185 (60 * k + i)))
def Sx (st : St) : Prop := (∀ k, k < 5 → Sk st k) ∧ ∀ k l v, k < 5 → l < 5 → k ≠ l → sR st (170 + k) 0 = some v → sR st (170 + l) 0 ≠ some v
def Nt (st : St) : Prop := sL st 138 0 = 0 ∧ sL st 138 1 = 1
def Zz (st : St) : Prop := sI st 0 6 = sI st 177 96
def Inv (b : Nat) (st : St) : Prop := Rm b st ∧ CO st ∧ Er st ∧ Hr 2 177 st ∧ Im b st ∧ Zz st ∧ Py st ∧ Tp st ∧ Li st ∧ Sx st ∧ Nt st
