/-! PLAIN LAW, 26: sets of rows, columns: both sides go through them alike -/
set_option maxRecDepth 100000
def z74 (x0 x1 : Int32) : Int32 := x1 + ((x0.toUInt32 >>> ((1 : Int32).toUInt32 &&& Int32.toUInt32 31)).toInt32)
def z62 (x0 x1 : Int32) : Int32 := if x0 ≤ 4 then z74 x0 x1 else z74 ((x0.toUInt32 >>> ((2 : Int32).toUInt32 &&& Int32.toUInt32 31)).toInt32) (x1 + 2)
def z49 (x0 x1 : Int32) : Int32 := if x0 ≤ 16 then z62 x0 x1 else z62 ((x0.toUInt32 >>> ((4 : Int32).toUInt32 &&& Int32.toUInt32 31)).toInt32) (x1 + 4)
def z34 (x0 x1 : Int32) : Int32 := if x0 ≤ 256 then z49 x0 x1 else z49 ((x0.toUInt32 >>> ((8 : Int32).toUInt32 &&& Int32.toUInt32 31)).toInt32) (x1 + 8)
def ntzV (v : Int32) : Int32 := if 0 < v then (if v ≤ 65536 then z34 v 1 else z34 ((v.toUInt32 >>> ((16 : Int32).toUInt32 &&& Int32.toUInt32 31)).toInt32) 17) else v &&& 32
def ntzF (p : Int32) : Int32 := ntzV ((p ^^^ (-1)) &&& (p - 1))
theorem s_z62 {Φ : Int32 → Prop} {x0 x1 : Int32} (h : Φ (z62 x0 x1)) : w_J7_numberOfTrailingZeros_b62 Φ x0 x1 := by
  unfold z62 z74 at h
  unfold w_J7_numberOfTrailingZeros_b62 w_J7_numberOfTrailingZeros_b74
  refine ⟨fun h1 => ?_, fun h1 => ?_⟩
  · rw [if_pos h1] at h; exact h
  · rw [if_neg h1] at h; rintro _ rfl; exact h
theorem s_z49 {Φ : Int32 → Prop} {x0 x1 : Int32} (h : Φ (z49 x0 x1)) : w_J7_numberOfTrailingZeros_b49 Φ x0 x1 := by
  unfold z49 at h
  unfold w_J7_numberOfTrailingZeros_b49
  refine ⟨fun h1 => ?_, fun h1 => ?_⟩
  · rw [if_pos h1] at h; exact s_z62 h
  · rw [if_neg h1] at h; rintro _ rfl; exact s_z62 h
theorem s_z34 {Φ : Int32 → Prop} {x0 x1 : Int32} (h : Φ (z34 x0 x1)) : w_J7_numberOfTrailingZeros_b34 Φ x0 x1 := by
  unfold z34 at h
  unfold w_J7_numberOfTrailingZeros_b34
  refine ⟨fun h1 => ?_, fun h1 => ?_⟩
  · rw [if_pos h1] at h; exact s_z49 h
  · rw [if_neg h1] at h; rintro _ rfl; exact s_z49 h
theorem s_ntz {Φ : Int32 → Prop} {p : Int32} (h : Φ (ntzF p)) : w_J7_numberOfTrailingZeros p Φ := by
  unfold ntzF ntzV at h
  unfold w_J7_numberOfTrailingZeros
  rintro _ rfl
  refine ⟨fun h1 => ?_, fun h1 => ?_⟩
  · rw [if_pos h1] at h
    refine ⟨fun h2 => ?_, fun h2 => ?_⟩
    · rw [if_pos h2] at h; exact s_z34 h
    · rw [if_neg h2] at h; rintro _ rfl; exact s_z34 h
  · rw [if_neg h1] at h; exact h
def nsX (s : Int32) : Int32 := (((s + (s &&& (-s))) ^^^ s).toUInt32 >>> ((2 + ntzF (s &&& (-s))).toUInt32 &&& Int32.toUInt32 31)).toInt32 ||| (s + (s &&& (-s)))
def nsM (s : Int32) : Int32 := (s + (s &&& (-s))) ||| (((s ^^^ (s + (s &&& (-s)))) / (s &&& (-s))) >>> ((2 : Int32) &&& 31))
theorem s_nextX {st : St} {p : Int32} {Φ : St → Int32 → Prop} (h : Φ st (nsX p)) : w_X0_nextSet st p Φ := by
  unfold w_X0_nextSet
  rintro _ rfl _ rfl
  exact s_ntz h
theorem s_nextM {p q : Int32} {Φ : Int32 → Prop} (hp : p ≠ 0) (hq : (p &&& (-p)) ≠ 0) (h : Φ (nsM p)) : w_X4_nextSet p q Φ := by
  unfold w_X4_nextSet
  refine ⟨fun _ => ?_, fun h2 => absurd h2 hp⟩
  rintro _ rfl _ rfl
  exact ⟨hq, h⟩
/-- a set by its places -/
def setN : List Nat → Nat
  | [] => 0
  | i :: r => 2 ^ i + setN r
def nxN (l : List (List Nat)) (e : Nat) : Nat := match l with
  | [] => e
  | b :: _ => setN b
theorem ntz_ok : ∀ i, i < 27 → ntzV (Int32.ofNat (2 ^ i - 1)) = Int32.ofNat i := by decide +kernel
def plX : List Nat → Bool
  | [] => true
  | i :: r => decide (i < 27) && decide ((((Int32.ofNat (setN (i :: r))) ^^^ (-1)) &&& ((Int32.ofNat (setN (i :: r))) - 1)) = Int32.ofNat (2 ^ i - 1)) && decide (Int32.ofNat (setN (i :: r)) &&& (Int32.ofNat (setN (i :: r)) - 1) = Int32.ofNat (setN r)) && plX r
def tkM (a : List Nat) : Bool := (List.range 27).all (fun k => (setN a).testBit k == a.contains k)
def nsP (S : Int32) (i : Nat) (b : Int32) : Bool := decide ((S &&& (-S)) = Int32.ofNat (2 ^ i)) && decide ((((S + Int32.ofNat (2 ^ i)) ^^^ S).toUInt32 >>> ((2 + Int32.ofNat i).toUInt32 &&& Int32.toUInt32 31)).toInt32 ||| (S + Int32.ofNat (2 ^ i)) = b) && decide ((S + Int32.ofNat (2 ^ i)) ||| (((S ^^^ (S + Int32.ofNat (2 ^ i))) / Int32.ofNat (2 ^ i)) >>> ((2 : Int32) &&& 31)) = b)
def chS : List (List Nat) → Nat → Bool
  | [], _ => true
  | a :: l, e => nsP (Int32.ofNat (setN a)) (a.headD 0) (Int32.ofNat (nxN l e)) && plX a && tkM a && decide (setN a < nxN l e) && decide (a.headD 0 < 27) && chS l e
def c2 (k : Nat) : List (List Nat) := (List.range k).map (fun j => [j, k])
def c3 (k : Nat) : List (List Nat) := (List.range k).flatMap (fun j => (List.range j).map (fun i => [i, j, k]))
def ens : Nat → List (List Nat)
  | 1 => (List.range 27).map (fun k => [k])
  | 2 => (List.range 27).flatMap c2
  | 3 => (List.range 27).flatMap c3
  | _ => []
def enE (n : Nat) : Nat := 2 ^ 27 + 2 ^ (n - 1) - 1
theorem chS_1 : chS (ens 1) (enE 1) = true := by decide +kernel
theorem chS_2 : chS (ens 2) (enE 2) = true := by decide +kernel
theorem ch3_2 : chS (c3 2) (setN [0, 1, 3]) = true := by decide +kernel
theorem ch3_3 : chS (c3 3) (setN [0, 1, 4]) = true := by decide +kernel
theorem ch3_4 : chS (c3 4) (setN [0, 1, 5]) = true := by decide +kernel
theorem ch3_5 : chS (c3 5) (setN [0, 1, 6]) = true := by decide +kernel
theorem ch3_6 : chS (c3 6) (setN [0, 1, 7]) = true := by decide +kernel
theorem ch3_7 : chS (c3 7) (setN [0, 1, 8]) = true := by decide +kernel
theorem ch3_8 : chS (c3 8) (setN [0, 1, 9]) = true := by decide +kernel
theorem ch3_9 : chS (c3 9) (setN [0, 1, 10]) = true := by decide +kernel
theorem ch3_10 : chS (c3 10) (setN [0, 1, 11]) = true := by decide +kernel
theorem ch3_11 : chS (c3 11) (setN [0, 1, 12]) = true := by decide +kernel
theorem ch3_12 : chS (c3 12) (setN [0, 1, 13]) = true := by decide +kernel
theorem ch3_13 : chS (c3 13) (setN [0, 1, 14]) = true := by decide +kernel
theorem ch3_14 : chS (c3 14) (setN [0, 1, 15]) = true := by decide +kernel
theorem ch3_15 : chS (c3 15) (setN [0, 1, 16]) = true := by decide +kernel
theorem ch3_16 : chS (c3 16) (setN [0, 1, 17]) = true := by decide +kernel
theorem ch3_17 : chS (c3 17) (setN [0, 1, 18]) = true := by decide +kernel
theorem ch3_18 : chS (c3 18) (setN [0, 1, 19]) = true := by decide +kernel
theorem ch3_19 : chS (c3 19) (setN [0, 1, 20]) = true := by decide +kernel
theorem ch3_20 : chS (c3 20) (setN [0, 1, 21]) = true := by decide +kernel
theorem ch3_21 : chS (c3 21) (setN [0, 1, 22]) = true := by decide +kernel
theorem ch3_22 : chS (c3 22) (setN [0, 1, 23]) = true := by decide +kernel
theorem ch3_23 : chS (c3 23) (setN [0, 1, 24]) = true := by decide +kernel
theorem ch3_24 : chS (c3 24) (setN [0, 1, 25]) = true := by decide +kernel
theorem ch3_25 : chS (c3 25) (setN [0, 1, 26]) = true := by decide +kernel
theorem ch3_26 : chS (c3 26) (setN [0, 1, 27]) = true := by decide +kernel
theorem ch3 (k : Nat) (h : k < 27) : chS (c3 k) (setN [0, 1, k + 1]) = true := by
  rcases (by omega : k = 0 ∨ k = 1 ∨ k = 2 ∨ k = 3 ∨ k = 4 ∨ k = 5 ∨ k = 6 ∨ k = 7 ∨ k = 8 ∨ k = 9 ∨ k = 10 ∨ k = 11 ∨ k = 12 ∨ k = 13 ∨ k = 14 ∨ k = 15 ∨ k = 16 ∨ k = 17 ∨ k = 18 ∨ k = 19 ∨ k = 20 ∨ k = 21 ∨ k = 22 ∨ k = 23 ∨ k = 24 ∨ k = 25 ∨ k = 26) with rfl | rfl | rfl | rfl | rfl | rfl | rfl | rfl | rfl | rfl | rfl | rfl | rfl | rfl | rfl | rfl | rfl | rfl | rfl | rfl | rfl | rfl | rfl | rfl | rfl | rfl | rfl
  · rfl
  · rfl
  · exact ch3_2
  · exact ch3_3
  · exact ch3_4
  · exact ch3_5
  · exact ch3_6
  · exact ch3_7
  · exact ch3_8
  · exact ch3_9
  · exact ch3_10
  · exact ch3_11
  · exact ch3_12
  · exact ch3_13
  · exact ch3_14
  · exact ch3_15
  · exact ch3_16
  · exact ch3_17
  · exact ch3_18
  · exact ch3_19
  · exact ch3_20
  · exact ch3_21
  · exact ch3_22
  · exact ch3_23
  · exact ch3_24
  · exact ch3_25
  · exact ch3_26
theorem chS_app : ∀ (l m : List (List Nat)) (e : Nat), chS l (nxN m e) = true → chS m e = true → chS (l ++ m) e = true
  | [], m, e, _, h2 => h2
  | a :: l, m, e, h1, h2 => by
    have hn : nxN (l ++ m) e = nxN l (nxN m e) := by cases l <;> rfl
    rw [List.cons_append, chS, hn]
    rw [chS, Bool.and_eq_true] at h1
    rw [Bool.and_eq_true]
    exact ⟨h1.1, chS_app l m e h1.2 h2⟩
theorem nx3 (k : Nat) (h : 2 ≤ k) (e : Nat) : nxN (c3 k) e = setN [0, 1, k] := by
  obtain ⟨m, rfl⟩ : ∃ m, k = m + 2 := ⟨k - 2, by omega⟩
  have e1 : List.range (m + 2) = 0 :: 1 :: (List.range m).map (fun x => x + 2) := by
    rw [List.range_succ_eq_map, List.range_succ_eq_map]
    simp [Function.comp_def]
  unfold c3
  rw [e1]
  rfl
theorem chA3 : ∀ m, 2 ≤ m → m ≤ 27 → chS ((List.range m).flatMap c3) (setN [0, 1, m]) = true
  | 0, h, _ => absurd h (by omega)
  | 1, h, _ => absurd h (by omega)
  | 2, _, _ => rfl
  | m + 3, _, h => by
    rw [List.range_succ, List.flatMap_append]
    refine chS_app _ _ _ ?_ ?_
    · have e2 : List.flatMap c3 [m + 2] = c3 (m + 2) := by simp
      rw [e2, nx3 (m + 2) (by omega)]
      exact chA3 (m + 2) (by omega) (by omega)
    · have e2 : List.flatMap c3 [m + 2] = c3 (m + 2) := by simp
      rw [e2]
      exact ch3 (m + 2) (by omega)
theorem chS_3 : chS (ens 3) (enE 3) = true := chA3 27 (by omega) (by omega)
theorem hd_1 : nxN (ens 1) (enE 1) = 2 ^ 1 - 1 ∧ nxN (ens 2) (enE 2) = 2 ^ 2 - 1 := by decide +kernel
