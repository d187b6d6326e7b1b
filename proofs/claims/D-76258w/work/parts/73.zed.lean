/-! PLAIN LAW, 34: minors as whole numbers -/
set_option maxRecDepth 100000
def grZ (f m : Nat → Int) (s : Nat) : Nat → Int × Bool
  | 0 => (0, true)
  | i + 1 => if s.testBit (3 - i) then ((grZ f m s i).1 + (if (grZ f m s i).2 then f (3 - i) * m (s - 2 ^ (3 - i)) else -(f (3 - i) * m (s - 2 ^ (3 - i)))), !(grZ f m s i).2) else grZ f m s i
def dtZ (e : Nat → Nat → Int) : Nat → Nat → Int
  | 0, _ => 1
  | k + 1, s => (grZ (e k) (dtZ e k) s 4).1
theorem grZ_ok {f m : Nat → Int64} {F M : Nat → Int} {s : Nat} (hf : ∀ j, f j = Int64.ofInt (F j)) (hm : ∀ t, m t = Int64.ofInt (M t)) : ∀ i, grS f m s i = (Int64.ofInt (grZ F M s i).1, (grZ F M s i).2)
  | 0 => rfl
  | i + 1 => by
    rw [grS, grZ, grZ_ok hf hm i]
    by_cases hb : s.testBit (3 - i) = true
    · rw [if_pos hb, if_pos hb, hf, hm]
      dsimp only
      cases (grZ F M s i).2
      · simp only [Int64.ofInt_add, Int64.ofInt_mul, Int64.ofInt_neg, Bool.false_eq_true, if_false]
      · simp only [Int64.ofInt_add, Int64.ofInt_mul, if_true]
    · rw [if_neg hb, if_neg hb]
theorem dtZ_ok {e : Nat → Nat → Int64} {E : Nat → Nat → Int} (he : ∀ i j, e i j = Int64.ofInt (E i j)) : ∀ k s, dtK e k s = Int64.ofInt (dtZ E k s)
  | 0, _ => rfl
  | k + 1, s => by
    rw [dtK, dtZ, grZ_ok (he k) (dtZ_ok he k) 4]
def sqZ (t : Nat → Nat → Int) (n i j : Nat) : Int := if i < n then (if j < n then t i j else 1) else (if j < n then 1 else 0)
def xZ (t : Nat → Nat → Int) (n r c : Nat) : Int := dtZ (fun k j => sqZ t n (if k < r then k else k + 1) j) (pcN (allN (n + 1) c)) (allN (n + 1) c)
theorem xZ_ok (T : Nat → Nat → Int64) (n : Nat) (I J : Nat → Nat) (r c : Nat) : xM T n I J r c = Int64.ofInt (xZ (fun i j => (T (I i) (J j)).toInt) n r c) := by
  unfold xM xZ
  refine dtZ_ok (fun i j => ?_) _ _
  unfold sqX sqZ
  by_cases h1 : (if i < r then i else i + 1) < n
  · rw [if_pos h1, if_pos h1]
    by_cases h2 : j < n
    · rw [if_pos h2, if_pos h2, ofI_ti]
    · rw [if_neg h2, if_neg h2]; rfl
  · rw [if_neg h1, if_neg h1]
    by_cases h2 : j < n
    · rw [if_pos h2, if_pos h2]; rfl
    · rw [if_neg h2, if_neg h2]; rfl
theorem xz_1_2_2 (t : Nat → Nat → Int) : xZ t 1 2 2 = 0 - 1 := by
  have h : xZ t 1 2 2 = ((0 + 0 * (0 + t 0 0 * 1)) + -(1 * (0 + 1 * 1))) := rfl
  rw [h]
  grind
theorem xz_1_1_1 (t : Nat → Nat → Int) : xZ t 1 1 1 = 0 + t 0 0 := by
  have h : xZ t 1 1 1 = (0 + t 0 0 * 1) := rfl
  rw [h]
  grind
theorem xz_1_1_0 (t : Nat → Nat → Int) : xZ t 1 1 0 = 0 + 1 := by
  have h : xZ t 1 1 0 = (0 + 1 * 1) := rfl
  rw [h]
  grind
theorem xz_1_0_1 (t : Nat → Nat → Int) : xZ t 1 0 1 = 0 + 1 := by
  have h : xZ t 1 0 1 = (0 + 1 * 1) := rfl
  rw [h]
  grind
theorem xz_2_3_3 (t : Nat → Nat → Int) : xZ t 2 3 3 = 0 - t 0 0 + t 0 1 + t 1 0 - t 1 1 := by
  have h : xZ t 2 3 3 = (((0 + 0 * ((0 + t 1 1 * (0 + t 0 0 * 1)) + -(t 1 0 * (0 + t 0 1 * 1)))) + -(1 * ((0 + 1 * (0 + t 0 0 * 1)) + -(t 1 0 * (0 + 1 * 1))))) + 1 * ((0 + 1 * (0 + t 0 1 * 1)) + -(t 1 1 * (0 + 1 * 1)))) := rfl
  rw [h]
  grind
theorem xz_2_2_2 (t : Nat → Nat → Int) : xZ t 2 2 2 = 0 + t 0 0 * t 1 1 - t 0 1 * t 1 0 := by
  have h : xZ t 2 2 2 = ((0 + t 1 1 * (0 + t 0 0 * 1)) + -(t 1 0 * (0 + t 0 1 * 1))) := rfl
  rw [h]
  grind
theorem xz_2_2_0 (t : Nat → Nat → Int) : xZ t 2 2 0 = 0 + t 0 1 - t 1 1 := by
  have h : xZ t 2 2 0 = ((0 + 1 * (0 + t 0 1 * 1)) + -(t 1 1 * (0 + 1 * 1))) := rfl
  rw [h]
  grind
theorem xz_2_2_1 (t : Nat → Nat → Int) : xZ t 2 2 1 = 0 + t 0 0 - t 1 0 := by
  have h : xZ t 2 2 1 = ((0 + 1 * (0 + t 0 0 * 1)) + -(t 1 0 * (0 + 1 * 1))) := rfl
  rw [h]
  grind
theorem xz_2_0_2 (t : Nat → Nat → Int) : xZ t 2 0 2 = 0 + t 1 0 - t 1 1 := by
  have h : xZ t 2 0 2 = ((0 + 1 * (0 + t 1 0 * 1)) + -(1 * (0 + t 1 1 * 1))) := rfl
  rw [h]
  grind
theorem xz_2_1_2 (t : Nat → Nat → Int) : xZ t 2 1 2 = 0 + t 0 0 - t 0 1 := by
  have h : xZ t 2 1 2 = ((0 + 1 * (0 + t 0 0 * 1)) + -(1 * (0 + t 0 1 * 1))) := rfl
  rw [h]
  grind
theorem xz_3_4_4 (t : Nat → Nat → Int) : xZ t 3 4 4 = 0 - t 0 0 * t 1 1 + t 0 0 * t 1 2 + t 0 0 * t 2 1 - t 0 0 * t 2 2 + t 0 1 * t 1 0 - t 0 1 * t 1 2 - t 0 1 * t 2 0 + t 0 1 * t 2 2 - t 0 2 * t 1 0 + t 0 2 * t 1 1 + t 0 2 * t 2 0 - t 0 2 * t 2 1 - t 1 0 * t 2 1 + t 1 0 * t 2 2 + t 1 1 * t 2 0 - t 1 1 * t 2 2 - t 1 2 * t 2 0 + t 1 2 * t 2 1 := by
  have h : xZ t 3 4 4 = ((((0 + 0 * (((0 + t 2 2 * ((0 + t 1 1 * (0 + t 0 0 * 1)) + -(t 1 0 * (0 + t 0 1 * 1)))) + -(t 2 1 * ((0 + t 1 2 * (0 + t 0 0 * 1)) + -(t 1 0 * (0 + t 0 2 * 1))))) + t 2 0 * ((0 + t 1 2 * (0 + t 0 1 * 1)) + -(t 1 1 * (0 + t 0 2 * 1))))) + -(1 * (((0 + 1 * ((0 + t 1 1 * (0 + t 0 0 * 1)) + -(t 1 0 * (0 + t 0 1 * 1)))) + -(t 2 1 * ((0 + 1 * (0 + t 0 0 * 1)) + -(t 1 0 * (0 + 1 * 1))))) + t 2 0 * ((0 + 1 * (0 + t 0 1 * 1)) + -(t 1 1 * (0 + 1 * 1)))))) + 1 * (((0 + 1 * ((0 + t 1 2 * (0 + t 0 0 * 1)) + -(t 1 0 * (0 + t 0 2 * 1)))) + -(t 2 2 * ((0 + 1 * (0 + t 0 0 * 1)) + -(t 1 0 * (0 + 1 * 1))))) + t 2 0 * ((0 + 1 * (0 + t 0 2 * 1)) + -(t 1 2 * (0 + 1 * 1))))) + -(1 * (((0 + 1 * ((0 + t 1 2 * (0 + t 0 1 * 1)) + -(t 1 1 * (0 + t 0 2 * 1)))) + -(t 2 2 * ((0 + 1 * (0 + t 0 1 * 1)) + -(t 1 1 * (0 + 1 * 1))))) + t 2 1 * ((0 + 1 * (0 + t 0 2 * 1)) + -(t 1 2 * (0 + 1 * 1)))))) := rfl
  rw [h]
  grind
theorem xz_3_3_3 (t : Nat → Nat → Int) : xZ t 3 3 3 = 0 + t 0 0 * t 1 1 * t 2 2 - t 0 0 * t 1 2 * t 2 1 - t 0 1 * t 1 0 * t 2 2 + t 0 1 * t 1 2 * t 2 0 + t 0 2 * t 1 0 * t 2 1 - t 0 2 * t 1 1 * t 2 0 := by
  have h : xZ t 3 3 3 = (((0 + t 2 2 * ((0 + t 1 1 * (0 + t 0 0 * 1)) + -(t 1 0 * (0 + t 0 1 * 1)))) + -(t 2 1 * ((0 + t 1 2 * (0 + t 0 0 * 1)) + -(t 1 0 * (0 + t 0 2 * 1))))) + t 2 0 * ((0 + t 1 2 * (0 + t 0 1 * 1)) + -(t 1 1 * (0 + t 0 2 * 1)))) := rfl
  rw [h]
  grind
theorem xz_3_3_0 (t : Nat → Nat → Int) : xZ t 3 3 0 = 0 + t 0 1 * t 1 2 - t 0 1 * t 2 2 - t 0 2 * t 1 1 + t 0 2 * t 2 1 + t 1 1 * t 2 2 - t 1 2 * t 2 1 := by
  have h : xZ t 3 3 0 = (((0 + 1 * ((0 + t 1 2 * (0 + t 0 1 * 1)) + -(t 1 1 * (0 + t 0 2 * 1)))) + -(t 2 2 * ((0 + 1 * (0 + t 0 1 * 1)) + -(t 1 1 * (0 + 1 * 1))))) + t 2 1 * ((0 + 1 * (0 + t 0 2 * 1)) + -(t 1 2 * (0 + 1 * 1)))) := rfl
  rw [h]
  grind
theorem xz_3_3_1 (t : Nat → Nat → Int) : xZ t 3 3 1 = 0 + t 0 0 * t 1 2 - t 0 0 * t 2 2 - t 0 2 * t 1 0 + t 0 2 * t 2 0 + t 1 0 * t 2 2 - t 1 2 * t 2 0 := by
  have h : xZ t 3 3 1 = (((0 + 1 * ((0 + t 1 2 * (0 + t 0 0 * 1)) + -(t 1 0 * (0 + t 0 2 * 1)))) + -(t 2 2 * ((0 + 1 * (0 + t 0 0 * 1)) + -(t 1 0 * (0 + 1 * 1))))) + t 2 0 * ((0 + 1 * (0 + t 0 2 * 1)) + -(t 1 2 * (0 + 1 * 1)))) := rfl
  rw [h]
  grind
theorem xz_3_3_2 (t : Nat → Nat → Int) : xZ t 3 3 2 = 0 + t 0 0 * t 1 1 - t 0 0 * t 2 1 - t 0 1 * t 1 0 + t 0 1 * t 2 0 + t 1 0 * t 2 1 - t 1 1 * t 2 0 := by
  have h : xZ t 3 3 2 = (((0 + 1 * ((0 + t 1 1 * (0 + t 0 0 * 1)) + -(t 1 0 * (0 + t 0 1 * 1)))) + -(t 2 1 * ((0 + 1 * (0 + t 0 0 * 1)) + -(t 1 0 * (0 + 1 * 1))))) + t 2 0 * ((0 + 1 * (0 + t 0 1 * 1)) + -(t 1 1 * (0 + 1 * 1)))) := rfl
  rw [h]
  grind
theorem xz_3_0_3 (t : Nat → Nat → Int) : xZ t 3 0 3 = 0 + t 1 0 * t 2 1 - t 1 0 * t 2 2 - t 1 1 * t 2 0 + t 1 1 * t 2 2 + t 1 2 * t 2 0 - t 1 2 * t 2 1 := by
  have h : xZ t 3 0 3 = (((0 + 1 * ((0 + t 2 1 * (0 + t 1 0 * 1)) + -(t 2 0 * (0 + t 1 1 * 1)))) + -(1 * ((0 + t 2 2 * (0 + t 1 0 * 1)) + -(t 2 0 * (0 + t 1 2 * 1))))) + 1 * ((0 + t 2 2 * (0 + t 1 1 * 1)) + -(t 2 1 * (0 + t 1 2 * 1)))) := rfl
  rw [h]
  grind
theorem xz_3_1_3 (t : Nat → Nat → Int) : xZ t 3 1 3 = 0 + t 0 0 * t 2 1 - t 0 0 * t 2 2 - t 0 1 * t 2 0 + t 0 1 * t 2 2 + t 0 2 * t 2 0 - t 0 2 * t 2 1 := by
  have h : xZ t 3 1 3 = (((0 + 1 * ((0 + t 2 1 * (0 + t 0 0 * 1)) + -(t 2 0 * (0 + t 0 1 * 1)))) + -(1 * ((0 + t 2 2 * (0 + t 0 0 * 1)) + -(t 2 0 * (0 + t 0 2 * 1))))) + 1 * ((0 + t 2 2 * (0 + t 0 1 * 1)) + -(t 2 1 * (0 + t 0 2 * 1)))) := rfl
  rw [h]
  grind
theorem xz_3_2_3 (t : Nat → Nat → Int) : xZ t 3 2 3 = 0 + t 0 0 * t 1 1 - t 0 0 * t 1 2 - t 0 1 * t 1 0 + t 0 1 * t 1 2 + t 0 2 * t 1 0 - t 0 2 * t 1 1 := by
  have h : xZ t 3 2 3 = (((0 + 1 * ((0 + t 1 1 * (0 + t 0 0 * 1)) + -(t 1 0 * (0 + t 0 1 * 1)))) + -(1 * ((0 + t 1 2 * (0 + t 0 0 * 1)) + -(t 1 0 * (0 + t 0 2 * 1))))) + 1 * ((0 + t 1 2 * (0 + t 0 1 * 1)) + -(t 1 1 * (0 + t 0 2 * 1)))) := rfl
  rw [h]
  grind
