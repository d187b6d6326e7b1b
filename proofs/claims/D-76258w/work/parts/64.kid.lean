/-! PLAIN LAW, 25: the minors of one are the determinants of the other (printed by kid.py) -/
set_option maxRecDepth 100000
def sqX (T : Nat → Nat → Int64) (n : Nat) (I J : Nat → Nat) (i j : Nat) : Int64 := if i < n then (if j < n then T (I i) (J j) else 1) else (if j < n then 1 else 0)
def xM (T : Nat → Nat → Int64) (n : Nat) (I J : Nat → Nat) (r c : Nat) : Int64 := dtK (fun k j => sqX T n I J (if k < r then k else k + 1) j) (pcN (allN (n + 1) c)) (allN (n + 1) c)
def mD (T : Nat → Nat → Int64) (n : Nat) (I J : Nat → Nat) (t : Bool) (g : Nat) : Int64 := dtK (fun i j => entM T n I J t g i j) (n + 1) (2 ^ (n + 1) - 1)
theorem id_1_w (T : Nat → Nat → Int64) (I J : Nat → Nat) : mD T 1 I J false 9 = -xM T 1 I J 2 2 := by
  have h1 : mD T 1 I J false 9 = ((0 + 0 * (0 + T (I 0) (J 0) * 1)) + -(1 * (0 + (-1) * 1))) := rfl
  have h2 : xM T 1 I J 2 2 = ((0 + 0 * (0 + T (I 0) (J 0) * 1)) + -(1 * (0 + 1 * 1))) := rfl
  rw [h1, h2]
  generalize T (I 0) (J 0) = t00
  grind
theorem id_1_v (T : Nat → Nat → Int64) (I J : Nat → Nat) : mD T 1 I J false 1 = xM T 1 I J 1 1 := by
  have h1 : mD T 1 I J false 1 = ((0 + 1 * (0 + T (I 0) (J 0) * 1)) + -(1 * (0 + 0 * 1))) := rfl
  have h2 : xM T 1 I J 1 1 = (0 + T (I 0) (J 0) * 1) := rfl
  rw [h1, h2]
  generalize T (I 0) (J 0) = t00
  grind
theorem id_1_c0 (T : Nat → Nat → Int64) (I J : Nat → Nat) : mD T 1 I J false 0 = xM T 1 I J 1 0 := by
  have h1 : mD T 1 I J false 0 = ((0 + 0 * (0 + 0 * 1)) + -(1 * (0 + (-1) * 1))) := rfl
  have h2 : xM T 1 I J 1 0 = (0 + 1 * 1) := rfl
  rw [h1, h2]
  generalize T (I 0) (J 0) = t00
  grind
theorem id_1_r0 (T : Nat → Nat → Int64) (I J : Nat → Nat) : mD T 1 I J true 0 = xM T 1 I J 0 1 := by
  have h1 : mD T 1 I J true 0 = ((0 + 0 * (0 + 0 * 1)) + -(1 * (0 + (-1) * 1))) := rfl
  have h2 : xM T 1 I J 0 1 = (0 + 1 * 1) := rfl
  rw [h1, h2]
  generalize T (I 0) (J 0) = t00
  grind
theorem id_2_w (T : Nat → Nat → Int64) (I J : Nat → Nat) : mD T 2 I J false 9 = -xM T 2 I J 3 3 := by
  have h1 : mD T 2 I J false 9 = (((0 + 0 * ((0 + T (I 1) (J 1) * (0 + T (I 0) (J 0) * 1)) + -(T (I 1) (J 0) * (0 + T (I 0) (J 1) * 1)))) + -(1 * ((0 + (-1) * (0 + T (I 0) (J 0) * 1)) + -(T (I 1) (J 0) * (0 + (-1) * 1))))) + 1 * ((0 + (-1) * (0 + T (I 0) (J 1) * 1)) + -(T (I 1) (J 1) * (0 + (-1) * 1)))) := rfl
  have h2 : xM T 2 I J 3 3 = (((0 + 0 * ((0 + T (I 1) (J 1) * (0 + T (I 0) (J 0) * 1)) + -(T (I 1) (J 0) * (0 + T (I 0) (J 1) * 1)))) + -(1 * ((0 + 1 * (0 + T (I 0) (J 0) * 1)) + -(T (I 1) (J 0) * (0 + 1 * 1))))) + 1 * ((0 + 1 * (0 + T (I 0) (J 1) * 1)) + -(T (I 1) (J 1) * (0 + 1 * 1)))) := rfl
  rw [h1, h2]
  generalize T (I 0) (J 0) = t00
  generalize T (I 0) (J 1) = t01
  generalize T (I 1) (J 0) = t10
  generalize T (I 1) (J 1) = t11
  grind
theorem id_2_v (T : Nat → Nat → Int64) (I J : Nat → Nat) : mD T 2 I J false 2 = xM T 2 I J 2 2 := by
  have h1 : mD T 2 I J false 2 = (((0 + 1 * ((0 + T (I 1) (J 1) * (0 + T (I 0) (J 0) * 1)) + -(T (I 1) (J 0) * (0 + T (I 0) (J 1) * 1)))) + -(1 * ((0 + 0 * (0 + T (I 0) (J 0) * 1)) + -(T (I 1) (J 0) * (0 + 0 * 1))))) + 1 * ((0 + 0 * (0 + T (I 0) (J 1) * 1)) + -(T (I 1) (J 1) * (0 + 0 * 1)))) := rfl
  have h2 : xM T 2 I J 2 2 = ((0 + T (I 1) (J 1) * (0 + T (I 0) (J 0) * 1)) + -(T (I 1) (J 0) * (0 + T (I 0) (J 1) * 1))) := rfl
  rw [h1, h2]
  generalize T (I 0) (J 0) = t00
  generalize T (I 0) (J 1) = t01
  generalize T (I 1) (J 0) = t10
  generalize T (I 1) (J 1) = t11
  grind
theorem id_2_c0 (T : Nat → Nat → Int64) (I J : Nat → Nat) : mD T 2 I J false 0 = -xM T 2 I J 2 0 := by
  have h1 : mD T 2 I J false 0 = (((0 + 0 * ((0 + T (I 1) (J 1) * (0 + 0 * 1)) + -(0 * (0 + T (I 0) (J 1) * 1)))) + -(1 * ((0 + (-1) * (0 + 0 * 1)) + -(0 * (0 + (-1) * 1))))) + 1 * ((0 + (-1) * (0 + T (I 0) (J 1) * 1)) + -(T (I 1) (J 1) * (0 + (-1) * 1)))) := rfl
  have h2 : xM T 2 I J 2 0 = ((0 + 1 * (0 + T (I 0) (J 1) * 1)) + -(T (I 1) (J 1) * (0 + 1 * 1))) := rfl
  rw [h1, h2]
  generalize T (I 0) (J 0) = t00
  generalize T (I 0) (J 1) = t01
  generalize T (I 1) (J 0) = t10
  generalize T (I 1) (J 1) = t11
  grind
theorem id_2_c1 (T : Nat → Nat → Int64) (I J : Nat → Nat) : mD T 2 I J false 1 = xM T 2 I J 2 1 := by
  have h1 : mD T 2 I J false 1 = (((0 + 0 * ((0 + 0 * (0 + T (I 0) (J 0) * 1)) + -(T (I 1) (J 0) * (0 + 0 * 1)))) + -(1 * ((0 + (-1) * (0 + T (I 0) (J 0) * 1)) + -(T (I 1) (J 0) * (0 + (-1) * 1))))) + 1 * ((0 + (-1) * (0 + 0 * 1)) + -(0 * (0 + (-1) * 1)))) := rfl
  have h2 : xM T 2 I J 2 1 = ((0 + 1 * (0 + T (I 0) (J 0) * 1)) + -(T (I 1) (J 0) * (0 + 1 * 1))) := rfl
  rw [h1, h2]
  generalize T (I 0) (J 0) = t00
  generalize T (I 0) (J 1) = t01
  generalize T (I 1) (J 0) = t10
  generalize T (I 1) (J 1) = t11
  grind
theorem id_2_r0 (T : Nat → Nat → Int64) (I J : Nat → Nat) : mD T 2 I J true 0 = -xM T 2 I J 0 2 := by
  have h1 : mD T 2 I J true 0 = (((0 + 0 * ((0 + T (I 1) (J 1) * (0 + 0 * 1)) + -(0 * (0 + T (I 1) (J 0) * 1)))) + -(1 * ((0 + (-1) * (0 + 0 * 1)) + -(0 * (0 + (-1) * 1))))) + 1 * ((0 + (-1) * (0 + T (I 1) (J 0) * 1)) + -(T (I 1) (J 1) * (0 + (-1) * 1)))) := rfl
  have h2 : xM T 2 I J 0 2 = ((0 + 1 * (0 + T (I 1) (J 0) * 1)) + -(1 * (0 + T (I 1) (J 1) * 1))) := rfl
  rw [h1, h2]
  generalize T (I 0) (J 0) = t00
  generalize T (I 0) (J 1) = t01
  generalize T (I 1) (J 0) = t10
  generalize T (I 1) (J 1) = t11
  grind
theorem id_2_r1 (T : Nat → Nat → Int64) (I J : Nat → Nat) : mD T 2 I J true 1 = xM T 2 I J 1 2 := by
  have h1 : mD T 2 I J true 1 = (((0 + 0 * ((0 + 0 * (0 + T (I 0) (J 0) * 1)) + -(T (I 0) (J 1) * (0 + 0 * 1)))) + -(1 * ((0 + (-1) * (0 + T (I 0) (J 0) * 1)) + -(T (I 0) (J 1) * (0 + (-1) * 1))))) + 1 * ((0 + (-1) * (0 + 0 * 1)) + -(0 * (0 + (-1) * 1)))) := rfl
  have h2 : xM T 2 I J 1 2 = ((0 + 1 * (0 + T (I 0) (J 0) * 1)) + -(1 * (0 + T (I 0) (J 1) * 1))) := rfl
  rw [h1, h2]
  generalize T (I 0) (J 0) = t00
  generalize T (I 0) (J 1) = t01
  generalize T (I 1) (J 0) = t10
  generalize T (I 1) (J 1) = t11
  grind
theorem id_3_w (T : Nat → Nat → Int64) (I J : Nat → Nat) : mD T 3 I J false 9 = -xM T 3 I J 4 4 := by
  have h1 : mD T 3 I J false 9 = ((((0 + 0 * (((0 + T (I 2) (J 2) * ((0 + T (I 1) (J 1) * (0 + T (I 0) (J 0) * 1)) + -(T (I 1) (J 0) * (0 + T (I 0) (J 1) * 1)))) + -(T (I 2) (J 1) * ((0 + T (I 1) (J 2) * (0 + T (I 0) (J 0) * 1)) + -(T (I 1) (J 0) * (0 + T (I 0) (J 2) * 1))))) + T (I 2) (J 0) * ((0 + T (I 1) (J 2) * (0 + T (I 0) (J 1) * 1)) + -(T (I 1) (J 1) * (0 + T (I 0) (J 2) * 1))))) + -(1 * (((0 + (-1) * ((0 + T (I 1) (J 1) * (0 + T (I 0) (J 0) * 1)) + -(T (I 1) (J 0) * (0 + T (I 0) (J 1) * 1)))) + -(T (I 2) (J 1) * ((0 + (-1) * (0 + T (I 0) (J 0) * 1)) + -(T (I 1) (J 0) * (0 + (-1) * 1))))) + T (I 2) (J 0) * ((0 + (-1) * (0 + T (I 0) (J 1) * 1)) + -(T (I 1) (J 1) * (0 + (-1) * 1)))))) + 1 * (((0 + (-1) * ((0 + T (I 1) (J 2) * (0 + T (I 0) (J 0) * 1)) + -(T (I 1) (J 0) * (0 + T (I 0) (J 2) * 1)))) + -(T (I 2) (J 2) * ((0 + (-1) * (0 + T (I 0) (J 0) * 1)) + -(T (I 1) (J 0) * (0 + (-1) * 1))))) + T (I 2) (J 0) * ((0 + (-1) * (0 + T (I 0) (J 2) * 1)) + -(T (I 1) (J 2) * (0 + (-1) * 1))))) + -(1 * (((0 + (-1) * ((0 + T (I 1) (J 2) * (0 + T (I 0) (J 1) * 1)) + -(T (I 1) (J 1) * (0 + T (I 0) (J 2) * 1)))) + -(T (I 2) (J 2) * ((0 + (-1) * (0 + T (I 0) (J 1) * 1)) + -(T (I 1) (J 1) * (0 + (-1) * 1))))) + T (I 2) (J 1) * ((0 + (-1) * (0 + T (I 0) (J 2) * 1)) + -(T (I 1) (J 2) * (0 + (-1) * 1)))))) := rfl
  have h2 : xM T 3 I J 4 4 = ((((0 + 0 * (((0 + T (I 2) (J 2) * ((0 + T (I 1) (J 1) * (0 + T (I 0) (J 0) * 1)) + -(T (I 1) (J 0) * (0 + T (I 0) (J 1) * 1)))) + -(T (I 2) (J 1) * ((0 + T (I 1) (J 2) * (0 + T (I 0) (J 0) * 1)) + -(T (I 1) (J 0) * (0 + T (I 0) (J 2) * 1))))) + T (I 2) (J 0) * ((0 + T (I 1) (J 2) * (0 + T (I 0) (J 1) * 1)) + -(T (I 1) (J 1) * (0 + T (I 0) (J 2) * 1))))) + -(1 * (((0 + 1 * ((0 + T (I 1) (J 1) * (0 + T (I 0) (J 0) * 1)) + -(T (I 1) (J 0) * (0 + T (I 0) (J 1) * 1)))) + -(T (I 2) (J 1) * ((0 + 1 * (0 + T (I 0) (J 0) * 1)) + -(T (I 1) (J 0) * (0 + 1 * 1))))) + T (I 2) (J 0) * ((0 + 1 * (0 + T (I 0) (J 1) * 1)) + -(T (I 1) (J 1) * (0 + 1 * 1)))))) + 1 * (((0 + 1 * ((0 + T (I 1) (J 2) * (0 + T (I 0) (J 0) * 1)) + -(T (I 1) (J 0) * (0 + T (I 0) (J 2) * 1)))) + -(T (I 2) (J 2) * ((0 + 1 * (0 + T (I 0) (J 0) * 1)) + -(T (I 1) (J 0) * (0 + 1 * 1))))) + T (I 2) (J 0) * ((0 + 1 * (0 + T (I 0) (J 2) * 1)) + -(T (I 1) (J 2) * (0 + 1 * 1))))) + -(1 * (((0 + 1 * ((0 + T (I 1) (J 2) * (0 + T (I 0) (J 1) * 1)) + -(T (I 1) (J 1) * (0 + T (I 0) (J 2) * 1)))) + -(T (I 2) (J 2) * ((0 + 1 * (0 + T (I 0) (J 1) * 1)) + -(T (I 1) (J 1) * (0 + 1 * 1))))) + T (I 2) (J 1) * ((0 + 1 * (0 + T (I 0) (J 2) * 1)) + -(T (I 1) (J 2) * (0 + 1 * 1)))))) := rfl
  rw [h1, h2]
  generalize T (I 0) (J 0) = t00
  generalize T (I 0) (J 1) = t01
  generalize T (I 0) (J 2) = t02
  generalize T (I 1) (J 0) = t10
  generalize T (I 1) (J 1) = t11
  generalize T (I 1) (J 2) = t12
  generalize T (I 2) (J 0) = t20
  generalize T (I 2) (J 1) = t21
  generalize T (I 2) (J 2) = t22
  grind
theorem id_3_v (T : Nat → Nat → Int64) (I J : Nat → Nat) : mD T 3 I J false 3 = xM T 3 I J 3 3 := by
  have h1 : mD T 3 I J false 3 = ((((0 + 1 * (((0 + T (I 2) (J 2) * ((0 + T (I 1) (J 1) * (0 + T (I 0) (J 0) * 1)) + -(T (I 1) (J 0) * (0 + T (I 0) (J 1) * 1)))) + -(T (I 2) (J 1) * ((0 + T (I 1) (J 2) * (0 + T (I 0) (J 0) * 1)) + -(T (I 1) (J 0) * (0 + T (I 0) (J 2) * 1))))) + T (I 2) (J 0) * ((0 + T (I 1) (J 2) * (0 + T (I 0) (J 1) * 1)) + -(T (I 1) (J 1) * (0 + T (I 0) (J 2) * 1))))) + -(1 * (((0 + 0 * ((0 + T (I 1) (J 1) * (0 + T (I 0) (J 0) * 1)) + -(T (I 1) (J 0) * (0 + T (I 0) (J 1) * 1)))) + -(T (I 2) (J 1) * ((0 + 0 * (0 + T (I 0) (J 0) * 1)) + -(T (I 1) (J 0) * (0 + 0 * 1))))) + T (I 2) (J 0) * ((0 + 0 * (0 + T (I 0) (J 1) * 1)) + -(T (I 1) (J 1) * (0 + 0 * 1)))))) + 1 * (((0 + 0 * ((0 + T (I 1) (J 2) * (0 + T (I 0) (J 0) * 1)) + -(T (I 1) (J 0) * (0 + T (I 0) (J 2) * 1)))) + -(T (I 2) (J 2) * ((0 + 0 * (0 + T (I 0) (J 0) * 1)) + -(T (I 1) (J 0) * (0 + 0 * 1))))) + T (I 2) (J 0) * ((0 + 0 * (0 + T (I 0) (J 2) * 1)) + -(T (I 1) (J 2) * (0 + 0 * 1))))) + -(1 * (((0 + 0 * ((0 + T (I 1) (J 2) * (0 + T (I 0) (J 1) * 1)) + -(T (I 1) (J 1) * (0 + T (I 0) (J 2) * 1)))) + -(T (I 2) (J 2) * ((0 + 0 * (0 + T (I 0) (J 1) * 1)) + -(T (I 1) (J 1) * (0 + 0 * 1))))) + T (I 2) (J 1) * ((0 + 0 * (0 + T (I 0) (J 2) * 1)) + -(T (I 1) (J 2) * (0 + 0 * 1)))))) := rfl
  have h2 : xM T 3 I J 3 3 = (((0 + T (I 2) (J 2) * ((0 + T (I 1) (J 1) * (0 + T (I 0) (J 0) * 1)) + -(T (I 1) (J 0) * (0 + T (I 0) (J 1) * 1)))) + -(T (I 2) (J 1) * ((0 + T (I 1) (J 2) * (0 + T (I 0) (J 0) * 1)) + -(T (I 1) (J 0) * (0 + T (I 0) (J 2) * 1))))) + T (I 2) (J 0) * ((0 + T (I 1) (J 2) * (0 + T (I 0) (J 1) * 1)) + -(T (I 1) (J 1) * (0 + T (I 0) (J 2) * 1)))) := rfl
  rw [h1, h2]
  generalize T (I 0) (J 0) = t00
  generalize T (I 0) (J 1) = t01
  generalize T (I 0) (J 2) = t02
  generalize T (I 1) (J 0) = t10
  generalize T (I 1) (J 1) = t11
  generalize T (I 1) (J 2) = t12
  generalize T (I 2) (J 0) = t20
  generalize T (I 2) (J 1) = t21
  generalize T (I 2) (J 2) = t22
  grind
theorem id_3_c0 (T : Nat → Nat → Int64) (I J : Nat → Nat) : mD T 3 I J false 0 = xM T 3 I J 3 0 := by
  have h1 : mD T 3 I J false 0 = ((((0 + 0 * (((0 + T (I 2) (J 2) * ((0 + T (I 1) (J 1) * (0 + 0 * 1)) + -(0 * (0 + T (I 0) (J 1) * 1)))) + -(T (I 2) (J 1) * ((0 + T (I 1) (J 2) * (0 + 0 * 1)) + -(0 * (0 + T (I 0) (J 2) * 1))))) + 0 * ((0 + T (I 1) (J 2) * (0 + T (I 0) (J 1) * 1)) + -(T (I 1) (J 1) * (0 + T (I 0) (J 2) * 1))))) + -(1 * (((0 + (-1) * ((0 + T (I 1) (J 1) * (0 + 0 * 1)) + -(0 * (0 + T (I 0) (J 1) * 1)))) + -(T (I 2) (J 1) * ((0 + (-1) * (0 + 0 * 1)) + -(0 * (0 + (-1) * 1))))) + 0 * ((0 + (-1) * (0 + T (I 0) (J 1) * 1)) + -(T (I 1) (J 1) * (0 + (-1) * 1)))))) + 1 * (((0 + (-1) * ((0 + T (I 1) (J 2) * (0 + 0 * 1)) + -(0 * (0 + T (I 0) (J 2) * 1)))) + -(T (I 2) (J 2) * ((0 + (-1) * (0 + 0 * 1)) + -(0 * (0 + (-1) * 1))))) + 0 * ((0 + (-1) * (0 + T (I 0) (J 2) * 1)) + -(T (I 1) (J 2) * (0 + (-1) * 1))))) + -(1 * (((0 + (-1) * ((0 + T (I 1) (J 2) * (0 + T (I 0) (J 1) * 1)) + -(T (I 1) (J 1) * (0 + T (I 0) (J 2) * 1)))) + -(T (I 2) (J 2) * ((0 + (-1) * (0 + T (I 0) (J 1) * 1)) + -(T (I 1) (J 1) * (0 + (-1) * 1))))) + T (I 2) (J 1) * ((0 + (-1) * (0 + T (I 0) (J 2) * 1)) + -(T (I 1) (J 2) * (0 + (-1) * 1)))))) := rfl
  have h2 : xM T 3 I J 3 0 = (((0 + 1 * ((0 + T (I 1) (J 2) * (0 + T (I 0) (J 1) * 1)) + -(T (I 1) (J 1) * (0 + T (I 0) (J 2) * 1)))) + -(T (I 2) (J 2) * ((0 + 1 * (0 + T (I 0) (J 1) * 1)) + -(T (I 1) (J 1) * (0 + 1 * 1))))) + T (I 2) (J 1) * ((0 + 1 * (0 + T (I 0) (J 2) * 1)) + -(T (I 1) (J 2) * (0 + 1 * 1)))) := rfl
  rw [h1, h2]
  generalize T (I 0) (J 0) = t00
  generalize T (I 0) (J 1) = t01
  generalize T (I 0) (J 2) = t02
  generalize T (I 1) (J 0) = t10
  generalize T (I 1) (J 1) = t11
  generalize T (I 1) (J 2) = t12
  generalize T (I 2) (J 0) = t20
  generalize T (I 2) (J 1) = t21
  generalize T (I 2) (J 2) = t22
  grind
theorem id_3_c1 (T : Nat → Nat → Int64) (I J : Nat → Nat) : mD T 3 I J false 1 = -xM T 3 I J 3 1 := by
  have h1 : mD T 3 I J false 1 = ((((0 + 0 * (((0 + T (I 2) (J 2) * ((0 + 0 * (0 + T (I 0) (J 0) * 1)) + -(T (I 1) (J 0) * (0 + 0 * 1)))) + -(0 * ((0 + T (I 1) (J 2) * (0 + T (I 0) (J 0) * 1)) + -(T (I 1) (J 0) * (0 + T (I 0) (J 2) * 1))))) + T (I 2) (J 0) * ((0 + T (I 1) (J 2) * (0 + 0 * 1)) + -(0 * (0 + T (I 0) (J 2) * 1))))) + -(1 * (((0 + (-1) * ((0 + 0 * (0 + T (I 0) (J 0) * 1)) + -(T (I 1) (J 0) * (0 + 0 * 1)))) + -(0 * ((0 + (-1) * (0 + T (I 0) (J 0) * 1)) + -(T (I 1) (J 0) * (0 + (-1) * 1))))) + T (I 2) (J 0) * ((0 + (-1) * (0 + 0 * 1)) + -(0 * (0 + (-1) * 1)))))) + 1 * (((0 + (-1) * ((0 + T (I 1) (J 2) * (0 + T (I 0) (J 0) * 1)) + -(T (I 1) (J 0) * (0 + T (I 0) (J 2) * 1)))) + -(T (I 2) (J 2) * ((0 + (-1) * (0 + T (I 0) (J 0) * 1)) + -(T (I 1) (J 0) * (0 + (-1) * 1))))) + T (I 2) (J 0) * ((0 + (-1) * (0 + T (I 0) (J 2) * 1)) + -(T (I 1) (J 2) * (0 + (-1) * 1))))) + -(1 * (((0 + (-1) * ((0 + T (I 1) (J 2) * (0 + 0 * 1)) + -(0 * (0 + T (I 0) (J 2) * 1)))) + -(T (I 2) (J 2) * ((0 + (-1) * (0 + 0 * 1)) + -(0 * (0 + (-1) * 1))))) + 0 * ((0 + (-1) * (0 + T (I 0) (J 2) * 1)) + -(T (I 1) (J 2) * (0 + (-1) * 1)))))) := rfl
  have h2 : xM T 3 I J 3 1 = (((0 + 1 * ((0 + T (I 1) (J 2) * (0 + T (I 0) (J 0) * 1)) + -(T (I 1) (J 0) * (0 + T (I 0) (J 2) * 1)))) + -(T (I 2) (J 2) * ((0 + 1 * (0 + T (I 0) (J 0) * 1)) + -(T (I 1) (J 0) * (0 + 1 * 1))))) + T (I 2) (J 0) * ((0 + 1 * (0 + T (I 0) (J 2) * 1)) + -(T (I 1) (J 2) * (0 + 1 * 1)))) := rfl
  rw [h1, h2]
  generalize T (I 0) (J 0) = t00
  generalize T (I 0) (J 1) = t01
  generalize T (I 0) (J 2) = t02
  generalize T (I 1) (J 0) = t10
  generalize T (I 1) (J 1) = t11
  generalize T (I 1) (J 2) = t12
  generalize T (I 2) (J 0) = t20
  generalize T (I 2) (J 1) = t21
  generalize T (I 2) (J 2) = t22
  grind
theorem id_3_c2 (T : Nat → Nat → Int64) (I J : Nat → Nat) : mD T 3 I J false 2 = xM T 3 I J 3 2 := by
  have h1 : mD T 3 I J false 2 = ((((0 + 0 * (((0 + 0 * ((0 + T (I 1) (J 1) * (0 + T (I 0) (J 0) * 1)) + -(T (I 1) (J 0) * (0 + T (I 0) (J 1) * 1)))) + -(T (I 2) (J 1) * ((0 + 0 * (0 + T (I 0) (J 0) * 1)) + -(T (I 1) (J 0) * (0 + 0 * 1))))) + T (I 2) (J 0) * ((0 + 0 * (0 + T (I 0) (J 1) * 1)) + -(T (I 1) (J 1) * (0 + 0 * 1))))) + -(1 * (((0 + (-1) * ((0 + T (I 1) (J 1) * (0 + T (I 0) (J 0) * 1)) + -(T (I 1) (J 0) * (0 + T (I 0) (J 1) * 1)))) + -(T (I 2) (J 1) * ((0 + (-1) * (0 + T (I 0) (J 0) * 1)) + -(T (I 1) (J 0) * (0 + (-1) * 1))))) + T (I 2) (J 0) * ((0 + (-1) * (0 + T (I 0) (J 1) * 1)) + -(T (I 1) (J 1) * (0 + (-1) * 1)))))) + 1 * (((0 + (-1) * ((0 + 0 * (0 + T (I 0) (J 0) * 1)) + -(T (I 1) (J 0) * (0 + 0 * 1)))) + -(0 * ((0 + (-1) * (0 + T (I 0) (J 0) * 1)) + -(T (I 1) (J 0) * (0 + (-1) * 1))))) + T (I 2) (J 0) * ((0 + (-1) * (0 + 0 * 1)) + -(0 * (0 + (-1) * 1))))) + -(1 * (((0 + (-1) * ((0 + 0 * (0 + T (I 0) (J 1) * 1)) + -(T (I 1) (J 1) * (0 + 0 * 1)))) + -(0 * ((0 + (-1) * (0 + T (I 0) (J 1) * 1)) + -(T (I 1) (J 1) * (0 + (-1) * 1))))) + T (I 2) (J 1) * ((0 + (-1) * (0 + 0 * 1)) + -(0 * (0 + (-1) * 1)))))) := rfl
  have h2 : xM T 3 I J 3 2 = (((0 + 1 * ((0 + T (I 1) (J 1) * (0 + T (I 0) (J 0) * 1)) + -(T (I 1) (J 0) * (0 + T (I 0) (J 1) * 1)))) + -(T (I 2) (J 1) * ((0 + 1 * (0 + T (I 0) (J 0) * 1)) + -(T (I 1) (J 0) * (0 + 1 * 1))))) + T (I 2) (J 0) * ((0 + 1 * (0 + T (I 0) (J 1) * 1)) + -(T (I 1) (J 1) * (0 + 1 * 1)))) := rfl
  rw [h1, h2]
  generalize T (I 0) (J 0) = t00
  generalize T (I 0) (J 1) = t01
  generalize T (I 0) (J 2) = t02
  generalize T (I 1) (J 0) = t10
  generalize T (I 1) (J 1) = t11
  generalize T (I 1) (J 2) = t12
  generalize T (I 2) (J 0) = t20
  generalize T (I 2) (J 1) = t21
  generalize T (I 2) (J 2) = t22
  grind
theorem id_3_r0 (T : Nat → Nat → Int64) (I J : Nat → Nat) : mD T 3 I J true 0 = xM T 3 I J 0 3 := by
  have h1 : mD T 3 I J true 0 = ((((0 + 0 * (((0 + T (I 2) (J 2) * ((0 + T (I 1) (J 1) * (0 + 0 * 1)) + -(0 * (0 + T (I 1) (J 0) * 1)))) + -(T (I 1) (J 2) * ((0 + T (I 2) (J 1) * (0 + 0 * 1)) + -(0 * (0 + T (I 2) (J 0) * 1))))) + 0 * ((0 + T (I 2) (J 1) * (0 + T (I 1) (J 0) * 1)) + -(T (I 1) (J 1) * (0 + T (I 2) (J 0) * 1))))) + -(1 * (((0 + (-1) * ((0 + T (I 1) (J 1) * (0 + 0 * 1)) + -(0 * (0 + T (I 1) (J 0) * 1)))) + -(T (I 1) (J 2) * ((0 + (-1) * (0 + 0 * 1)) + -(0 * (0 + (-1) * 1))))) + 0 * ((0 + (-1) * (0 + T (I 1) (J 0) * 1)) + -(T (I 1) (J 1) * (0 + (-1) * 1)))))) + 1 * (((0 + (-1) * ((0 + T (I 2) (J 1) * (0 + 0 * 1)) + -(0 * (0 + T (I 2) (J 0) * 1)))) + -(T (I 2) (J 2) * ((0 + (-1) * (0 + 0 * 1)) + -(0 * (0 + (-1) * 1))))) + 0 * ((0 + (-1) * (0 + T (I 2) (J 0) * 1)) + -(T (I 2) (J 1) * (0 + (-1) * 1))))) + -(1 * (((0 + (-1) * ((0 + T (I 2) (J 1) * (0 + T (I 1) (J 0) * 1)) + -(T (I 1) (J 1) * (0 + T (I 2) (J 0) * 1)))) + -(T (I 2) (J 2) * ((0 + (-1) * (0 + T (I 1) (J 0) * 1)) + -(T (I 1) (J 1) * (0 + (-1) * 1))))) + T (I 1) (J 2) * ((0 + (-1) * (0 + T (I 2) (J 0) * 1)) + -(T (I 2) (J 1) * (0 + (-1) * 1)))))) := rfl
  have h2 : xM T 3 I J 0 3 = (((0 + 1 * ((0 + T (I 2) (J 1) * (0 + T (I 1) (J 0) * 1)) + -(T (I 2) (J 0) * (0 + T (I 1) (J 1) * 1)))) + -(1 * ((0 + T (I 2) (J 2) * (0 + T (I 1) (J 0) * 1)) + -(T (I 2) (J 0) * (0 + T (I 1) (J 2) * 1))))) + 1 * ((0 + T (I 2) (J 2) * (0 + T (I 1) (J 1) * 1)) + -(T (I 2) (J 1) * (0 + T (I 1) (J 2) * 1)))) := rfl
  rw [h1, h2]
  generalize T (I 0) (J 0) = t00
  generalize T (I 0) (J 1) = t01
  generalize T (I 0) (J 2) = t02
  generalize T (I 1) (J 0) = t10
  generalize T (I 1) (J 1) = t11
  generalize T (I 1) (J 2) = t12
  generalize T (I 2) (J 0) = t20
  generalize T (I 2) (J 1) = t21
  generalize T (I 2) (J 2) = t22
  grind
theorem id_3_r1 (T : Nat → Nat → Int64) (I J : Nat → Nat) : mD T 3 I J true 1 = -xM T 3 I J 1 3 := by
  have h1 : mD T 3 I J true 1 = ((((0 + 0 * (((0 + T (I 2) (J 2) * ((0 + 0 * (0 + T (I 0) (J 0) * 1)) + -(T (I 0) (J 1) * (0 + 0 * 1)))) + -(0 * ((0 + T (I 2) (J 1) * (0 + T (I 0) (J 0) * 1)) + -(T (I 0) (J 1) * (0 + T (I 2) (J 0) * 1))))) + T (I 0) (J 2) * ((0 + T (I 2) (J 1) * (0 + 0 * 1)) + -(0 * (0 + T (I 2) (J 0) * 1))))) + -(1 * (((0 + (-1) * ((0 + 0 * (0 + T (I 0) (J 0) * 1)) + -(T (I 0) (J 1) * (0 + 0 * 1)))) + -(0 * ((0 + (-1) * (0 + T (I 0) (J 0) * 1)) + -(T (I 0) (J 1) * (0 + (-1) * 1))))) + T (I 0) (J 2) * ((0 + (-1) * (0 + 0 * 1)) + -(0 * (0 + (-1) * 1)))))) + 1 * (((0 + (-1) * ((0 + T (I 2) (J 1) * (0 + T (I 0) (J 0) * 1)) + -(T (I 0) (J 1) * (0 + T (I 2) (J 0) * 1)))) + -(T (I 2) (J 2) * ((0 + (-1) * (0 + T (I 0) (J 0) * 1)) + -(T (I 0) (J 1) * (0 + (-1) * 1))))) + T (I 0) (J 2) * ((0 + (-1) * (0 + T (I 2) (J 0) * 1)) + -(T (I 2) (J 1) * (0 + (-1) * 1))))) + -(1 * (((0 + (-1) * ((0 + T (I 2) (J 1) * (0 + 0 * 1)) + -(0 * (0 + T (I 2) (J 0) * 1)))) + -(T (I 2) (J 2) * ((0 + (-1) * (0 + 0 * 1)) + -(0 * (0 + (-1) * 1))))) + 0 * ((0 + (-1) * (0 + T (I 2) (J 0) * 1)) + -(T (I 2) (J 1) * (0 + (-1) * 1)))))) := rfl
  have h2 : xM T 3 I J 1 3 = (((0 + 1 * ((0 + T (I 2) (J 1) * (0 + T (I 0) (J 0) * 1)) + -(T (I 2) (J 0) * (0 + T (I 0) (J 1) * 1)))) + -(1 * ((0 + T (I 2) (J 2) * (0 + T (I 0) (J 0) * 1)) + -(T (I 2) (J 0) * (0 + T (I 0) (J 2) * 1))))) + 1 * ((0 + T (I 2) (J 2) * (0 + T (I 0) (J 1) * 1)) + -(T (I 2) (J 1) * (0 + T (I 0) (J 2) * 1)))) := rfl
  rw [h1, h2]
  generalize T (I 0) (J 0) = t00
  generalize T (I 0) (J 1) = t01
  generalize T (I 0) (J 2) = t02
  generalize T (I 1) (J 0) = t10
  generalize T (I 1) (J 1) = t11
  generalize T (I 1) (J 2) = t12
  generalize T (I 2) (J 0) = t20
  generalize T (I 2) (J 1) = t21
  generalize T (I 2) (J 2) = t22
  grind
theorem id_3_r2 (T : Nat → Nat → Int64) (I J : Nat → Nat) : mD T 3 I J true 2 = xM T 3 I J 2 3 := by
  have h1 : mD T 3 I J true 2 = ((((0 + 0 * (((0 + 0 * ((0 + T (I 1) (J 1) * (0 + T (I 0) (J 0) * 1)) + -(T (I 0) (J 1) * (0 + T (I 1) (J 0) * 1)))) + -(T (I 1) (J 2) * ((0 + 0 * (0 + T (I 0) (J 0) * 1)) + -(T (I 0) (J 1) * (0 + 0 * 1))))) + T (I 0) (J 2) * ((0 + 0 * (0 + T (I 1) (J 0) * 1)) + -(T (I 1) (J 1) * (0 + 0 * 1))))) + -(1 * (((0 + (-1) * ((0 + T (I 1) (J 1) * (0 + T (I 0) (J 0) * 1)) + -(T (I 0) (J 1) * (0 + T (I 1) (J 0) * 1)))) + -(T (I 1) (J 2) * ((0 + (-1) * (0 + T (I 0) (J 0) * 1)) + -(T (I 0) (J 1) * (0 + (-1) * 1))))) + T (I 0) (J 2) * ((0 + (-1) * (0 + T (I 1) (J 0) * 1)) + -(T (I 1) (J 1) * (0 + (-1) * 1)))))) + 1 * (((0 + (-1) * ((0 + 0 * (0 + T (I 0) (J 0) * 1)) + -(T (I 0) (J 1) * (0 + 0 * 1)))) + -(0 * ((0 + (-1) * (0 + T (I 0) (J 0) * 1)) + -(T (I 0) (J 1) * (0 + (-1) * 1))))) + T (I 0) (J 2) * ((0 + (-1) * (0 + 0 * 1)) + -(0 * (0 + (-1) * 1))))) + -(1 * (((0 + (-1) * ((0 + 0 * (0 + T (I 1) (J 0) * 1)) + -(T (I 1) (J 1) * (0 + 0 * 1)))) + -(0 * ((0 + (-1) * (0 + T (I 1) (J 0) * 1)) + -(T (I 1) (J 1) * (0 + (-1) * 1))))) + T (I 1) (J 2) * ((0 + (-1) * (0 + 0 * 1)) + -(0 * (0 + (-1) * 1)))))) := rfl
  have h2 : xM T 3 I J 2 3 = (((0 + 1 * ((0 + T (I 1) (J 1) * (0 + T (I 0) (J 0) * 1)) + -(T (I 1) (J 0) * (0 + T (I 0) (J 1) * 1)))) + -(1 * ((0 + T (I 1) (J 2) * (0 + T (I 0) (J 0) * 1)) + -(T (I 1) (J 0) * (0 + T (I 0) (J 2) * 1))))) + 1 * ((0 + T (I 1) (J 2) * (0 + T (I 0) (J 1) * 1)) + -(T (I 1) (J 1) * (0 + T (I 0) (J 2) * 1)))) := rfl
  rw [h1, h2]
  generalize T (I 0) (J 0) = t00
  generalize T (I 0) (J 1) = t01
  generalize T (I 0) (J 2) = t02
  generalize T (I 1) (J 0) = t10
  generalize T (I 1) (J 1) = t11
  generalize T (I 1) (J 2) = t12
  generalize T (I 2) (J 0) = t20
  generalize T (I 2) (J 1) = t21
  generalize T (I 2) (J 2) = t22
  grind
