/-! PLAIN LAW, 37: bounds of the minors (printed by xzb.py); a kernel is found -/
set_option maxRecDepth 100000
def bd (z : Int) : Prop := -428400 ≤ z ∧ z ≤ 428400
theorem ab2 {a b : Int} (ha : bd a) (hb : bd b) : -183526560000 ≤ a * b ∧ a * b ≤ 183526560000 := by
  unfold bd at ha hb
  have h : (a * b).natAbs ≤ 428400 * 428400 := by rw [Int.natAbs_mul]; exact Nat.mul_le_mul (by omega) (by omega)
  omega
theorem ab3 {p b : Int} (ha : -183526560000 ≤ p ∧ p ≤ 183526560000) (hb : bd b) : -78622778304000000 ≤ p * b ∧ p * b ≤ 78622778304000000 := by
  unfold bd at hb
  have h : (p * b).natAbs ≤ 183526560000 * 428400 := by rw [Int.natAbs_mul]; exact Nat.mul_le_mul (by omega) (by omega)
  omega
theorem xb_1_2_2 (t : Nat → Nat → Int) (ht : ∀ i j, i < 1 → j < 1 → bd (t i j)) : -3303478080000 ≤ xZ t 1 2 2 ∧ xZ t 1 2 2 ≤ 3303478080000 := by

  rw [xz_1_2_2]
  omega
theorem xb_1_1_1 (t : Nat → Nat → Int) (ht : ∀ i j, i < 1 → j < 1 → bd (t i j)) : -471736669824000000 ≤ xZ t 1 1 1 ∧ xZ t 1 1 1 ≤ 471736669824000000 := by
  have s00 : -428400 ≤ t 0 0 ∧ t 0 0 ≤ 428400 := ht 0 0 (by omega) (by omega)
  rw [xz_1_1_1]
  omega
theorem xb_1_1_0 (t : Nat → Nat → Int) (ht : ∀ i j, i < 1 → j < 1 → bd (t i j)) : -1101159360000 ≤ xZ t 1 1 0 ∧ xZ t 1 1 0 ≤ 1101159360000 := by

  rw [xz_1_1_0]
  omega
theorem xb_1_0_1 (t : Nat → Nat → Int) (ht : ∀ i j, i < 1 → j < 1 → bd (t i j)) : -1101159360000 ≤ xZ t 1 0 1 ∧ xZ t 1 0 1 ≤ 1101159360000 := by

  rw [xz_1_0_1]
  omega
theorem xb_2_3_3 (t : Nat → Nat → Int) (ht : ∀ i j, i < 2 → j < 2 → bd (t i j)) : -3303478080000 ≤ xZ t 2 3 3 ∧ xZ t 2 3 3 ≤ 3303478080000 := by
  have s00 : -428400 ≤ t 0 0 ∧ t 0 0 ≤ 428400 := ht 0 0 (by omega) (by omega)
  have s01 : -428400 ≤ t 0 1 ∧ t 0 1 ≤ 428400 := ht 0 1 (by omega) (by omega)
  have s10 : -428400 ≤ t 1 0 ∧ t 1 0 ≤ 428400 := ht 1 0 (by omega) (by omega)
  have s11 : -428400 ≤ t 1 1 ∧ t 1 1 ≤ 428400 := ht 1 1 (by omega) (by omega)
  rw [xz_2_3_3]
  omega
theorem xb_2_2_2 (t : Nat → Nat → Int) (ht : ∀ i j, i < 2 → j < 2 → bd (t i j)) : -471736669824000000 ≤ xZ t 2 2 2 ∧ xZ t 2 2 2 ≤ 471736669824000000 := by
  have s00 : -428400 ≤ t 0 0 ∧ t 0 0 ≤ 428400 := ht 0 0 (by omega) (by omega)
  have s01 : -428400 ≤ t 0 1 ∧ t 0 1 ≤ 428400 := ht 0 1 (by omega) (by omega)
  have s10 : -428400 ≤ t 1 0 ∧ t 1 0 ≤ 428400 := ht 1 0 (by omega) (by omega)
  have s11 : -428400 ≤ t 1 1 ∧ t 1 1 ≤ 428400 := ht 1 1 (by omega) (by omega)
  have p0 := ab2 (ht 0 0 (by omega) (by omega)) (ht 1 1 (by omega) (by omega))
  have p1 := ab2 (ht 0 1 (by omega) (by omega)) (ht 1 0 (by omega) (by omega))
  rw [xz_2_2_2]
  omega
theorem xb_2_2_0 (t : Nat → Nat → Int) (ht : ∀ i j, i < 2 → j < 2 → bd (t i j)) : -1101159360000 ≤ xZ t 2 2 0 ∧ xZ t 2 2 0 ≤ 1101159360000 := by
  have s01 : -428400 ≤ t 0 1 ∧ t 0 1 ≤ 428400 := ht 0 1 (by omega) (by omega)
  have s11 : -428400 ≤ t 1 1 ∧ t 1 1 ≤ 428400 := ht 1 1 (by omega) (by omega)
  rw [xz_2_2_0]
  omega
theorem xb_2_2_1 (t : Nat → Nat → Int) (ht : ∀ i j, i < 2 → j < 2 → bd (t i j)) : -1101159360000 ≤ xZ t 2 2 1 ∧ xZ t 2 2 1 ≤ 1101159360000 := by
  have s00 : -428400 ≤ t 0 0 ∧ t 0 0 ≤ 428400 := ht 0 0 (by omega) (by omega)
  have s10 : -428400 ≤ t 1 0 ∧ t 1 0 ≤ 428400 := ht 1 0 (by omega) (by omega)
  rw [xz_2_2_1]
  omega
theorem xb_2_0_2 (t : Nat → Nat → Int) (ht : ∀ i j, i < 2 → j < 2 → bd (t i j)) : -1101159360000 ≤ xZ t 2 0 2 ∧ xZ t 2 0 2 ≤ 1101159360000 := by
  have s10 : -428400 ≤ t 1 0 ∧ t 1 0 ≤ 428400 := ht 1 0 (by omega) (by omega)
  have s11 : -428400 ≤ t 1 1 ∧ t 1 1 ≤ 428400 := ht 1 1 (by omega) (by omega)
  rw [xz_2_0_2]
  omega
theorem xb_2_1_2 (t : Nat → Nat → Int) (ht : ∀ i j, i < 2 → j < 2 → bd (t i j)) : -1101159360000 ≤ xZ t 2 1 2 ∧ xZ t 2 1 2 ≤ 1101159360000 := by
  have s00 : -428400 ≤ t 0 0 ∧ t 0 0 ≤ 428400 := ht 0 0 (by omega) (by omega)
  have s01 : -428400 ≤ t 0 1 ∧ t 0 1 ≤ 428400 := ht 0 1 (by omega) (by omega)
  rw [xz_2_1_2]
  omega
theorem xb_3_4_4 (t : Nat → Nat → Int) (ht : ∀ i j, i < 3 → j < 3 → bd (t i j)) : -3303478080000 ≤ xZ t 3 4 4 ∧ xZ t 3 4 4 ≤ 3303478080000 := by
  have s00 : -428400 ≤ t 0 0 ∧ t 0 0 ≤ 428400 := ht 0 0 (by omega) (by omega)
  have s01 : -428400 ≤ t 0 1 ∧ t 0 1 ≤ 428400 := ht 0 1 (by omega) (by omega)
  have s02 : -428400 ≤ t 0 2 ∧ t 0 2 ≤ 428400 := ht 0 2 (by omega) (by omega)
  have s10 : -428400 ≤ t 1 0 ∧ t 1 0 ≤ 428400 := ht 1 0 (by omega) (by omega)
  have s11 : -428400 ≤ t 1 1 ∧ t 1 1 ≤ 428400 := ht 1 1 (by omega) (by omega)
  have s12 : -428400 ≤ t 1 2 ∧ t 1 2 ≤ 428400 := ht 1 2 (by omega) (by omega)
  have s20 : -428400 ≤ t 2 0 ∧ t 2 0 ≤ 428400 := ht 2 0 (by omega) (by omega)
  have s21 : -428400 ≤ t 2 1 ∧ t 2 1 ≤ 428400 := ht 2 1 (by omega) (by omega)
  have s22 : -428400 ≤ t 2 2 ∧ t 2 2 ≤ 428400 := ht 2 2 (by omega) (by omega)
  have p0 := ab2 (ht 0 0 (by omega) (by omega)) (ht 1 1 (by omega) (by omega))
  have p1 := ab2 (ht 0 0 (by omega) (by omega)) (ht 1 2 (by omega) (by omega))
  have p2 := ab2 (ht 0 0 (by omega) (by omega)) (ht 2 1 (by omega) (by omega))
  have p3 := ab2 (ht 0 0 (by omega) (by omega)) (ht 2 2 (by omega) (by omega))
  have p4 := ab2 (ht 0 1 (by omega) (by omega)) (ht 1 0 (by omega) (by omega))
  have p5 := ab2 (ht 0 1 (by omega) (by omega)) (ht 1 2 (by omega) (by omega))
  have p6 := ab2 (ht 0 1 (by omega) (by omega)) (ht 2 0 (by omega) (by omega))
  have p7 := ab2 (ht 0 1 (by omega) (by omega)) (ht 2 2 (by omega) (by omega))
  have p8 := ab2 (ht 0 2 (by omega) (by omega)) (ht 1 0 (by omega) (by omega))
  have p9 := ab2 (ht 0 2 (by omega) (by omega)) (ht 1 1 (by omega) (by omega))
  have p10 := ab2 (ht 0 2 (by omega) (by omega)) (ht 2 0 (by omega) (by omega))
  have p11 := ab2 (ht 0 2 (by omega) (by omega)) (ht 2 1 (by omega) (by omega))
  have p12 := ab2 (ht 1 0 (by omega) (by omega)) (ht 2 1 (by omega) (by omega))
  have p13 := ab2 (ht 1 0 (by omega) (by omega)) (ht 2 2 (by omega) (by omega))
  have p14 := ab2 (ht 1 1 (by omega) (by omega)) (ht 2 0 (by omega) (by omega))
  have p15 := ab2 (ht 1 1 (by omega) (by omega)) (ht 2 2 (by omega) (by omega))
  have p16 := ab2 (ht 1 2 (by omega) (by omega)) (ht 2 0 (by omega) (by omega))
  have p17 := ab2 (ht 1 2 (by omega) (by omega)) (ht 2 1 (by omega) (by omega))
  rw [xz_3_4_4]
  omega
theorem xb_3_3_3 (t : Nat → Nat → Int) (ht : ∀ i j, i < 3 → j < 3 → bd (t i j)) : -471736669824000000 ≤ xZ t 3 3 3 ∧ xZ t 3 3 3 ≤ 471736669824000000 := by
  have s00 : -428400 ≤ t 0 0 ∧ t 0 0 ≤ 428400 := ht 0 0 (by omega) (by omega)
  have s01 : -428400 ≤ t 0 1 ∧ t 0 1 ≤ 428400 := ht 0 1 (by omega) (by omega)
  have s02 : -428400 ≤ t 0 2 ∧ t 0 2 ≤ 428400 := ht 0 2 (by omega) (by omega)
  have s10 : -428400 ≤ t 1 0 ∧ t 1 0 ≤ 428400 := ht 1 0 (by omega) (by omega)
  have s11 : -428400 ≤ t 1 1 ∧ t 1 1 ≤ 428400 := ht 1 1 (by omega) (by omega)
  have s12 : -428400 ≤ t 1 2 ∧ t 1 2 ≤ 428400 := ht 1 2 (by omega) (by omega)
  have s20 : -428400 ≤ t 2 0 ∧ t 2 0 ≤ 428400 := ht 2 0 (by omega) (by omega)
  have s21 : -428400 ≤ t 2 1 ∧ t 2 1 ≤ 428400 := ht 2 1 (by omega) (by omega)
  have s22 : -428400 ≤ t 2 2 ∧ t 2 2 ≤ 428400 := ht 2 2 (by omega) (by omega)
  have p0 := ab3 (ab2 (ht 0 0 (by omega) (by omega)) (ht 1 1 (by omega) (by omega))) (ht 2 2 (by omega) (by omega))
  have p1 := ab3 (ab2 (ht 0 0 (by omega) (by omega)) (ht 1 2 (by omega) (by omega))) (ht 2 1 (by omega) (by omega))
  have p2 := ab3 (ab2 (ht 0 1 (by omega) (by omega)) (ht 1 0 (by omega) (by omega))) (ht 2 2 (by omega) (by omega))
  have p3 := ab3 (ab2 (ht 0 1 (by omega) (by omega)) (ht 1 2 (by omega) (by omega))) (ht 2 0 (by omega) (by omega))
  have p4 := ab3 (ab2 (ht 0 2 (by omega) (by omega)) (ht 1 0 (by omega) (by omega))) (ht 2 1 (by omega) (by omega))
  have p5 := ab3 (ab2 (ht 0 2 (by omega) (by omega)) (ht 1 1 (by omega) (by omega))) (ht 2 0 (by omega) (by omega))
  rw [xz_3_3_3]
  omega
theorem xb_3_3_0 (t : Nat → Nat → Int) (ht : ∀ i j, i < 3 → j < 3 → bd (t i j)) : -1101159360000 ≤ xZ t 3 3 0 ∧ xZ t 3 3 0 ≤ 1101159360000 := by
  have s01 : -428400 ≤ t 0 1 ∧ t 0 1 ≤ 428400 := ht 0 1 (by omega) (by omega)
  have s02 : -428400 ≤ t 0 2 ∧ t 0 2 ≤ 428400 := ht 0 2 (by omega) (by omega)
  have s11 : -428400 ≤ t 1 1 ∧ t 1 1 ≤ 428400 := ht 1 1 (by omega) (by omega)
  have s12 : -428400 ≤ t 1 2 ∧ t 1 2 ≤ 428400 := ht 1 2 (by omega) (by omega)
  have s21 : -428400 ≤ t 2 1 ∧ t 2 1 ≤ 428400 := ht 2 1 (by omega) (by omega)
  have s22 : -428400 ≤ t 2 2 ∧ t 2 2 ≤ 428400 := ht 2 2 (by omega) (by omega)
  have p0 := ab2 (ht 0 1 (by omega) (by omega)) (ht 1 2 (by omega) (by omega))
  have p1 := ab2 (ht 0 1 (by omega) (by omega)) (ht 2 2 (by omega) (by omega))
  have p2 := ab2 (ht 0 2 (by omega) (by omega)) (ht 1 1 (by omega) (by omega))
  have p3 := ab2 (ht 0 2 (by omega) (by omega)) (ht 2 1 (by omega) (by omega))
  have p4 := ab2 (ht 1 1 (by omega) (by omega)) (ht 2 2 (by omega) (by omega))
  have p5 := ab2 (ht 1 2 (by omega) (by omega)) (ht 2 1 (by omega) (by omega))
  rw [xz_3_3_0]
  omega
theorem xb_3_3_1 (t : Nat → Nat → Int) (ht : ∀ i j, i < 3 → j < 3 → bd (t i j)) : -1101159360000 ≤ xZ t 3 3 1 ∧ xZ t 3 3 1 ≤ 1101159360000 := by
  have s00 : -428400 ≤ t 0 0 ∧ t 0 0 ≤ 428400 := ht 0 0 (by omega) (by omega)
  have s02 : -428400 ≤ t 0 2 ∧ t 0 2 ≤ 428400 := ht 0 2 (by omega) (by omega)
  have s10 : -428400 ≤ t 1 0 ∧ t 1 0 ≤ 428400 := ht 1 0 (by omega) (by omega)
  have s12 : -428400 ≤ t 1 2 ∧ t 1 2 ≤ 428400 := ht 1 2 (by omega) (by omega)
  have s20 : -428400 ≤ t 2 0 ∧ t 2 0 ≤ 428400 := ht 2 0 (by omega) (by omega)
  have s22 : -428400 ≤ t 2 2 ∧ t 2 2 ≤ 428400 := ht 2 2 (by omega) (by omega)
  have p0 := ab2 (ht 0 0 (by omega) (by omega)) (ht 1 2 (by omega) (by omega))
  have p1 := ab2 (ht 0 0 (by omega) (by omega)) (ht 2 2 (by omega) (by omega))
  have p2 := ab2 (ht 0 2 (by omega) (by omega)) (ht 1 0 (by omega) (by omega))
  have p3 := ab2 (ht 0 2 (by omega) (by omega)) (ht 2 0 (by omega) (by omega))
  have p4 := ab2 (ht 1 0 (by omega) (by omega)) (ht 2 2 (by omega) (by omega))
  have p5 := ab2 (ht 1 2 (by omega) (by omega)) (ht 2 0 (by omega) (by omega))
  rw [xz_3_3_1]
  omega
theorem xb_3_3_2 (t : Nat → Nat → Int) (ht : ∀ i j, i < 3 → j < 3 → bd (t i j)) : -1101159360000 ≤ xZ t 3 3 2 ∧ xZ t 3 3 2 ≤ 1101159360000 := by
  have s00 : -428400 ≤ t 0 0 ∧ t 0 0 ≤ 428400 := ht 0 0 (by omega) (by omega)
  have s01 : -428400 ≤ t 0 1 ∧ t 0 1 ≤ 428400 := ht 0 1 (by omega) (by omega)
  have s10 : -428400 ≤ t 1 0 ∧ t 1 0 ≤ 428400 := ht 1 0 (by omega) (by omega)
  have s11 : -428400 ≤ t 1 1 ∧ t 1 1 ≤ 428400 := ht 1 1 (by omega) (by omega)
  have s20 : -428400 ≤ t 2 0 ∧ t 2 0 ≤ 428400 := ht 2 0 (by omega) (by omega)
  have s21 : -428400 ≤ t 2 1 ∧ t 2 1 ≤ 428400 := ht 2 1 (by omega) (by omega)
  have p0 := ab2 (ht 0 0 (by omega) (by omega)) (ht 1 1 (by omega) (by omega))
  have p1 := ab2 (ht 0 0 (by omega) (by omega)) (ht 2 1 (by omega) (by omega))
  have p2 := ab2 (ht 0 1 (by omega) (by omega)) (ht 1 0 (by omega) (by omega))
  have p3 := ab2 (ht 0 1 (by omega) (by omega)) (ht 2 0 (by omega) (by omega))
  have p4 := ab2 (ht 1 0 (by omega) (by omega)) (ht 2 1 (by omega) (by omega))
  have p5 := ab2 (ht 1 1 (by omega) (by omega)) (ht 2 0 (by omega) (by omega))
  rw [xz_3_3_2]
  omega
theorem xb_3_0_3 (t : Nat → Nat → Int) (ht : ∀ i j, i < 3 → j < 3 → bd (t i j)) : -1101159360000 ≤ xZ t 3 0 3 ∧ xZ t 3 0 3 ≤ 1101159360000 := by
  have s10 : -428400 ≤ t 1 0 ∧ t 1 0 ≤ 428400 := ht 1 0 (by omega) (by omega)
  have s11 : -428400 ≤ t 1 1 ∧ t 1 1 ≤ 428400 := ht 1 1 (by omega) (by omega)
  have s12 : -428400 ≤ t 1 2 ∧ t 1 2 ≤ 428400 := ht 1 2 (by omega) (by omega)
  have s20 : -428400 ≤ t 2 0 ∧ t 2 0 ≤ 428400 := ht 2 0 (by omega) (by omega)
  have s21 : -428400 ≤ t 2 1 ∧ t 2 1 ≤ 428400 := ht 2 1 (by omega) (by omega)
  have s22 : -428400 ≤ t 2 2 ∧ t 2 2 ≤ 428400 := ht 2 2 (by omega) (by omega)
  have p0 := ab2 (ht 1 0 (by omega) (by omega)) (ht 2 1 (by omega) (by omega))
  have p1 := ab2 (ht 1 0 (by omega) (by omega)) (ht 2 2 (by omega) (by omega))
  have p2 := ab2 (ht 1 1 (by omega) (by omega)) (ht 2 0 (by omega) (by omega))
  have p3 := ab2 (ht 1 1 (by omega) (by omega)) (ht 2 2 (by omega) (by omega))
  have p4 := ab2 (ht 1 2 (by omega) (by omega)) (ht 2 0 (by omega) (by omega))
  have p5 := ab2 (ht 1 2 (by omega) (by omega)) (ht 2 1 (by omega) (by omega))
  rw [xz_3_0_3]
  omega
theorem xb_3_1_3 (t : Nat → Nat → Int) (ht : ∀ i j, i < 3 → j < 3 → bd (t i j)) : -1101159360000 ≤ xZ t 3 1 3 ∧ xZ t 3 1 3 ≤ 1101159360000 := by
  have s00 : -428400 ≤ t 0 0 ∧ t 0 0 ≤ 428400 := ht 0 0 (by omega) (by omega)
  have s01 : -428400 ≤ t 0 1 ∧ t 0 1 ≤ 428400 := ht 0 1 (by omega) (by omega)
  have s02 : -428400 ≤ t 0 2 ∧ t 0 2 ≤ 428400 := ht 0 2 (by omega) (by omega)
  have s20 : -428400 ≤ t 2 0 ∧ t 2 0 ≤ 428400 := ht 2 0 (by omega) (by omega)
  have s21 : -428400 ≤ t 2 1 ∧ t 2 1 ≤ 428400 := ht 2 1 (by omega) (by omega)
  have s22 : -428400 ≤ t 2 2 ∧ t 2 2 ≤ 428400 := ht 2 2 (by omega) (by omega)
  have p0 := ab2 (ht 0 0 (by omega) (by omega)) (ht 2 1 (by omega) (by omega))
  have p1 := ab2 (ht 0 0 (by omega) (by omega)) (ht 2 2 (by omega) (by omega))
  have p2 := ab2 (ht 0 1 (by omega) (by omega)) (ht 2 0 (by omega) (by omega))
  have p3 := ab2 (ht 0 1 (by omega) (by omega)) (ht 2 2 (by omega) (by omega))
  have p4 := ab2 (ht 0 2 (by omega) (by omega)) (ht 2 0 (by omega) (by omega))
  have p5 := ab2 (ht 0 2 (by omega) (by omega)) (ht 2 1 (by omega) (by omega))
  rw [xz_3_1_3]
  omega
theorem xb_3_2_3 (t : Nat → Nat → Int) (ht : ∀ i j, i < 3 → j < 3 → bd (t i j)) : -1101159360000 ≤ xZ t 3 2 3 ∧ xZ t 3 2 3 ≤ 1101159360000 := by
  have s00 : -428400 ≤ t 0 0 ∧ t 0 0 ≤ 428400 := ht 0 0 (by omega) (by omega)
  have s01 : -428400 ≤ t 0 1 ∧ t 0 1 ≤ 428400 := ht 0 1 (by omega) (by omega)
  have s02 : -428400 ≤ t 0 2 ∧ t 0 2 ≤ 428400 := ht 0 2 (by omega) (by omega)
  have s10 : -428400 ≤ t 1 0 ∧ t 1 0 ≤ 428400 := ht 1 0 (by omega) (by omega)
  have s11 : -428400 ≤ t 1 1 ∧ t 1 1 ≤ 428400 := ht 1 1 (by omega) (by omega)
  have s12 : -428400 ≤ t 1 2 ∧ t 1 2 ≤ 428400 := ht 1 2 (by omega) (by omega)
  have p0 := ab2 (ht 0 0 (by omega) (by omega)) (ht 1 1 (by omega) (by omega))
  have p1 := ab2 (ht 0 0 (by omega) (by omega)) (ht 1 2 (by omega) (by omega))
  have p2 := ab2 (ht 0 1 (by omega) (by omega)) (ht 1 0 (by omega) (by omega))
  have p3 := ab2 (ht 0 1 (by omega) (by omega)) (ht 1 2 (by omega) (by omega))
  have p4 := ab2 (ht 0 2 (by omega) (by omega)) (ht 1 0 (by omega) (by omega))
  have p5 := ab2 (ht 0 2 (by omega) (by omega)) (ht 1 1 (by omega) (by omega))
  rw [xz_3_2_3]
  omega
theorem xb (n : Nat) (hn : 1 ≤ n ∧ n ≤ 3) (t : Nat → Nat → Int) (ht : ∀ i j, i < n → j < n → bd (t i j)) : (-3303478080000 ≤ xZ t n (n + 1) (n + 1) ∧ xZ t n (n + 1) (n + 1) ≤ 3303478080000) ∧ (-471736669824000000 ≤ xZ t n n n ∧ xZ t n n n ≤ 471736669824000000) ∧ (∀ k, k < n → -1101159360000 ≤ xZ t n n k ∧ xZ t n n k ≤ 1101159360000) ∧ ∀ k, k < n → -1101159360000 ≤ xZ t n k n ∧ xZ t n k n ≤ 1101159360000 := by
  rcases (by omega : n = 1 ∨ n = 2 ∨ n = 3) with rfl | rfl | rfl
  · refine ⟨xb_1_2_2 t ht, xb_1_1_1 t ht, fun k hk => ?_, fun k hk => ?_⟩
    · rw [show k = 0 by omega]; exact xb_1_1_0 t ht
    · rw [show k = 0 by omega]; exact xb_1_0_1 t ht
  · refine ⟨xb_2_3_3 t ht, xb_2_2_2 t ht, fun k hk => ?_, fun k hk => ?_⟩
    · rcases (by omega : k = 0 ∨ k = 1) with rfl | rfl
      · exact xb_2_2_0 t ht
      · exact xb_2_2_1 t ht
    · rcases (by omega : k = 0 ∨ k = 1) with rfl | rfl
      · exact xb_2_0_2 t ht
      · exact xb_2_1_2 t ht
  · refine ⟨xb_3_4_4 t ht, xb_3_3_3 t ht, fun k hk => ?_, fun k hk => ?_⟩
    · rcases (by omega : k = 0 ∨ k = 1 ∨ k = 2) with rfl | rfl | rfl
      · exact xb_3_3_0 t ht
      · exact xb_3_3_1 t ht
      · exact xb_3_3_2 t ht
    · rcases (by omega : k = 0 ∨ k = 1 ∨ k = 2) with rfl | rfl | rfl
      · exact xb_3_0_3 t ht
      · exact xb_3_1_3 t ht
      · exact xb_3_2_3 t ht

