/-! PLAIN LAW, 16: longs as whole numbers; divisors; exact sums and products -/
set_option maxRecDepth 100000
abbrev fit (z : Int) : Prop := -9223372036854775808 ≤ z ∧ z < 9223372036854775808
theorem lfit (a : Int64) : fit a.toInt := ⟨Int64.le_toInt a, Int64.toInt_lt a⟩
theorem bm_fit {z : Int} (h : fit z) : z.bmod 18446744073709551616 = z := by
  unfold fit at h
  exact Int.bmod_eq_of_le (by omega) (by omega)
theorem ofI_inj {a b : Int64} (h : a.toInt = b.toInt) : a = b := Int64.toInt_inj.mp h
theorem ofI_ti (a : Int64) : Int64.ofInt a.toInt = a := Int64.ofInt_toInt a
theorem ti_ofI (z : Int) : (Int64.ofInt z).toInt = z.bmod 18446744073709551616 := Int64.toInt_ofInt
theorem tadd (a b : Int64) : (a + b).toInt = (a.toInt + b.toInt).bmod 18446744073709551616 := Int64.toInt_add a b
theorem tsub (a b : Int64) : (a - b).toInt = (a.toInt - b.toInt).bmod 18446744073709551616 := Int64.toInt_sub a b
theorem tmul (a b : Int64) : (a * b).toInt = (a.toInt * b.toInt).bmod 18446744073709551616 := Int64.toInt_mul a b
theorem tneg (a : Int64) : (-a).toInt = (-a.toInt).bmod 18446744073709551616 := Int64.toInt_neg a
theorem tdiv64 (a b : Int64) : (a / b).toInt = (a.toInt.tdiv b.toInt).bmod 18446744073709551616 := Int64.toInt_div a b
theorem le64 (a b : Int64) : (a ≤ b) = (a.toInt ≤ b.toInt) := propext Int64.le_iff_toInt_le
theorem lt64 (a b : Int64) : (a < b) = (a.toInt < b.toInt) := propext Int64.lt_iff_toInt_lt
theorem eq64z (a : Int64) : (a = 0) = (a.toInt = 0) := propext ⟨fun h => by rw [h]; rfl, fun h => ofI_inj h⟩
theorem ge064 (a : Int64) : (0 ≤ a) = (0 ≤ a.toInt) := by rw [le64]; rfl
theorem tm_neg {a b : Int} (h : a ≤ 0) : a.tmod b ≤ 0 := by
  have h1 := Int.tmod_nonneg b (show 0 ≤ -a by omega)
  rw [Int.neg_tmod] at h1; omega
theorem tm_abs (a b : Int) : (a.tmod b).natAbs ≤ a.natAbs := by rw [Int.natAbs_tmod]; exact Nat.mod_le _ _
theorem tmod64 (a b : Int64) : (a - a / b * b).toInt = a.toInt.tmod b.toInt := by
  have h : (a - a / b * b).toInt = (a.toInt.tmod b.toInt).bmod 18446744073709551616 := by
    rw [tsub, tmul, tdiv64, Int.tmod_def, Int.mul_comm b.toInt]
    simp only [Int.bmod_mul_bmod, Int.mul_bmod_bmod, Int.sub_bmod_bmod, Int.bmod_sub_bmod]
  rw [h]
  have ha := lfit a
  apply bm_fit
  unfold fit at *
  by_cases h0 : 0 ≤ a.toInt
  · have h1 := Int.tmod_nonneg b.toInt h0
    have h2 := tm_abs a.toInt b.toInt
    omega
  · have h1 := tm_neg (b := b.toInt) (show a.toInt ≤ 0 by omega)
    have h2 := tm_abs a.toInt b.toInt
    omega
/-- the divisor both work out -/
def gcd64 (a b : Int64) : Int64 := Int64.ofInt (Nat.gcd a.toInt.natAbs b.toInt.natAbs : Nat)
theorem dl_eq {Φ : Int64 → Prop} {E : Int64 → Prop} : ∀ n a b, w_X4_divisor_l6 Φ E n a b = w_X2_divisor_l6 Φ E n a b
  | 0, _, _ => rfl
  | n + 1, a, b => by rw [w_X4_divisor_l6, w_X2_divisor_l6]; simp only [dl_eq n]
theorem div_eq {a b : Int64} {Φ : Int64 → Prop} : w_X4_divisor a b Φ = w_X2_divisor a b Φ := by
  unfold w_X4_divisor w_X2_divisor
  rw [dl_eq]; rfl
theorem dv_loop {Φ : Int64 → Prop} {E : Int64 → Prop} : ∀ (k n : Nat) (a b : Int64), b.toInt.natAbs < 2 ^ k → 2 * k < n → (∀ x : Int64, x.toInt.natAbs = Nat.gcd a.toInt.natAbs b.toInt.natAbs → E x) → w_X2_divisor_l6 Φ E n a b
  | k, 0, _, _, _, hn, _ => absurd hn (by omega)
  | 0, n + 1, a, b, hb, _, h => by
    have h0 : b.toInt = 0 := by omega
    rw [w_X2_divisor_l6, eq64z]
    exact ⟨fun _ => h a (by rw [h0]; simp), fun h2 => absurd h0 h2⟩
  | k + 1, 1, _, _, _, hn, _ => absurd hn (by omega)
  | k + 1, n + 2, a, b, hb, hn, h => by
    rw [w_X2_divisor_l6, eq64z]
    refine ⟨fun h0 => h a (by rw [h0]; simp), fun hb0 => ⟨hb0, ?_⟩⟩
    rintro _ rfl
    have hr := tmod64 a b
    have hrn : (a - a / b * b).toInt.natAbs = a.toInt.natAbs % b.toInt.natAbs := by rw [hr, Int.natAbs_tmod]
    have hg : Nat.gcd a.toInt.natAbs b.toInt.natAbs = Nat.gcd b.toInt.natAbs (a - a / b * b).toInt.natAbs := by
      rw [hrn, Nat.gcd_comm, Nat.gcd_rec, Nat.gcd_comm]
    generalize hc : a - a / b * b = c at hr hrn hg
    rw [w_X2_divisor_l6, eq64z]
    refine ⟨fun h0 => h b (by rw [hg, h0]; simp), fun hc0 => ⟨hc0, ?_⟩⟩
    rintro _ rfl
    have hrn2 : (b - b / c * c).toInt.natAbs = b.toInt.natAbs % c.toInt.natAbs := by rw [tmod64, Int.natAbs_tmod]
    have hg2 : Nat.gcd b.toInt.natAbs c.toInt.natAbs = Nat.gcd c.toInt.natAbs (b - b / c * c).toInt.natAbs := by
      rw [hrn2, Nat.gcd_comm, Nat.gcd_rec, Nat.gcd_comm]
    refine dv_loop k n c _ ?_ (by omega) (fun x hx => h x (by rw [hx, hg, hg2]))
    have hcb : c.toInt.natAbs < b.toInt.natAbs := by rw [hrn]; exact Nat.mod_lt _ (by omega)
    have hc1 : 0 < c.toInt.natAbs := by omega
    rw [hrn2]
    have h1 := Nat.mod_lt b.toInt.natAbs hc1
    have h2 : b.toInt.natAbs % c.toInt.natAbs + c.toInt.natAbs ≤ b.toInt.natAbs := by
      have h3 := Nat.div_add_mod b.toInt.natAbs c.toInt.natAbs
      have h4 : 1 ≤ b.toInt.natAbs / c.toInt.natAbs := Nat.div_pos (by omega) hc1
      have h5 : c.toInt.natAbs * 1 ≤ c.toInt.natAbs * (b.toInt.natAbs / c.toInt.natAbs) := Nat.mul_le_mul_left _ h4
      omega
    rw [Nat.pow_succ] at hb
    omega
theorem s_div {a b : Int64} {Φ : Int64 → Prop} (h : Φ (gcd64 a b)) : w_X2_divisor a b Φ := by
  unfold w_X2_divisor
  refine dv_loop 64 gFU a b ?_ (gFU_big (by omega)) (fun x hx => ?_)
  · have := lfit b
    unfold fit at this
    omega
  · unfold w_X2_divisor_b31
    have e : (Int64.ofInt (x.toInt.natAbs : Nat)) = gcd64 a b := by unfold gcd64; rw [hx]
    rw [ge064]
    refine ⟨fun h0 => ?_, fun h0 => ?_⟩
    · have e2 : Int64.ofInt (x.toInt.natAbs : Nat) = x := by
        rw [show ((x.toInt.natAbs : Nat) : Int) = x.toInt by omega, ofI_ti]
      rw [← e2, e]; exact h
    · have e2 : Int64.ofInt (x.toInt.natAbs : Nat) = -x := by
        rw [show ((x.toInt.natAbs : Nat) : Int) = -x.toInt by omega, Int64.ofInt_neg, ofI_ti]
      rw [← e2, e]; exact h
theorem s_div4 {a b : Int64} {Φ : Int64 → Prop} (h : Φ (gcd64 a b)) : w_X4_divisor a b Φ := by rw [div_eq]; exact s_div h
theorem gcd_pos {a b : Int64} (h : 0 < b.toInt) : (gcd64 a b).toInt = (Nat.gcd a.toInt.natAbs b.toInt.natAbs : Nat) ∧ gcd64 a b ≠ 0 := by
  have h1 : Nat.gcd a.toInt.natAbs b.toInt.natAbs ≤ b.toInt.natAbs := Nat.gcd_le_right _ (by omega)
  have h2 : 0 < Nat.gcd a.toInt.natAbs b.toInt.natAbs := Nat.gcd_pos_of_pos_right _ (by omega)
  have hb := lfit b
  have e : (gcd64 a b).toInt = (Nat.gcd a.toInt.natAbs b.toInt.natAbs : Nat) := by
    unfold gcd64
    rw [ti_ofI]; apply bm_fit; unfold fit at *; omega
  refine ⟨e, fun h0 => ?_⟩
  rw [eq64z, e] at h0
  omega
/-! exact sums, differences, negatives -/
theorem neg_msb (x : Int64) : (0 ≤ x.toInt) = (x.toBitVec.msb = false) := by
  rw [BitVec.msb_eq_toInt]
  show _ = (decide (x.toInt < 0) = false)
  simp
theorem xor_sg (x y : Int64) : (0 ≤ (x ^^^ y).toInt) = ((0 ≤ x.toInt) = (0 ≤ y.toInt)) := by
  simp only [neg_msb]
  rw [Int64.toBitVec_xor, BitVec.msb_xor]
  cases x.toBitVec.msb <;> cases y.toBitVec.msb <;> simp
theorem and_sg (x y : Int64) : (0 ≤ (x &&& y).toInt) = (0 ≤ x.toInt ∨ 0 ≤ y.toInt) := by
  simp only [neg_msb]
  rw [Int64.toBitVec_and, BitVec.msb_and]
  cases x.toBitVec.msb <;> cases y.toBitVec.msb <;> simp
theorem bm_cases (z : Int) (h1 : -18446744073709551616 ≤ z) (h2 : z < 18446744073709551616) : z.bmod 18446744073709551616 = if z < -9223372036854775808 then z + 18446744073709551616 else if z < 9223372036854775808 then z else z - 18446744073709551616 := by
  have h3 : z.bmod 18446744073709551616 = if z % 18446744073709551616 < 9223372036854775808 then z % 18446744073709551616 else z % 18446744073709551616 - 18446744073709551616 := by
    rw [Int.bmod_def]; rfl
  rw [h3]
  split
  · split
    · omega
    · split <;> omega
  · split
    · omega
    · split <;> omega
theorem sum_fit (a b : Int64) : (fit (a.toInt + b.toInt)) = ((0 ≤ a.toInt) ≠ (0 ≤ b.toInt) ∨ (0 ≤ a.toInt) = (0 ≤ (a + b).toInt)) := by
  have ha := lfit a
  have hb := lfit b
  unfold fit at *
  rw [tadd, bm_cases _ (by omega) (by omega)]
  apply propext
  simp only [ne_eq, eq_iff_iff]
  split
  · omega
  · split <;> omega
theorem dif_fit (a b : Int64) : (fit (a.toInt - b.toInt)) = ((0 ≤ a.toInt) = (0 ≤ b.toInt) ∨ (0 ≤ a.toInt) = (0 ≤ (a - b).toInt)) := by
  have ha := lfit a
  have hb := lfit b
  unfold fit at *
  rw [tsub, bm_cases _ (by omega) (by omega)]
  apply propext
  simp only [eq_iff_iff]
  split
  · omega
  · split <;> omega
def jkA (st : St) (Φa : St → Prop) : Prop := sN st + 1 ≤ gCAP ∧ sS st + 6 ≤ gCAPS ∧ ∀ a b, a ≤ 1 → b ≤ 6 → Φa (jk st a b)
theorem s_addExact {st : St} {a b : Int64} {Φ : Int64 → Prop} {Φa : St → Prop} (h1 : fit (a.toInt + b.toInt) → Φ (a + b)) (h2 : ¬ fit (a.toInt + b.toInt) → jkA st Φa) : w_J8_addExact st a b Φ Φa := by
  unfold w_J8_addExact
  rintro _ rfl
  rw [ge064, and_sg, xor_sg, xor_sg]
  have e : ((0 ≤ a.toInt) = (0 ≤ (a + b).toInt) ∨ (0 ≤ b.toInt) = (0 ≤ (a + b).toInt)) = fit (a.toInt + b.toInt) := by
    rw [sum_fit]
    apply propext
    simp only [ne_eq, eq_iff_iff]
    omega
  rw [e]
  exact ⟨h1, h2⟩
theorem s_subExact {st : St} {a b : Int64} {Φ : Int64 → Prop} {Φa : St → Prop} (h1 : fit (a.toInt - b.toInt) → Φ (a - b)) (h2 : ¬ fit (a.toInt - b.toInt) → jkA st Φa) : w_J8_subtractExact st a b Φ Φa := by
  unfold w_J8_subtractExact
  rintro _ rfl
  rw [ge064, and_sg, xor_sg, xor_sg, ← dif_fit]
  exact ⟨h1, h2⟩
theorem s_negExact {st : St} {a : Int64} {Φ : Int64 → Prop} {Φa : St → Prop} (h1 : fit (-a.toInt) → Φ (-a)) (h2 : ¬ fit (-a.toInt) → jkA st Φa) : w_J8_negateExact st a Φ Φa := by
  unfold w_J8_negateExact
  have ha := lfit a
  have e : (a = (-9223372036854775808)) = (a.toInt = -9223372036854775808) := propext ⟨fun h => by rw [h]; decide, fun h => ofI_inj (by rw [h]; decide)⟩
  have e2 : fit (-a.toInt) = (a ≠ (-9223372036854775808)) := by
    rw [ne_eq, e]; unfold fit at *; apply propext; omega
  rw [e2] at h1 h2
  exact ⟨h1, fun h => h2 (fun h3 => h3 h)⟩
/-! exact products -/
def uN (x : Int64) : Nat := x.toUInt64.toNat
theorem uN_lt (x : Int64) : uN x < 18446744073709551616 := x.toUInt64.toNat_lt
theorem uN_mul (x y : Int64) : uN (x * y) = (uN x * uN y) % 18446744073709551616 := by
  show (x.toUInt64 * y.toUInt64).toNat = _
  exact UInt64.toNat_mul _ _
theorem uN_shr (x : Int64) (s : UInt64) : uN (x.toUInt64 >>> s).toInt64 = uN x / 2 ^ (s.toNat % 64) := by
  show (x.toUInt64 >>> s).toNat = _
  rw [UInt64.toNat_shiftRight, Nat.shiftRight_eq_div_pow]
  rfl
theorem uN_s32 (x : Int64) : uN (x.toUInt64 >>> ((32 : Int32).toInt64.toUInt64 &&& Int64.toUInt64 63)).toInt64 = uN x / 4294967296 := by
  have h : ((32 : Int32).toInt64.toUInt64 &&& Int64.toUInt64 63).toNat % 64 = 32 := by decide
  rw [uN_shr, h]
theorem uN_s31 (x : Int64) : uN (x.toUInt64 >>> ((31 : Int32).toInt64.toUInt64 &&& Int64.toUInt64 63)).toInt64 = uN x / 2147483648 := by
  have h : ((31 : Int32).toInt64.toUInt64 &&& Int64.toUInt64 63).toNat % 64 = 31 := by decide
  rw [uN_shr, h]
theorem uN_lo (x : Int64) : uN (x &&& 4294967295) = uN x % 4294967296 := by
  show (x.toUInt64 &&& Int64.toUInt64 4294967295).toNat = _
  rw [UInt64.toNat_and]
  exact Nat.and_two_pow_sub_one_eq_mod _ 32
theorem uN_int (x : Int64) : x.toInt = if 2 * uN x < 18446744073709551616 then (uN x : Int) else (uN x : Int) - 18446744073709551616 := BitVec.toInt_eq_toNat_cond _
theorem uN_or (x y : Int64) : uN (x ||| y) = uN x ||| uN y := UInt64.toNat_or _ _
theorem uN_z {x : Int64} (h : uN x = 0) : x = 0 := ofI_inj (by rw [uN_int, h]; rfl)
theorem asr32 (x : Int64) : (x >>> ((32 : Int32).toInt64 &&& 63)).toInt = x.toInt / 4294967296 := by
  have h : (((32 : Int32).toInt64 &&& 63).toBitVec.smod 64).toNat = 32 := by decide
  show (x.toBitVec.sshiftRight' (((32 : Int32).toInt64 &&& 63).toBitVec.smod 64)).toInt = _
  rw [BitVec.sshiftRight', h, BitVec.toInt_sshiftRight, Int.shiftRight_eq_div_pow]
  rfl
theorem asr63 (x : Int64) : (x >>> ((63 : Int32).toInt64 &&& 63)).toInt = x.toInt / 9223372036854775808 := by
  have h : (((63 : Int32).toInt64 &&& 63).toBitVec.smod 64).toNat = 63 := by decide
  show (x.toBitVec.sshiftRight' (((63 : Int32).toInt64 &&& 63).toBitVec.smod 64)).toInt = _
  rw [BitVec.sshiftRight', h, BitVec.toInt_sshiftRight, Int.shiftRight_eq_div_pow]
  rfl
theorem lo32 (x : Int64) : (x &&& 4294967295).toInt = x.toInt % 4294967296 := by
  rw [uN_int (x &&& 4294967295), uN_lo, uN_int x]
  have := uN_lt x
  split <;> split <;> omega
theorem s_mulHigh {a b : Int64} {Φ : Int64 → Prop} (h : Φ (Int64.ofInt (a.toInt * b.toInt / 18446744073709551616))) : w_J8_multiplyHigh a b Φ := by
  unfold w_J8_multiplyHigh
  rintro v1 e1 v3 e3 v5 e5 v7 e7 v9 e9 v11 e11 v13 e13 v15 e15 v17 e17
  have ha := lfit a
  have hb := lfit b
  have t1 : v1.toInt = a.toInt / 4294967296 := by rw [e1, asr32]
  have t3 : v3.toInt = a.toInt % 4294967296 := by rw [e3, lo32]
  have t5 : v5.toInt = b.toInt / 4294967296 := by rw [e5, asr32]
  have t7 : v7.toInt = b.toInt % 4294967296 := by rw [e7, lo32]
  unfold fit at ha hb
  have b1 : -2147483648 ≤ v1.toInt ∧ v1.toInt ≤ 2147483647 := by omega
  have b3 : 0 ≤ v3.toInt ∧ v3.toInt ≤ 4294967295 := by omega
  have b5 : -2147483648 ≤ v5.toInt ∧ v5.toInt ≤ 2147483647 := by omega
  have b7 : 0 ≤ v7.toInt ∧ v7.toInt ≤ 4294967295 := by omega
  have ea : a.toInt = v1.toInt * 4294967296 + v3.toInt := by omega
  have eb : b.toInt = v5.toInt * 4294967296 + v7.toInt := by omega
  -- the four products
  have w1 : v3.toInt * v7.toInt ≤ 4294967295 * v7.toInt := Int.mul_le_mul_of_nonneg_right b3.2 b7.1
  have w2 : 0 ≤ v3.toInt * v7.toInt := Int.mul_nonneg b3.1 b7.1
  have r1 : v1.toInt * v7.toInt ≤ 2147483647 * v7.toInt := Int.mul_le_mul_of_nonneg_right b1.2 b7.1
  have r2 : -2147483648 * v7.toInt ≤ v1.toInt * v7.toInt := Int.mul_le_mul_of_nonneg_right b1.1 b7.1
  have s1 : v5.toInt * v3.toInt ≤ 2147483647 * v3.toInt := Int.mul_le_mul_of_nonneg_right b5.2 b3.1
  have s2 : -2147483648 * v3.toInt ≤ v5.toInt * v3.toInt := Int.mul_le_mul_of_nonneg_right b5.1 b3.1
  have es : v3.toInt * v5.toInt = v5.toInt * v3.toInt := Int.mul_comm _ _
  have eAB : a.toInt * b.toInt = v1.toInt * v5.toInt * 18446744073709551616 + (v1.toInt * v7.toInt + v5.toInt * v3.toInt) * 4294967296 + v3.toInt * v7.toInt := by
    rw [ea, eb, Int.add_mul, Int.mul_add, Int.mul_add]
    have q1 : v1.toInt * 4294967296 * (v5.toInt * 4294967296) = v1.toInt * v5.toInt * 18446744073709551616 := by
      rw [Int.mul_assoc, Int.mul_left_comm 4294967296, ← Int.mul_assoc]; rfl
    have q2 : v1.toInt * 4294967296 * v7.toInt = v1.toInt * v7.toInt * 4294967296 := by
      rw [Int.mul_assoc, Int.mul_comm 4294967296, ← Int.mul_assoc]
    have q3 : v3.toInt * (v5.toInt * 4294967296) = v5.toInt * v3.toInt * 4294967296 := by
      rw [← Int.mul_assoc, es]
    rw [q1, q2, q3]; omega
  -- the low product, unsigned
  have u3 : (uN v3 : Int) = v3.toInt := by have := uN_int v3; have := uN_lt v3; split at * <;> omega
  have u7 : (uN v7 : Int) = v7.toInt := by have := uN_int v7; have := uN_lt v7; split at * <;> omega
  have u9 : (uN v9 : Int) = v3.toInt * v7.toInt := by
    have hm : ((uN v3 * uN v7 : Nat) : Int) = v3.toInt * v7.toInt := by rw [Int.natCast_mul, u3, u7]
    rw [e9, uN_mul]
    generalize uN v3 * uN v7 = t at hm ⊢
    rw [← hm] at w1 ⊢
    rw [Nat.mod_eq_of_lt (by omega)]
  generalize hw : v3.toInt * v7.toInt = w at *
  generalize hr : v1.toInt * v7.toInt = r at *
  generalize hs : v5.toInt * v3.toInt = s at *
  generalize hp : v1.toInt * v5.toInt = p at *
  have tq : ((v9.toUInt64 >>> ((32 : Int32).toInt64.toUInt64 &&& Int64.toUInt64 63)).toInt64).toInt = w / 4294967296 := by
    rw [uN_int, uN_s32]
    have := uN_lt v9
    split <;> omega
  have t11 : v11.toInt = r + w / 4294967296 := by
    rw [e11, tadd, tmul, tq, hr, bm_fit (z := r) (by unfold fit; omega)]
    apply bm_fit; unfold fit; omega
  have t13 : v13.toInt = v11.toInt % 4294967296 := by rw [e13, lo32]
  have t15 : v15.toInt = v11.toInt / 4294967296 := by rw [e15, asr32]
  have t17 : v17.toInt = v13.toInt + s := by
    rw [e17, tadd, tmul, es, bm_fit (z := s) (by unfold fit; omega)]
    apply bm_fit; unfold fit; omega
  have ef : v1 * v5 + v15 + (v17 >>> ((32 : Int32).toInt64 &&& 63)) = Int64.ofInt (a.toInt * b.toInt / 18446744073709551616) := by
    apply ofI_inj
    rw [ti_ofI, tadd, tadd, tmul, asr32, t17, t15, t13, t11, hp, eAB]
    simp only [Int.bmod_add_bmod]
    congr 1
    omega
  rw [ef]; exact h
theorem s_product_eq {a b : Int64} : (Int64.ofInt (a.toInt * b.toInt / 18446744073709551616) = ((a * b) >>> ((63 : Int32).toInt64 &&& 63))) = fit (a.toInt * b.toInt) := by
  have e : (Int64.ofInt (a.toInt * b.toInt / 18446744073709551616) = ((a * b) >>> ((63 : Int32).toInt64 &&& 63))) = ((Int64.ofInt (a.toInt * b.toInt / 18446744073709551616)).toInt = ((a * b) >>> ((63 : Int32).toInt64 &&& 63)).toInt) := propext ⟨fun h => by rw [h], fun h => ofI_inj h⟩
  have ha := lfit a
  have hb := lfit b
  unfold fit at ha hb
  have hP : (a.toInt * b.toInt).natAbs ≤ 9223372036854775808 * 9223372036854775808 := by
    rw [Int.natAbs_mul]
    exact Nat.mul_le_mul (by omega) (by omega)
  rw [e, asr63, tmul, ti_ofI]
  generalize a.toInt * b.toInt = P at *
  rw [bm_fit (z := P / 18446744073709551616) (by unfold fit; omega)]
  have h1 : P.bmod 18446744073709551616 = if P % 18446744073709551616 < 9223372036854775808 then P % 18446744073709551616 else P % 18446744073709551616 - 18446744073709551616 := by
    rw [Int.bmod_def]; rfl
  rw [h1]
  apply propext
  unfold fit
  split <;> omega
theorem s_mulExact {st : St} {a b : Int64} {Φ : Int64 → Prop} {Φa : St → Prop} (h1 : fit (a.toInt * b.toInt) → Φ (a * b)) (h2 : ¬ fit (a.toInt * b.toInt) → jkA st Φa) : w_J8_multiplyExact st a b Φ Φa := by
  have ha := lfit a
  have hb := lfit b
  have emin : (a = (-9223372036854775808)) = (a.toInt = -9223372036854775808) := propext ⟨fun h => by rw [h]; decide, fun h => ofI_inj (by rw [h]; decide)⟩
  have em1 : (b = (-1)) = (b.toInt = -1) := propext ⟨fun h => by rw [h]; decide, fun h => ofI_inj (by rw [h]; decide)⟩
  unfold w_J8_multiplyExact
  rintro _ rfl
  -- what the absolute values are, unsigned
  have habs : ∀ x : Int64, ∀ Ψ : Int64 → Prop, (∀ y : Int64, uN y = x.toInt.natAbs → Ψ y) → w_J8_abs x Ψ := fun x Ψ hΨ => by
    have hx := lfit x
    have hl := uN_lt x
    have hi := uN_int x
    unfold w_J8_abs
    rw [ge064]
    refine ⟨fun h0 => hΨ x ?_, fun h0 => hΨ (-x) ?_⟩
    · split at hi <;> omega
    · have hl2 := uN_lt (-x)
      have hi2 := uN_int (-x)
      unfold fit at hx
      rw [tneg, bm_cases _ (by omega) (by omega)] at hi2
      split at hi2
      · omega
      · split at hi2 <;> split at hi2 <;> omega
  refine habs a _ (fun r3 e3 => habs b _ (fun r11 e11 => ?_))
  have hq : (((r3 ||| r11).toUInt64 >>> ((31 : Int32).toInt64.toUInt64 &&& Int64.toUInt64 63)).toInt64 = 0) = ((uN r3 ||| uN r11) / 2147483648 = 0) := by
    apply propext
    rw [← uN_or, ← uN_s31]
    exact ⟨fun h => by rw [h]; rfl, fun h => uN_z h⟩
  rw [hq, e3, e11]
  have small : ∀ {P : Int}, P.natAbs ≤ 2147483647 * 2147483647 → fit P := fun {P} h => by unfold fit; omega
  have h45 : (a.toInt = -9223372036854775808 → b.toInt ≠ -1 → fit (a.toInt * b.toInt)) → (a.toInt ≠ -9223372036854775808 → fit (a.toInt * b.toInt)) → w_J8_multiplyExact_b45 Φ Φa st a b (a * b) := fun k1 k2 => by
    unfold w_J8_multiplyExact_b45 w_J8_multiplyExact_b61
    rw [ne_eq, emin, ne_eq, em1]
    refine ⟨fun h => h1 (k2 h), fun h => ⟨fun h3 => h1 (k1 h h3), fun h3 => h2 ?_⟩⟩
    rw [h, h3]; decide
  refine ⟨fun h0 => h1 (small ?_), fun _ => ⟨fun hb0 => ?_, fun hb0 => ⟨hb0, fun hne => h2 ?_, fun heq => ?_⟩⟩⟩
  · rw [Int.natAbs_mul]
    have g1 : a.toInt.natAbs ≤ a.toInt.natAbs ||| b.toInt.natAbs := Nat.left_le_or
    have g2 : b.toInt.natAbs ≤ a.toInt.natAbs ||| b.toInt.natAbs := Nat.right_le_or
    exact Nat.mul_le_mul (by omega) (by omega)
  · rw [eq64z] at hb0
    have : fit (a.toInt * b.toInt) := by rw [hb0, Int.mul_zero]; decide
    exact h45 (fun _ _ => this) (fun _ => this)
  · intro hf
    apply hne
    rw [eq64z] at hb0
    apply ofI_inj
    rw [tdiv64, tmul, bm_fit hf, Int.mul_tdiv_cancel _ hb0, bm_fit ha]
  · rw [eq64z] at hb0
    have hV := lfit (a * b)
    have hd := tdiv64 (a * b) b
    rw [heq] at hd
    have key : (a * b).toInt.tdiv b.toInt = a.toInt → fit (a.toInt * b.toInt) := fun hk => by
      have hm := Int.tmod_def (a * b).toInt b.toInt
      rw [hk, Int.mul_comm] at hm
      have e9 : a.toInt * b.toInt = (a * b).toInt - (a * b).toInt.tmod b.toInt := by omega
      rw [e9]
      unfold fit at hV ⊢
      by_cases h0 : 0 ≤ (a * b).toInt
      · have q1 := Int.tmod_nonneg b.toInt h0
        have q2 := tm_abs (a * b).toInt b.toInt
        omega
      · have q1 := tm_neg (b := b.toInt) (show (a * b).toInt ≤ 0 by omega)
        have q2 := tm_abs (a * b).toInt b.toInt
        omega
    have hab : ((a * b).toInt.tdiv b.toInt).natAbs ≤ (a * b).toInt.natAbs := by
      rw [Int.natAbs_tdiv]; exact Nat.div_le_self _ _
    by_cases hfq : fit ((a * b).toInt.tdiv b.toInt)
    · rw [bm_fit hfq] at hd
      exact h45 (fun _ _ => key hd.symm) (fun _ => key hd.symm)
    · have hq2 : (a * b).toInt.tdiv b.toInt = 9223372036854775808 := by unfold fit at hfq hV; omega
      rw [hq2] at hd
      have ha2 : a.toInt = -9223372036854775808 := by rw [hd]; decide
      have hVm : (a * b).toInt = -9223372036854775808 := by
        unfold fit at hV
        rw [hq2] at hab; omega
      have hb1 : b.toInt = -1 := by
        have h9 := Int.natAbs_tdiv (a * b).toInt b.toInt
        rw [hq2, hVm] at h9
        have h9 : 9223372036854775808 = 9223372036854775808 / b.toInt.natAbs := h9
        have h10 : b.toInt.natAbs = 1 := by
          rcases (by omega : b.toInt.natAbs = 0 ∨ b.toInt.natAbs = 1 ∨ 2 ≤ b.toInt.natAbs) with h | h | h
          · omega
          · exact h
          · have := Nat.div_lt_self (n := 9223372036854775808) (k := b.toInt.natAbs) (by omega) (by omega)
            omega
        rcases (by omega : b.toInt = 1 ∨ b.toInt = -1) with h | h
        · rw [h, Int.tdiv_one, hVm] at hq2; omega
        · exact h
      exact h45 (fun _ h => absurd hb1 h) (fun h => absurd ha2 h)
