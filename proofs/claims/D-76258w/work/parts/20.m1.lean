set_option maxRecDepth 100000
def w_J8_abs (p1 : Int64) (Φ : Int64 → Prop) : Prop := ((0 ≤ p1) → Φ p1) ∧ ((¬ 0 ≤ p1) → Φ (-p1))
theorem nm_J8_abs : yJ8_abs.cls ≠ "java/lang/invoke/MethodHandle" ∧ yJ8_abs.cls ≠ "java/lang/invoke/VarHandle" ∧ (parseMethodDescriptor yJ8_abs.desc).map (fun d => d.parameters.length) = some 1 := by decide +kernel
theorem e_J8_abs : plainFor yJ8_abs = true := Math_plain rfl (by decide +kernel)
theorem m_J8_abs {θ : Th} {l : Launch} (hl0 : l.stackTraces = false) {d : Nat} (hd : 0 ≤ d) (st0 : St) (p1 : Int64) {Φ : Int64 → Prop} (h : w_J8_abs p1 Φ) : Ct θ l yJ8_abs (ws_ yJ8_abs cJ8_abs 2 (some Jvm.ClassFile.FieldType.long)) d [.long p1] st0 (rL st0 Φ, noX) := by
  refine Ct_entry hl0 e_J8_abs (Nat.le_of_ble_eq_true rfl) (fun κ hκ _ C => ?_)
  have hn : ∀ r, Φ r → ((rL st0 Φ, noX) : Ph).1 st0 (some (.long r)) := fun r q => ⟨r, rfl, rfl, q⟩
  change X _ _ _ _ _ [(0, .long p1)] _
  unfold w_J8_abs at h
  refine X_lload_n C dJ8_abs_0 rfl 0 rfl ?_
  refine X_lconst (v := 0) C dJ8_abs_1 rfl ?_
  refine X_lcmp_ge (tgt := 11) C dJ8_abs_2 dJ8_abs_3 (by decide) (fun c1 => ?_) (fun c1 => ?_)
  · have h := h.1 c1
    refine X_lload_n C dJ8_abs_11 rfl 0 rfl ?_
    exact X_lret C rfl dJ8_abs_12 (hn _ h)
  · have h := h.2 c1
    refine X_lload_n C dJ8_abs_6 rfl 0 rfl ?_
    refine X_lneg C dJ8_abs_7 ?_
    refine X_goto (tgt := 12) C dJ8_abs_8 (by decide) ?_
    exact X_lret C rfl dJ8_abs_12 (hn _ h)

def w_J8_multiplyHigh (p1 : Int64) (p2 : Int64) (Φ : Int64 → Prop) : Prop := ∀ v1 : Int64, v1 = (p1 >>> ((32 : Int32).toInt64 &&& 63)) → ∀ v3 : Int64, v3 = (p1 &&& 4294967295) → ∀ v5 : Int64, v5 = (p2 >>> ((32 : Int32).toInt64 &&& 63)) → ∀ v7 : Int64, v7 = (p2 &&& 4294967295) → ∀ v9 : Int64, v9 = (v3 * v7) → ∀ v11 : Int64, v11 = ((v1 * v7) + ((v9.toUInt64 >>> ((32 : Int32).toInt64.toUInt64 &&& Int64.toUInt64 63)).toInt64)) → ∀ v13 : Int64, v13 = (v11 &&& 4294967295) → ∀ v15 : Int64, v15 = (v11 >>> ((32 : Int32).toInt64 &&& 63)) → ∀ v17 : Int64, v17 = (v13 + (v3 * v5)) → Φ (((v1 * v5) + v15) + (v17 >>> ((32 : Int32).toInt64 &&& 63)))
theorem nm_J8_multiplyHigh : yJ8_multiplyHigh.cls ≠ "java/lang/invoke/MethodHandle" ∧ yJ8_multiplyHigh.cls ≠ "java/lang/invoke/VarHandle" ∧ (parseMethodDescriptor yJ8_multiplyHigh.desc).map (fun d => d.parameters.length) = some 2 := by decide +kernel
theorem e_J8_multiplyHigh : plainFor yJ8_multiplyHigh = true := Math_plain rfl (by decide +kernel)
theorem m_J8_multiplyHigh {θ : Th} {l : Launch} (hl0 : l.stackTraces = false) {d : Nat} (hd : 0 ≤ d) (st0 : St) (p1 : Int64) (p2 : Int64) {Φ : Int64 → Prop} (h : w_J8_multiplyHigh p1 p2 Φ) : Ct θ l yJ8_multiplyHigh (ws_ yJ8_multiplyHigh cJ8_multiplyHigh 20 (some Jvm.ClassFile.FieldType.long)) d [.long p1, .long p2] st0 (rL st0 Φ, noX) := by
  refine Ct_entry hl0 e_J8_multiplyHigh (Nat.le_of_ble_eq_true rfl) (fun κ hκ _ C => ?_)
  have hn : ∀ r, Φ r → ((rL st0 Φ, noX) : Ph).1 st0 (some (.long r)) := fun r q => ⟨r, rfl, rfl, q⟩
  change X _ _ _ _ _ [(0, .long p1), (2, .long p2)] _
  unfold w_J8_multiplyHigh at h
  refine X_lload_n C dJ8_multiplyHigh_0 rfl 0 rfl ?_
  refine X_bipush (v := 32) C dJ8_multiplyHigh_1 rfl ?_
  refine X_lshr C dJ8_multiplyHigh_3 ?_
  refine X_topl (fun v1 e2 => ?_)
  have h := h v1 e2
  refine X_lstore C dJ8_multiplyHigh_4 (lo2 := [(4, _), (0, _), (2, _)]) (by decide) rfl ?_
  refine X_lload_n C dJ8_multiplyHigh_6 rfl 1 rfl ?_
  refine X_ldc2 C q2099 dJ8_multiplyHigh_7 ?_
  refine X_land C dJ8_multiplyHigh_10 ?_
  refine X_topl (fun v3 e4 => ?_)
  have h := h v3 e4
  refine X_lstore C dJ8_multiplyHigh_11 (lo2 := [(6, _), (4, _), (0, _), (2, _)]) (by decide) rfl ?_
  refine X_lload_n C dJ8_multiplyHigh_13 rfl 3 rfl ?_
  refine X_bipush (v := 32) C dJ8_multiplyHigh_14 rfl ?_
  refine X_lshr C dJ8_multiplyHigh_16 ?_
  refine X_topl (fun v5 e6 => ?_)
  have h := h v5 e6
  refine X_lstore C dJ8_multiplyHigh_17 (lo2 := [(8, _), (6, _), (4, _), (0, _), (2, _)]) (by decide) rfl ?_
  refine X_lload_n C dJ8_multiplyHigh_19 rfl 4 rfl ?_
  refine X_ldc2 C q2099 dJ8_multiplyHigh_20 ?_
  refine X_land C dJ8_multiplyHigh_23 ?_
  refine X_topl (fun v7 e8 => ?_)
  have h := h v7 e8
  refine X_lstore C dJ8_multiplyHigh_24 (lo2 := [(10, _), (8, _), (6, _), (4, _), (0, _), (2, _)]) (by decide) rfl ?_
  refine X_lload C dJ8_multiplyHigh_26 2 rfl ?_
  refine X_lload C dJ8_multiplyHigh_28 0 rfl ?_
  refine X_lmul C dJ8_multiplyHigh_30 ?_
  refine X_topl (fun v9 e10 => ?_)
  have h := h v9 e10
  refine X_lstore C dJ8_multiplyHigh_31 (lo2 := [(12, _), (10, _), (8, _), (6, _), (4, _), (0, _), (2, _)]) (by decide) rfl ?_
  refine X_lload C dJ8_multiplyHigh_33 4 rfl ?_
  refine X_lload C dJ8_multiplyHigh_35 1 rfl ?_
  refine X_lmul C dJ8_multiplyHigh_37 ?_
  refine X_lload C dJ8_multiplyHigh_38 0 rfl ?_
  refine X_bipush (v := 32) C dJ8_multiplyHigh_40 rfl ?_
  refine X_lushr C dJ8_multiplyHigh_42 ?_
  refine X_ladd C dJ8_multiplyHigh_43 ?_
  refine X_topl (fun v11 e12 => ?_)
  have h := h v11 e12
  refine X_lstore C dJ8_multiplyHigh_44 (lo2 := [(14, _), (12, _), (10, _), (8, _), (6, _), (4, _), (0, _), (2, _)]) (by decide) rfl ?_
  refine X_lload C dJ8_multiplyHigh_46 0 rfl ?_
  refine X_ldc2 C q2099 dJ8_multiplyHigh_48 ?_
  refine X_land C dJ8_multiplyHigh_51 ?_
  refine X_topl (fun v13 e14 => ?_)
  have h := h v13 e14
  refine X_lstore C dJ8_multiplyHigh_52 (lo2 := [(16, _), (14, _), (12, _), (10, _), (8, _), (6, _), (4, _), (0, _), (2, _)]) (by decide) rfl ?_
  refine X_lload C dJ8_multiplyHigh_54 1 rfl ?_
  refine X_bipush (v := 32) C dJ8_multiplyHigh_56 rfl ?_
  refine X_lshr C dJ8_multiplyHigh_58 ?_
  refine X_topl (fun v15 e16 => ?_)
  have h := h v15 e16
  refine X_lstore C dJ8_multiplyHigh_59 (lo2 := [(18, _), (16, _), (14, _), (12, _), (10, _), (8, _), (6, _), (4, _), (0, _), (2, _)]) (by decide) rfl ?_
  refine X_lload C dJ8_multiplyHigh_61 1 rfl ?_
  refine X_lload C dJ8_multiplyHigh_63 6 rfl ?_
  refine X_lload C dJ8_multiplyHigh_65 5 rfl ?_
  refine X_lmul C dJ8_multiplyHigh_67 ?_
  refine X_ladd C dJ8_multiplyHigh_68 ?_
  refine X_topl (fun v17 e18 => ?_)
  have h := h v17 e18
  refine X_lstore C dJ8_multiplyHigh_69 (lo2 := [(16, _), (18, _), (14, _), (12, _), (10, _), (8, _), (6, _), (4, _), (0, _), (2, _)]) (by decide) rfl ?_
  refine X_lload C dJ8_multiplyHigh_71 7 rfl ?_
  refine X_lload C dJ8_multiplyHigh_73 5 rfl ?_
  refine X_lmul C dJ8_multiplyHigh_75 ?_
  refine X_lload C dJ8_multiplyHigh_76 1 rfl ?_
  refine X_ladd C dJ8_multiplyHigh_78 ?_
  refine X_lload C dJ8_multiplyHigh_79 0 rfl ?_
  refine X_bipush (v := 32) C dJ8_multiplyHigh_81 rfl ?_
  refine X_lshr C dJ8_multiplyHigh_83 ?_
  refine X_ladd C dJ8_multiplyHigh_84 ?_
  exact X_lret C rfl dJ8_multiplyHigh_85 (hn _ h)

def w_J8_negateExact (st0 : St) (p1 : Int64) (Φ : Int64 → Prop) (Φa : St → Prop) : Prop := ((p1 ≠ (-9223372036854775808)) → Φ (-p1)) ∧ ((p1 = (-9223372036854775808)) → sN st0 + 1 ≤ gCAP ∧ sS st0 + 6 ≤ gCAPS ∧ ∀ a b, a ≤ 1 → b ≤ 6 → Φa (jk st0 a b))
theorem nm_J8_negateExact : yJ8_negateExact.cls ≠ "java/lang/invoke/MethodHandle" ∧ yJ8_negateExact.cls ≠ "java/lang/invoke/VarHandle" ∧ (parseMethodDescriptor yJ8_negateExact.desc).map (fun d => d.parameters.length) = some 1 := by decide +kernel
theorem e_J8_negateExact : plainFor yJ8_negateExact = true := Math_plain rfl (by decide +kernel)
theorem m_J8_negateExact {θ : Th} {l : Launch} (hl0 : l.stackTraces = false) {d : Nat} (hd : 0 ≤ d) (st0 : St) (p1 : Int64) {Φ : Int64 → Prop} {Φa : St → Prop} (h : w_J8_negateExact st0 p1 Φ Φa) : Ct θ l yJ8_negateExact (ws_ yJ8_negateExact cJ8_negateExact 2 (some Jvm.ClassFile.FieldType.long)) d [.long p1] st0 (rL st0 Φ, (exA Φa)) := by
  refine Ct_entry hl0 e_J8_negateExact (Nat.le_of_ble_eq_true rfl) (fun κ hκ _ C => ?_)
  have hn : ∀ r, Φ r → ((rL st0 Φ, (exA Φa)) : Ph).1 st0 (some (.long r)) := fun r q => ⟨r, rfl, rfl, q⟩
  have ha : ∀ st q, Φa st → ((rL st0 Φ, (exA Φa)) : Ph).2 st "java/lang/ArithmeticException" q := fun st q2 q => ⟨rfl, q⟩
  change X _ _ _ _ _ [(0, .long p1)] _
  unfold w_J8_negateExact at h
  refine X_lload_n C dJ8_negateExact_0 rfl 0 rfl ?_
  refine X_ldc2 C q721 dJ8_negateExact_1 ?_
  refine X_lcmp_ne (tgt := 18) C dJ8_negateExact_4 dJ8_negateExact_5 (by decide) (fun c1 => ?_) (fun c1 => ?_)
  · have h := h.1 c1
    refine X_lload_n C dJ8_negateExact_18 rfl 0 rfl ?_
    refine X_lneg C dJ8_negateExact_19 ?_
    exact X_lret C rfl dJ8_negateExact_20 (hn _ h)
  · have h := h.2 c1
    have g2 := h.1
    have h := h.2
    have g3 := h.1
    have h := h.2
    exact X_throwM C rfl rfl q722 q148 dJ8_negateExact_8 dJ8_negateExact_11 dJ8_negateExact_12 dJ8_negateExact_14 dJ8_negateExact_17 (Nat.le_of_ble_eq_true rfl) g2 g3 (fun a b q h1 h2 => ha _ _ (h a b h1 h2))

def w_J8_multiplyExact_b61 (Φ : Int64 → Prop) (Φa : St → Prop) (st0 : St) : Prop := sN st0 + 1 ≤ gCAP ∧ sS st0 + 6 ≤ gCAPS ∧ ∀ a b, a ≤ 1 → b ≤ 6 → Φa (jk st0 a b)
theorem t_J8_multiplyExact_b61 {θ : Th} {κ : Kx} {Ph : Ph} {st0 : St} {d : Nat} (hd : 1 ≤ d) (C : Cx θ κ yJ8_multiplyExact cJ8_multiplyExact 10 (some Jvm.ClassFile.FieldType.long) [] d) {Φ : Int64 → Prop} {Φa : St → Prop} (hn : ∀ r, Φ r → Ph.1 st0 (some (.long r))) (ha : ∀ st q, Φa st → Ph.2 st "java/lang/ArithmeticException" q) (h : w_J8_multiplyExact_b61 Φ Φa st0) : X θ κ Ph st0 61 [] [] := by
  unfold w_J8_multiplyExact_b61 at h
  have g23 := h.1
  have h := h.2
  have g24 := h.1
  have h := h.2
  exact X_throwM C rfl rfl q722 q148 dJ8_multiplyExact_61 dJ8_multiplyExact_64 dJ8_multiplyExact_65 dJ8_multiplyExact_67 dJ8_multiplyExact_70 (Nat.le_of_ble_eq_true rfl) g23 g24 (fun a b q h1 h2 => ha _ _ (h a b h1 h2))
def w_J8_multiplyExact_b45 (Φ : Int64 → Prop) (Φa : St → Prop) (st0 : St) (x0 : Int64) (x2 : Int64) (x4 : Int64) : Prop := ((x0 ≠ (-9223372036854775808)) → Φ x4) ∧ ((x0 = (-9223372036854775808)) → ((x2 ≠ (-1)) → Φ x4) ∧ ((x2 = (-1)) → w_J8_multiplyExact_b61 Φ Φa st0))
theorem t_J8_multiplyExact_b45 {θ : Th} {κ : Kx} {Ph : Ph} {st0 : St} {d : Nat} (hd : 1 ≤ d) (C : Cx θ κ yJ8_multiplyExact cJ8_multiplyExact 10 (some Jvm.ClassFile.FieldType.long) [] d) {Φ : Int64 → Prop} {Φa : St → Prop} (hn : ∀ r, Φ r → Ph.1 st0 (some (.long r))) (ha : ∀ st q, Φa st → Ph.2 st "java/lang/ArithmeticException" q) (x0 : Int64) (x2 : Int64) (x4 : Int64) (h : w_J8_multiplyExact_b45 Φ Φa st0 x0 x2 x4) : X θ κ Ph st0 45 [(0, .long x0), (2, .long x2), (4, .long x4)] [] := by
  unfold w_J8_multiplyExact_b45 at h
  refine X_lload_n C dJ8_multiplyExact_45 rfl 0 rfl ?_
  refine X_ldc2 C q721 dJ8_multiplyExact_46 ?_
  refine X_lcmp_ne (tgt := 71) C dJ8_multiplyExact_49 dJ8_multiplyExact_50 (by decide) (fun c21 => ?_) (fun c21 => ?_)
  · have h := h.1 c21
    refine X_lload C dJ8_multiplyExact_71 2 rfl ?_
    exact X_lret C rfl dJ8_multiplyExact_73 (hn _ h)
  · have h := h.2 c21
    refine X_lload_n C dJ8_multiplyExact_53 rfl 1 rfl ?_
    refine X_ldc2 C q812 dJ8_multiplyExact_54 ?_
    refine X_lcmp_ne (tgt := 71) C dJ8_multiplyExact_57 dJ8_multiplyExact_58 (by decide) (fun c22 => ?_) (fun c22 => ?_)
    · have h := h.1 c22
      refine X_lload C dJ8_multiplyExact_71 2 rfl ?_
      exact X_lret C rfl dJ8_multiplyExact_73 (hn _ h)
    · have h := h.2 c22
      refine X_sub [] (lo2 := []) rfl ?_
      exact t_J8_multiplyExact_b61 hd C hn ha h
def w_J8_multiplyExact (st0 : St) (p1 : Int64) (p2 : Int64) (Φ : Int64 → Prop) (Φa : St → Prop) : Prop := ∀ v1 : Int64, v1 = (p1 * p2) → w_J8_abs p1 (fun (r3 : Int64) => w_J8_abs p2 (fun (r11 : Int64) => (((((r3 ||| r11).toUInt64 >>> ((31 : Int32).toInt64.toUInt64 &&& Int64.toUInt64 63)).toInt64) = 0) → Φ v1) ∧ ((¬ (((r3 ||| r11).toUInt64 >>> ((31 : Int32).toInt64.toUInt64 &&& Int64.toUInt64 63)).toInt64) = 0) → ((p2 = 0) → w_J8_multiplyExact_b45 Φ Φa st0 p1 p2 v1) ∧ ((¬ p2 = 0) → ¬ p2 = 0 ∧ (((v1 / p2) ≠ p1) → w_J8_multiplyExact_b61 Φ Φa st0) ∧ (((v1 / p2) = p1) → w_J8_multiplyExact_b45 Φ Φa st0 p1 p2 v1)))))
theorem nm_J8_multiplyExact : yJ8_multiplyExact.cls ≠ "java/lang/invoke/MethodHandle" ∧ yJ8_multiplyExact.cls ≠ "java/lang/invoke/VarHandle" ∧ (parseMethodDescriptor yJ8_multiplyExact.desc).map (fun d => d.parameters.length) = some 2 := by decide +kernel
theorem e_J8_multiplyExact : plainFor yJ8_multiplyExact = true := Math_plain rfl (by decide +kernel)
theorem m_J8_multiplyExact {θ : Th} {l : Launch} (hl0 : l.stackTraces = false) {d : Nat} (hd : 1 ≤ d) (st0 : St) (p1 : Int64) (p2 : Int64) {Φ : Int64 → Prop} {Φa : St → Prop} (h : w_J8_multiplyExact st0 p1 p2 Φ Φa) : Ct θ l yJ8_multiplyExact (ws_ yJ8_multiplyExact cJ8_multiplyExact 10 (some Jvm.ClassFile.FieldType.long)) d [.long p1, .long p2] st0 (rL st0 Φ, (exA Φa)) := by
  refine Ct_entry hl0 e_J8_multiplyExact (Nat.le_of_ble_eq_true rfl) (fun κ hκ _ C => ?_)
  have hn : ∀ r, Φ r → ((rL st0 Φ, (exA Φa)) : Ph).1 st0 (some (.long r)) := fun r q => ⟨r, rfl, rfl, q⟩
  have ha : ∀ st q, Φa st → ((rL st0 Φ, (exA Φa)) : Ph).2 st "java/lang/ArithmeticException" q := fun st q2 q => ⟨rfl, q⟩
  change X _ _ _ _ _ [(0, .long p1), (2, .long p2)] _
  unfold w_J8_multiplyExact at h
  refine X_lload_n C dJ8_multiplyExact_0 rfl 0 rfl ?_
  refine X_lload_n C dJ8_multiplyExact_1 rfl 1 rfl ?_
  refine X_lmul C dJ8_multiplyExact_2 ?_
  refine X_topl (fun v1 e2 => ?_)
  have h := h v1 e2
  refine X_lstore C dJ8_multiplyExact_3 (lo2 := [(4, _), (0, _), (2, _)]) (by decide) rfl ?_
  refine X_lload_n C dJ8_multiplyExact_5 rfl 1 rfl ?_
  refine X_callS (As := [_]) (rest := []) C q809 q810 q147 q811 nm_J8_abs rfl dJ8_multiplyExact_6 (m_J8_abs (Cx_l C) (d := d - 1) (by omega) st0 p1 h) (by omega) (by decide) (Nat.le_of_ble_eq_true rfl) (fun s9 w4 hE5 hP6 => ?_) (fun s10 E7 q8 hE5 hP6 => ?_)
  rotate_left
  · exact False.elim hP6
  obtain ⟨r3, rfl, rfl, h⟩ := hP6
  refine X_tls ?_
  refine X_lstore C dJ8_multiplyExact_9 (lo2 := [(6, _), (4, _), (0, _), (2, _)]) (by decide) rfl ?_
  refine X_lload_n C dJ8_multiplyExact_11 rfl 3 rfl ?_
  refine X_callS (As := [_]) (rest := []) C q809 q810 q147 q811 nm_J8_abs rfl dJ8_multiplyExact_12 (m_J8_abs (Cx_l C) (d := d - 1) (by omega) st0 p2 h) (by omega) (by decide) (Nat.le_of_ble_eq_true rfl) (fun s17 w12 hE13 hP14 => ?_) (fun s18 E15 q16 hE13 hP14 => ?_)
  rotate_left
  · exact False.elim hP14
  obtain ⟨r11, rfl, rfl, h⟩ := hP14
  refine X_tls ?_
  refine X_lstore C dJ8_multiplyExact_15 (lo2 := [(8, _), (6, _), (4, _), (0, _), (2, _)]) (by decide) rfl ?_
  refine X_lload C dJ8_multiplyExact_17 1 rfl ?_
  refine X_lload C dJ8_multiplyExact_19 0 rfl ?_
  refine X_lor C dJ8_multiplyExact_21 ?_
  refine X_bipush (v := 31) C dJ8_multiplyExact_22 rfl ?_
  refine X_lushr C dJ8_multiplyExact_24 ?_
  refine X_lconst (v := 0) C dJ8_multiplyExact_25 rfl ?_
  refine X_lcmp_eq (tgt := 71) C dJ8_multiplyExact_26 dJ8_multiplyExact_27 (by decide) (fun c19 => ?_) (fun c19 => ?_)
  · have h := h.1 c19
    refine X_lload C dJ8_multiplyExact_71 2 rfl ?_
    exact X_lret C rfl dJ8_multiplyExact_73 (hn _ h)
  · have h := h.2 c19
    refine X_lload_n C dJ8_multiplyExact_30 rfl 4 rfl ?_
    refine X_lconst (v := 0) C dJ8_multiplyExact_31 rfl ?_
    refine X_lcmp_eq (tgt := 45) C dJ8_multiplyExact_32 dJ8_multiplyExact_33 (by decide) (fun c20 => ?_) (fun c20 => ?_)
    · have h := h.1 c20
      refine X_sub [3, 4, 2] (lo2 := [(0, _), (2, _), (4, _)]) rfl ?_
      exact t_J8_multiplyExact_b45 hd C hn ha p1 p2 v1 h
    · have h := h.2 c20
      refine X_lload C dJ8_multiplyExact_36 2 rfl ?_
      refine X_lload_n C dJ8_multiplyExact_38 rfl 4 rfl ?_
      have g25 := h.1
      have h := h.2
      refine X_ldiv C dJ8_multiplyExact_39 g25 ?_
      refine X_lload_n C dJ8_multiplyExact_40 rfl 3 rfl ?_
      refine X_lcmp_ne (tgt := 61) C dJ8_multiplyExact_41 dJ8_multiplyExact_42 (by decide) (fun c26 => ?_) (fun c26 => ?_)
      · have h := h.1 c26
        refine X_sub [] (lo2 := []) rfl ?_
        exact t_J8_multiplyExact_b61 hd C hn ha h
      · have h := h.2 c26
        refine X_sub [3, 4, 2] (lo2 := [(0, _), (2, _), (4, _)]) rfl ?_
        exact t_J8_multiplyExact_b45 hd C hn ha p1 p2 v1 h

def w_J8_addExact (st0 : St) (p1 : Int64) (p2 : Int64) (Φ : Int64 → Prop) (Φa : St → Prop) : Prop := ∀ v1 : Int64, v1 = (p1 + p2) → ((0 ≤ ((p1 ^^^ v1) &&& (p2 ^^^ v1))) → Φ v1) ∧ ((¬ 0 ≤ ((p1 ^^^ v1) &&& (p2 ^^^ v1))) → sN st0 + 1 ≤ gCAP ∧ sS st0 + 6 ≤ gCAPS ∧ ∀ a b, a ≤ 1 → b ≤ 6 → Φa (jk st0 a b))
theorem nm_J8_addExact : yJ8_addExact.cls ≠ "java/lang/invoke/MethodHandle" ∧ yJ8_addExact.cls ≠ "java/lang/invoke/VarHandle" ∧ (parseMethodDescriptor yJ8_addExact.desc).map (fun d => d.parameters.length) = some 2 := by decide +kernel
theorem e_J8_addExact : plainFor yJ8_addExact = true := Math_plain rfl (by decide +kernel)
theorem m_J8_addExact {θ : Th} {l : Launch} (hl0 : l.stackTraces = false) {d : Nat} (hd : 0 ≤ d) (st0 : St) (p1 : Int64) (p2 : Int64) {Φ : Int64 → Prop} {Φa : St → Prop} (h : w_J8_addExact st0 p1 p2 Φ Φa) : Ct θ l yJ8_addExact (ws_ yJ8_addExact cJ8_addExact 6 (some Jvm.ClassFile.FieldType.long)) d [.long p1, .long p2] st0 (rL st0 Φ, (exA Φa)) := by
  refine Ct_entry hl0 e_J8_addExact (Nat.le_of_ble_eq_true rfl) (fun κ hκ _ C => ?_)
  have hn : ∀ r, Φ r → ((rL st0 Φ, (exA Φa)) : Ph).1 st0 (some (.long r)) := fun r q => ⟨r, rfl, rfl, q⟩
  have ha : ∀ st q, Φa st → ((rL st0 Φ, (exA Φa)) : Ph).2 st "java/lang/ArithmeticException" q := fun st q2 q => ⟨rfl, q⟩
  change X _ _ _ _ _ [(0, .long p1), (2, .long p2)] _
  unfold w_J8_addExact at h
  refine X_lload_n C dJ8_addExact_0 rfl 0 rfl ?_
  refine X_lload_n C dJ8_addExact_1 rfl 1 rfl ?_
  refine X_ladd C dJ8_addExact_2 ?_
  refine X_topl (fun v1 e2 => ?_)
  have h := h v1 e2
  refine X_lstore C dJ8_addExact_3 (lo2 := [(4, _), (0, _), (2, _)]) (by decide) rfl ?_
  refine X_lload_n C dJ8_addExact_5 rfl 1 rfl ?_
  refine X_lload C dJ8_addExact_6 0 rfl ?_
  refine X_lxor C dJ8_addExact_8 ?_
  refine X_lload_n C dJ8_addExact_9 rfl 2 rfl ?_
  refine X_lload C dJ8_addExact_10 0 rfl ?_
  refine X_lxor C dJ8_addExact_12 ?_
  refine X_land C dJ8_addExact_13 ?_
  refine X_lconst (v := 0) C dJ8_addExact_14 rfl ?_
  refine X_lcmp_ge (tgt := 29) C dJ8_addExact_15 dJ8_addExact_16 (by decide) (fun c3 => ?_) (fun c3 => ?_)
  · have h := h.1 c3
    refine X_lload C dJ8_addExact_29 0 rfl ?_
    exact X_lret C rfl dJ8_addExact_31 (hn _ h)
  · have h := h.2 c3
    have g4 := h.1
    have h := h.2
    have g5 := h.1
    have h := h.2
    exact X_throwM C rfl rfl q722 q148 dJ8_addExact_19 dJ8_addExact_22 dJ8_addExact_23 dJ8_addExact_25 dJ8_addExact_28 (Nat.le_of_ble_eq_true rfl) g4 g5 (fun a b q h1 h2 => ha _ _ (h a b h1 h2))

def w_J8_subtractExact (st0 : St) (p1 : Int64) (p2 : Int64) (Φ : Int64 → Prop) (Φa : St → Prop) : Prop := ∀ v1 : Int64, v1 = (p1 - p2) → ((0 ≤ ((p1 ^^^ p2) &&& (p1 ^^^ v1))) → Φ v1) ∧ ((¬ 0 ≤ ((p1 ^^^ p2) &&& (p1 ^^^ v1))) → sN st0 + 1 ≤ gCAP ∧ sS st0 + 6 ≤ gCAPS ∧ ∀ a b, a ≤ 1 → b ≤ 6 → Φa (jk st0 a b))
theorem nm_J8_subtractExact : yJ8_subtractExact.cls ≠ "java/lang/invoke/MethodHandle" ∧ yJ8_subtractExact.cls ≠ "java/lang/invoke/VarHandle" ∧ (parseMethodDescriptor yJ8_subtractExact.desc).map (fun d => d.parameters.length) = some 2 := by decide +kernel
theorem e_J8_subtractExact : plainFor yJ8_subtractExact = true := Math_plain rfl (by decide +kernel)
theorem m_J8_subtractExact {θ : Th} {l : Launch} (hl0 : l.stackTraces = false) {d : Nat} (hd : 0 ≤ d) (st0 : St) (p1 : Int64) (p2 : Int64) {Φ : Int64 → Prop} {Φa : St → Prop} (h : w_J8_subtractExact st0 p1 p2 Φ Φa) : Ct θ l yJ8_subtractExact (ws_ yJ8_subtractExact cJ8_subtractExact 6 (some Jvm.ClassFile.FieldType.long)) d [.long p1, .long p2] st0 (rL st0 Φ, (exA Φa)) := by
  refine Ct_entry hl0 e_J8_subtractExact (Nat.le_of_ble_eq_true rfl) (fun κ hκ _ C => ?_)
  have hn : ∀ r, Φ r → ((rL st0 Φ, (exA Φa)) : Ph).1 st0 (some (.long r)) := fun r q => ⟨r, rfl, rfl, q⟩
  have ha : ∀ st q, Φa st → ((rL st0 Φ, (exA Φa)) : Ph).2 st "java/lang/ArithmeticException" q := fun st q2 q => ⟨rfl, q⟩
  change X _ _ _ _ _ [(0, .long p1), (2, .long p2)] _
  unfold w_J8_subtractExact at h
  refine X_lload_n C dJ8_subtractExact_0 rfl 0 rfl ?_
  refine X_lload_n C dJ8_subtractExact_1 rfl 1 rfl ?_
  refine X_lsub C dJ8_subtractExact_2 ?_
  refine X_topl (fun v1 e2 => ?_)
  have h := h v1 e2
  refine X_lstore C dJ8_subtractExact_3 (lo2 := [(4, _), (0, _), (2, _)]) (by decide) rfl ?_
  refine X_lload_n C dJ8_subtractExact_5 rfl 1 rfl ?_
  refine X_lload_n C dJ8_subtractExact_6 rfl 2 rfl ?_
  refine X_lxor C dJ8_subtractExact_7 ?_
  refine X_lload_n C dJ8_subtractExact_8 rfl 1 rfl ?_
  refine X_lload C dJ8_subtractExact_9 0 rfl ?_
  refine X_lxor C dJ8_subtractExact_11 ?_
  refine X_land C dJ8_subtractExact_12 ?_
  refine X_lconst (v := 0) C dJ8_subtractExact_13 rfl ?_
  refine X_lcmp_ge (tgt := 28) C dJ8_subtractExact_14 dJ8_subtractExact_15 (by decide) (fun c3 => ?_) (fun c3 => ?_)
  · have h := h.1 c3
    refine X_lload C dJ8_subtractExact_28 0 rfl ?_
    exact X_lret C rfl dJ8_subtractExact_30 (hn _ h)
  · have h := h.2 c3
    have g4 := h.1
    have h := h.2
    have g5 := h.1
    have h := h.2
    exact X_throwM C rfl rfl q722 q148 dJ8_subtractExact_18 dJ8_subtractExact_21 dJ8_subtractExact_22 dJ8_subtractExact_24 dJ8_subtractExact_27 (Nat.le_of_ble_eq_true rfl) g4 g5 (fun a b q h1 h2 => ha _ _ (h a b h1 h2))

def w_J8_max (p1 : Int32) (p2 : Int32) (Φ : Int32 → Prop) : Prop := ((p1 < p2) → Φ p2) ∧ ((¬ p1 < p2) → Φ p1)
theorem nm_J8_max : yJ8_max.cls ≠ "java/lang/invoke/MethodHandle" ∧ yJ8_max.cls ≠ "java/lang/invoke/VarHandle" ∧ (parseMethodDescriptor yJ8_max.desc).map (fun d => d.parameters.length) = some 2 := by decide +kernel
theorem e_J8_max : plainFor yJ8_max = true := Math_plain rfl (by decide +kernel)
theorem m_J8_max {θ : Th} {l : Launch} (hl0 : l.stackTraces = false) {d : Nat} (hd : 0 ≤ d) (st0 : St) (p1 : Int32) (p2 : Int32) {Φ : Int32 → Prop} (h : w_J8_max p1 p2 Φ) : Ct θ l yJ8_max (ws_ yJ8_max cJ8_max 2 (some Jvm.ClassFile.FieldType.int)) d [.int p1, .int p2] st0 (rI st0 Φ, noX) := by
  refine Ct_entry hl0 e_J8_max (Nat.le_of_ble_eq_true rfl) (fun κ hκ _ C => ?_)
  have hn : ∀ r, Φ r → ((rI st0 Φ, noX) : Ph).1 st0 (some (.int r)) := fun r q => ⟨r, rfl, rfl, q⟩
  change X _ _ _ _ _ [(0, .int p1), (1, .int p2)] _
  unfold w_J8_max at h
  refine X_iload_n C dJ8_max_0 rfl 0 rfl ?_
  refine X_iload_n C dJ8_max_1 rfl 1 rfl ?_
  refine X_icmp_lt (tgt := 9) C dJ8_max_2 (by decide) (fun c1 => ?_) (fun c1 => ?_)
  · have h := h.1 c1
    refine X_iload_n C dJ8_max_9 rfl 1 rfl ?_
    exact X_iret C rfl dJ8_max_10 (hn _ h)
  · have h := h.2 c1
    refine X_iload_n C dJ8_max_5 rfl 0 rfl ?_
    refine X_goto (tgt := 10) C dJ8_max_6 (by decide) ?_
    exact X_iret C rfl dJ8_max_10 (hn _ h)

def w_J8_min (p1 : Int32) (p2 : Int32) (Φ : Int32 → Prop) : Prop := ((p2 < p1) → Φ p2) ∧ ((¬ p2 < p1) → Φ p1)
theorem nm_J8_min : yJ8_min.cls ≠ "java/lang/invoke/MethodHandle" ∧ yJ8_min.cls ≠ "java/lang/invoke/VarHandle" ∧ (parseMethodDescriptor yJ8_min.desc).map (fun d => d.parameters.length) = some 2 := by decide +kernel
theorem e_J8_min : plainFor yJ8_min = true := Math_plain rfl (by decide +kernel)
theorem m_J8_min {θ : Th} {l : Launch} (hl0 : l.stackTraces = false) {d : Nat} (hd : 0 ≤ d) (st0 : St) (p1 : Int32) (p2 : Int32) {Φ : Int32 → Prop} (h : w_J8_min p1 p2 Φ) : Ct θ l yJ8_min (ws_ yJ8_min cJ8_min 2 (some Jvm.ClassFile.FieldType.int)) d [.int p1, .int p2] st0 (rI st0 Φ, noX) := by
  refine Ct_entry hl0 e_J8_min (Nat.le_of_ble_eq_true rfl) (fun κ hκ _ C => ?_)
  have hn : ∀ r, Φ r → ((rI st0 Φ, noX) : Ph).1 st0 (some (.int r)) := fun r q => ⟨r, rfl, rfl, q⟩
  change X _ _ _ _ _ [(0, .int p1), (1, .int p2)] _
  unfold w_J8_min at h
  refine X_iload_n C dJ8_min_0 rfl 0 rfl ?_
  refine X_iload_n C dJ8_min_1 rfl 1 rfl ?_
  refine X_icmp_gt (tgt := 9) C dJ8_min_2 (by decide) (fun c1 => ?_) (fun c1 => ?_)
  · have h := h.1 c1
    refine X_iload_n C dJ8_min_9 rfl 1 rfl ?_
    exact X_iret C rfl dJ8_min_10 (hn _ h)
  · have h := h.2 c1
    refine X_iload_n C dJ8_min_5 rfl 0 rfl ?_
    refine X_goto (tgt := 10) C dJ8_min_6 (by decide) ?_
    exact X_iret C rfl dJ8_min_10 (hn _ h)

def w_X2_init (st : St) (a0 : Nat) (Φ : St → Prop) : Prop := ∀ s1, s1 = putL st a0 1 1 → Φ s1
theorem nm_X2_init : yX2_init.cls ≠ "java/lang/invoke/MethodHandle" ∧ yX2_init.cls ≠ "java/lang/invoke/VarHandle" ∧ (parseMethodDescriptor yX2_init.desc).map (fun d => d.parameters.length) = some 0 := by decide +kernel
theorem e_X2_init : plainFor yX2_init = true := plainFor_of_name (by decide +kernel)
theorem m_X2_init {θ : Th} {l : Launch} (hl0 : l.stackTraces = false) {d : Nat} (hd : 0 ≤ d) (st : St) (a0 : Nat) (hs_a0 : sh st a0 = 3) (hb_a0 : a0 < gBIG) {Φ : St → Prop} (h : w_X2_init st a0 Φ) : Ct θ l yX2_init (ws_ yX2_init cX2_init 1 (none : Option Jvm.ClassFile.FieldType)) d [.ref (ad θ a0)] st (pV Φ, noX) := by
  refine Ct_entry hl0 e_X2_init (Nat.le_of_ble_eq_true rfl) (fun κ hκ _ C => ?_)
  have hn : ∀ st, Φ st → ((pV Φ, noX) : Ph).1 st none := fun st q => ⟨rfl, q⟩
  change X _ _ _ _ _ [(0, .ref (ad θ a0))] _
  unfold w_X2_init at h
  refine X_aload_n C dX2_init_0 rfl 0 rfl (isRV_r _) ?_
  refine X_objInit C ⟨_, rfl⟩ q238 q168 q169 (Nat.le_of_ble_eq_true rfl) dX2_init_1 ?_
  refine X_aload_n C dX2_init_4 rfl 0 rfl (isRV_r _) ?_
  refine X_lconst (v := 1) C dX2_init_5 rfl ?_
  refine X_putL (ci := 2) (j := 1) (q := (RX2, TX2, 2)) C rfl (by decide) q240 rfl rfl dX2_init_6 hb_a0 hs_a0 rfl ?_
  refine X_nm (fun s1 e2 => ?_)
  have h := h s1 e2
  have hs_a0 : sh s1 a0 = 3 := by rw [e2]; exact hs_a0
  exact X_vret C rfl dX2_init_9 (hn s1 h)

def w_X2_divisor_l6 (Φ : Int64 → Prop) (E31 : Int64 → Prop) : Nat → Int64 → Int64 → Prop
  | 0, _, _ => False
  | n + 1, x4, x6 => ((x6 = 0) → E31 x4) ∧ ((¬ x6 = 0) → ¬ x6 = 0 ∧ ∀ v3 : Int64, v3 = (x4 - x4 / x6 * x6) → w_X2_divisor_l6 Φ E31 n x6 v3)
theorem t_X2_divisor_l6 {θ : Th} {κ : Kx} {Ph : Ph} {st0 : St} {d : Nat} (hd : 0 ≤ d) (C : Cx θ κ yX2_divisor cX2_divisor 10 (some Jvm.ClassFile.FieldType.long) [] d) {Φ : Int64 → Prop} (hn : ∀ r, Φ r → Ph.1 st0 (some (.long r))) {E31 : Int64 → Prop} (hE31 : ∀ (x4 : Int64), E31 x4 → X θ κ Ph st0 31 [(4, .long x4)] []) : ∀ (n : Nat) (x4 : Int64) (x6 : Int64), w_X2_divisor_l6 Φ E31 n x4 x6 → X θ κ Ph st0 6 [(4, .long x4), (6, .long x6)] [] := by
  intro n
  induction n with
  | zero => intro x4 x6 h; exact h.elim
  | succ n hK6 =>
    intro x4 x6 h
    rw [w_X2_divisor_l6] at h
    refine X_lload C dX2_divisor_6 1 rfl ?_
    refine X_lconst (v := 0) C dX2_divisor_8 rfl ?_
    refine X_lcmp_eq (tgt := 31) C dX2_divisor_9 dX2_divisor_10 (by decide) (fun c1 => ?_) (fun c1 => ?_)
    · have h := h.1 c1
      refine X_sub [0] (lo2 := [(4, _)]) rfl ?_
      exact hE31 x4 h
    · have h := h.2 c1
      refine X_lload C dX2_divisor_13 0 rfl ?_
      refine X_lload C dX2_divisor_15 1 rfl ?_
      have g2 := h.1
      have h := h.2
      refine X_lrem C dX2_divisor_17 g2 ?_
      refine X_topl (fun v3 e4 => ?_)
      have h := h v3 e4
      refine X_lstore C dX2_divisor_18 (lo2 := [(8, _), (4, _), (6, _)]) (by decide) rfl ?_
      refine X_lload C dX2_divisor_20 2 rfl ?_
      refine X_lstore C dX2_divisor_22 (lo2 := [(4, _), (8, _), (6, _)]) (by decide) rfl ?_
      refine X_lload C dX2_divisor_24 1 rfl ?_
      refine X_lstore C dX2_divisor_26 (lo2 := [(6, _), (4, _), (8, _)]) (by decide) rfl ?_
      refine X_goto (tgt := 6) C dX2_divisor_28 (by decide) ?_
      refine X_sub [1, 0] (lo2 := [(4, _), (6, _)]) rfl ?_
      exact hK6 x6 v3 h
def w_X2_divisor_b31 (Φ : Int64 → Prop) (x4 : Int64) : Prop := ((0 ≤ x4) → Φ x4) ∧ ((¬ 0 ≤ x4) → Φ (-x4))
theorem t_X2_divisor_b31 {θ : Th} {κ : Kx} {Ph : Ph} {st0 : St} {d : Nat} (hd : 0 ≤ d) (C : Cx θ κ yX2_divisor cX2_divisor 10 (some Jvm.ClassFile.FieldType.long) [] d) {Φ : Int64 → Prop} (hn : ∀ r, Φ r → Ph.1 st0 (some (.long r))) (x4 : Int64) (h : w_X2_divisor_b31 Φ x4) : X θ κ Ph st0 31 [(4, .long x4)] [] := by
  unfold w_X2_divisor_b31 at h
  refine X_lload C dX2_divisor_31 0 rfl ?_
  refine X_lconst (v := 0) C dX2_divisor_33 rfl ?_
  refine X_lcmp_ge (tgt := 44) C dX2_divisor_34 dX2_divisor_35 (by decide) (fun c5 => ?_) (fun c5 => ?_)
  · have h := h.1 c5
    refine X_lload C dX2_divisor_44 0 rfl ?_
    exact X_lret C rfl dX2_divisor_46 (hn _ h)
  · have h := h.2 c5
    refine X_lload C dX2_divisor_38 0 rfl ?_
    refine X_lneg C dX2_divisor_40 ?_
    refine X_goto (tgt := 46) C dX2_divisor_41 (by decide) ?_
    exact X_lret C rfl dX2_divisor_46 (hn _ h)
def w_X2_divisor (p1 : Int64) (p2 : Int64) (Φ : Int64 → Prop) : Prop := w_X2_divisor_l6 Φ (fun (x4 : Int64) => w_X2_divisor_b31 Φ x4) gFU p1 p2
theorem nm_X2_divisor : yX2_divisor.cls ≠ "java/lang/invoke/MethodHandle" ∧ yX2_divisor.cls ≠ "java/lang/invoke/VarHandle" ∧ (parseMethodDescriptor yX2_divisor.desc).map (fun d => d.parameters.length) = some 2 := by decide +kernel
theorem e_X2_divisor : plainFor yX2_divisor = true := plainFor_of_name (by decide +kernel)
theorem m_X2_divisor {θ : Th} {l : Launch} (hl0 : l.stackTraces = false) {d : Nat} (hd : 0 ≤ d) (st0 : St) (p1 : Int64) (p2 : Int64) {Φ : Int64 → Prop} (h : w_X2_divisor p1 p2 Φ) : Ct θ l yX2_divisor (ws_ yX2_divisor cX2_divisor 10 (some Jvm.ClassFile.FieldType.long)) d [.long p1, .long p2] st0 (rL st0 Φ, noX) := by
  refine Ct_entry hl0 e_X2_divisor (Nat.le_of_ble_eq_true rfl) (fun κ hκ _ C => ?_)
  have hn : ∀ r, Φ r → ((rL st0 Φ, noX) : Ph).1 st0 (some (.long r)) := fun r q => ⟨r, rfl, rfl, q⟩
  change X _ _ _ _ _ [(0, .long p1), (2, .long p2)] _
  unfold w_X2_divisor at h
  refine X_lload_n C dX2_divisor_0 rfl 0 rfl ?_
  refine X_lstore C dX2_divisor_1 (lo2 := [(4, _), (0, _), (2, _)]) (by decide) rfl ?_
  refine X_lload_n C dX2_divisor_3 rfl 2 rfl ?_
  refine X_lstore C dX2_divisor_4 (lo2 := [(6, _), (4, _), (0, _), (2, _)]) (by decide) rfl ?_
  refine X_sub [1, 0] (lo2 := [(4, _), (6, _)]) rfl ?_
  refine t_X2_divisor_l6 hd C hn ?_ gFU p1 p2 h
  · intro x4 h
    exact t_X2_divisor_b31 hd C hn x4 h

def w_X2_is_b30 (Φ : St → Nat → Prop) (Φa : St → Prop) (st : St) (x0 : Nat) (x5 : Int64) (z0 : Int64) : Prop := w_X2_divisor x5 z0 (fun (r3 : Int64) => ¬ r3 = 0 ∧ ∀ s12, s12 = putL st x0 0 (x5 / r3) → ∀ s14, s14 = putL s12 x0 1 (z0 / r3) → Φ s14 x0)
theorem t_X2_is_b30 {θ : Th} {κ : Kx} {Ph : Ph} {d : Nat} (hd : 1 ≤ d) (C : Cx θ κ yX2_is cX2_is 11 (some (Jvm.ClassFile.FieldType.object "SecretsWorth$Ratio")) [] d) {Φ : St → Nat → Prop} {Φa : St → Prop} (hn : ∀ st r, r < gBIG → sh st r = 3 → Φ st r → Ph.1 st (some (.ref (ad θ r)))) (ha : ∀ st q, Φa st → Ph.2 st "java/lang/ArithmeticException" q) (st : St) (x0 : Nat) (x5 : Int64) (z0 : Int64) (hs_x0 : sh st x0 = 3) (hb_x0 : x0 < gBIG) (h : w_X2_is_b30 Φ Φa st x0 x5 z0) : X θ κ Ph st 30 [(0, .ref (ad θ x0)), (5, .long x5)] [.long z0] := by
  unfold w_X2_is_b30 at h
  refine X_lstore C dX2_is_30 (lo2 := [(7, _), (0, _), (5, _)]) (by decide) rfl ?_
  refine X_lload C dX2_is_32 2 rfl ?_
  refine X_lload C dX2_is_34 0 rfl ?_
  refine X_callS (As := [_, _]) (rest := []) C q738 q739 q134 q740 nm_X2_divisor rfl dX2_is_36 (m_X2_divisor (Cx_l C) (d := d - 1) (by omega) st x5 z0 h) (by omega) (by decide) (Nat.le_of_ble_eq_true rfl) (fun s9 w4 hE5 hP6 => ?_) (fun s10 E7 q8 hE5 hP6 => ?_)
  rotate_left
  · exact False.elim hP6
  obtain ⟨r3, rfl, rfl, h⟩ := hP6
  refine X_tls ?_
  refine X_lstore C dX2_is_39 (lo2 := [(9, _), (7, _), (0, _), (5, _)]) (by decide) rfl ?_
  refine X_aload_n C dX2_is_41 rfl 2 rfl (isRV_r _) ?_
  refine X_lload C dX2_is_42 3 rfl ?_
  refine X_lload C dX2_is_44 0 rfl ?_
  have g11 := h.1
  have h := h.2
  refine X_ldiv C dX2_is_46 g11 ?_
  refine X_putL (ci := 2) (j := 0) (q := (RX2, TX2, 2)) C rfl (by decide) q239 rfl rfl dX2_is_47 hb_x0 hs_x0 rfl ?_
  refine X_nm (fun s12 e13 => ?_)
  have h := h s12 e13
  have hs_x0 : sh s12 x0 = 3 := by rw [e13]; exact hs_x0
  refine X_aload_n C dX2_is_50 rfl 2 rfl (isRV_r _) ?_
  refine X_lload C dX2_is_51 1 rfl ?_
  refine X_lload C dX2_is_53 0 rfl ?_
  refine X_ldiv C dX2_is_55 g11 ?_
  refine X_putL (ci := 2) (j := 1) (q := (RX2, TX2, 2)) C rfl (by decide) q240 rfl rfl dX2_is_56 hb_x0 hs_x0 rfl ?_
  refine X_nm (fun s14 e15 => ?_)
  have h := h s14 e15
  have hs_x0 : sh s14 x0 = 3 := by rw [e15]; exact hs_x0
  refine X_aload_n C dX2_is_59 rfl 2 rfl (isRV_r _) ?_
  exact X_aret C rfl (Or.inl ⟨_, rfl⟩) (isRV_r _) dX2_is_60 (hn s14 _ hb_x0 hs_x0 h)
def w_X2_is_b14 (Φ : St → Nat → Prop) (Φa : St → Prop) (st : St) (x0 : Nat) (x3 : Int64) (z0 : Int64) : Prop := ((0 ≤ x3) → w_X2_is_b30 Φ Φa st x0 z0 x3) ∧ ((¬ 0 ≤ x3) → w_J8_negateExact st x3 (fun (r16 : Int64) => w_X2_is_b30 Φ Φa st x0 z0 r16) Φa)
theorem t_X2_is_b14 {θ : Th} {κ : Kx} {Ph : Ph} {d : Nat} (hd : 1 ≤ d) (C : Cx θ κ yX2_is cX2_is 11 (some (Jvm.ClassFile.FieldType.object "SecretsWorth$Ratio")) [] d) {Φ : St → Nat → Prop} {Φa : St → Prop} (hn : ∀ st r, r < gBIG → sh st r = 3 → Φ st r → Ph.1 st (some (.ref (ad θ r)))) (ha : ∀ st q, Φa st → Ph.2 st "java/lang/ArithmeticException" q) (st : St) (x0 : Nat) (x3 : Int64) (z0 : Int64) (hs_x0 : sh st x0 = 3) (hb_x0 : x0 < gBIG) (h : w_X2_is_b14 Φ Φa st x0 x3 z0) : X θ κ Ph st 14 [(0, .ref (ad θ x0)), (3, .long x3)] [.long z0] := by
  unfold w_X2_is_b14 at h
  refine X_lstore C dX2_is_14 (lo2 := [(5, _), (0, _), (3, _)]) (by decide) rfl ?_
  refine X_lload_n C dX2_is_16 rfl 2 rfl ?_
  refine X_lconst (v := 0) C dX2_is_17 rfl ?_
  refine X_lcmp_ge (tgt := 29) C dX2_is_18 dX2_is_19 (by decide) (fun c2 => ?_) (fun c2 => ?_)
  · have h := h.1 c2
    refine X_lload_n C dX2_is_29 rfl 2 rfl ?_
    refine X_sub [1, 0] (lo2 := [(0, _), (5, _)]) rfl ?_
    exact t_X2_is_b30 hd C hn ha st x0 z0 x3 hs_x0 hb_x0 h
  · have h := h.2 c2
    refine X_lload_n C dX2_is_22 rfl 2 rfl ?_
    refine X_callS (As := [_]) (rest := []) C q718 q719 q147 q720 nm_J8_negateExact rfl dX2_is_23 (m_J8_negateExact (Cx_l C) (d := d - 1) (by omega) st x3 h) (by omega) (by decide) (Nat.le_of_ble_eq_true rfl) (fun s22 w17 hE18 hP19 => ?_) (fun s23 E20 q21 hE18 hP19 => ?_)
    rotate_left
    · rcases hP19 with ⟨rfl, h⟩
      exact XT_out C rfl (ha s23 q21 h)
    obtain ⟨r16, rfl, rfl, h⟩ := hP19
    refine X_tls ?_
    refine X_goto (tgt := 30) C dX2_is_26 (by decide) ?_
    refine X_sub [1, 0] (lo2 := [(0, _), (5, _)]) rfl ?_
    exact t_X2_is_b30 hd C hn ha st x0 z0 r16 hs_x0 hb_x0 h
def w_X2_is (st : St) (a0 : Nat) (p1 : Int64) (p2 : Int64) (Φ : St → Nat → Prop) (Φa : St → Prop) : Prop := ((0 ≤ p2) → w_X2_is_b14 Φ Φa st a0 p2 p1) ∧ ((¬ 0 ≤ p2) → w_J8_negateExact st p1 (fun (r24 : Int64) => w_X2_is_b14 Φ Φa st a0 p2 r24) Φa)
theorem nm_X2_is : yX2_is.cls ≠ "java/lang/invoke/MethodHandle" ∧ yX2_is.cls ≠ "java/lang/invoke/VarHandle" ∧ (parseMethodDescriptor yX2_is.desc).map (fun d => d.parameters.length) = some 2 := by decide +kernel
theorem e_X2_is : plainFor yX2_is = true := plainFor_of_name (by decide +kernel)
theorem m_X2_is {θ : Th} {l : Launch} (hl0 : l.stackTraces = false) {d : Nat} (hd : 1 ≤ d) (st : St) (a0 : Nat) (p1 : Int64) (p2 : Int64) (hs_a0 : sh st a0 = 3) (hb_a0 : a0 < gBIG) {Φ : St → Nat → Prop} {Φa : St → Prop} (h : w_X2_is st a0 p1 p2 Φ Φa) : Ct θ l yX2_is (ws_ yX2_is cX2_is 11 (some (Jvm.ClassFile.FieldType.object "SecretsWorth$Ratio"))) d [.ref (ad θ a0), .long p1, .long p2] st (pN θ 3 Φ, (exA Φa)) := by
  refine Ct_entry hl0 e_X2_is (Nat.le_of_ble_eq_true rfl) (fun κ hκ _ C => ?_)
  have hn : ∀ st r, r < gBIG → sh st r = 3 → Φ st r → ((pN θ 3 Φ, (exA Φa)) : Ph).1 st (some (.ref (ad θ r))) := fun st r q1 q2 q => ⟨r, rfl, q1, q2, q⟩
  have ha : ∀ st q, Φa st → ((pN θ 3 Φ, (exA Φa)) : Ph).2 st "java/lang/ArithmeticException" q := fun st q2 q => ⟨rfl, q⟩
  change X _ _ _ _ _ [(0, .ref (ad θ a0)), (1, .long p1), (3, .long p2)] _
  unfold w_X2_is at h
  refine X_lload_n C dX2_is_0 rfl 2 rfl ?_
  refine X_lconst (v := 0) C dX2_is_1 rfl ?_
  refine X_lcmp_ge (tgt := 13) C dX2_is_2 dX2_is_3 (by decide) (fun c1 => ?_) (fun c1 => ?_)
  · have h := h.1 c1
    refine X_lload_n C dX2_is_13 rfl 1 rfl ?_
    refine X_sub [0, 2] (lo2 := [(0, _), (3, _)]) rfl ?_
    exact t_X2_is_b14 hd C hn ha st a0 p2 p1 hs_a0 hb_a0 h
  · have h := h.2 c1
    refine X_lload_n C dX2_is_6 rfl 1 rfl ?_
    refine X_callS (As := [_]) (rest := []) C q718 q719 q147 q720 nm_J8_negateExact rfl dX2_is_7 (m_J8_negateExact (Cx_l C) (d := d - 1) (by omega) st p1 h) (by omega) (by decide) (Nat.le_of_ble_eq_true rfl) (fun s30 w25 hE26 hP27 => ?_) (fun s31 E28 q29 hE26 hP27 => ?_)
    rotate_left
    · rcases hP27 with ⟨rfl, h⟩
      exact XT_out C rfl (ha s31 q29 h)
    obtain ⟨r24, rfl, rfl, h⟩ := hP27
    refine X_tls ?_
    refine X_goto (tgt := 14) C dX2_is_10 (by decide) ?_
    refine X_sub [0, 2] (lo2 := [(0, _), (3, _)]) rfl ?_
    exact t_X2_is_b14 hd C hn ha st a0 p2 r24 hs_a0 hb_a0 h

def w_X2_as (st : St) (a0 : Nat) (p1 : Nat) (Φ : St → Nat → Prop) : Prop := ∀ s1, s1 = putL st a0 0 (sL st p1 0) → ∀ s3, s3 = putL s1 a0 1 (sL s1 p1 1) → Φ s3 a0
theorem nm_X2_as : yX2_as.cls ≠ "java/lang/invoke/MethodHandle" ∧ yX2_as.cls ≠ "java/lang/invoke/VarHandle" ∧ (parseMethodDescriptor yX2_as.desc).map (fun d => d.parameters.length) = some 1 := by decide +kernel
theorem e_X2_as : plainFor yX2_as = true := plainFor_of_name (by decide +kernel)
theorem m_X2_as {θ : Th} {l : Launch} (hl0 : l.stackTraces = false) {d : Nat} (hd : 0 ≤ d) (st : St) (a0 : Nat) (p1 : Nat) (hs_a0 : sh st a0 = 3) (hb_a0 : a0 < gBIG) (hs_p1 : sh st p1 = 3) (hb_p1 : p1 < gBIG) {Φ : St → Nat → Prop} (h : w_X2_as st a0 p1 Φ) : Ct θ l yX2_as (ws_ yX2_as cX2_as 2 (some (Jvm.ClassFile.FieldType.object "SecretsWorth$Ratio"))) d [.ref (ad θ a0), .ref (ad θ p1)] st (pN θ 3 Φ, noX) := by
  refine Ct_entry hl0 e_X2_as (Nat.le_of_ble_eq_true rfl) (fun κ hκ _ C => ?_)
  have hn : ∀ st r, r < gBIG → sh st r = 3 → Φ st r → ((pN θ 3 Φ, noX) : Ph).1 st (some (.ref (ad θ r))) := fun st r q1 q2 q => ⟨r, rfl, q1, q2, q⟩
  change X _ _ _ _ _ [(0, .ref (ad θ a0)), (1, .ref (ad θ p1))] _
  unfold w_X2_as at h
  refine X_aload_n C dX2_as_0 rfl 0 rfl (isRV_r _) ?_
  refine X_aload_n C dX2_as_1 rfl 1 rfl (isRV_r _) ?_
  refine X_get (ci := 2) (j := 0) (q := (RX2, TX2, 2)) C rfl (by decide) q239 rfl dX2_as_2 hs_p1 (v := .long (sL st p1 0)) rfl ?_
  refine X_putL (ci := 2) (j := 0) (q := (RX2, TX2, 2)) C rfl (by decide) q239 rfl rfl dX2_as_5 hb_a0 hs_a0 rfl ?_
  refine X_nm (fun s1 e2 => ?_)
  have h := h s1 e2
  have hs_a0 : sh s1 a0 = 3 := by rw [e2]; exact hs_a0
  have hs_p1 : sh s1 p1 = 3 := by rw [e2]; exact hs_p1
  refine X_aload_n C dX2_as_8 rfl 0 rfl (isRV_r _) ?_
  refine X_aload_n C dX2_as_9 rfl 1 rfl (isRV_r _) ?_
  refine X_get (ci := 2) (j := 1) (q := (RX2, TX2, 2)) C rfl (by decide) q240 rfl dX2_as_10 hs_p1 (v := .long (sL s1 p1 1)) rfl ?_
  refine X_putL (ci := 2) (j := 1) (q := (RX2, TX2, 2)) C rfl (by decide) q240 rfl rfl dX2_as_13 hb_a0 hs_a0 rfl ?_
  refine X_nm (fun s3 e4 => ?_)
  have h := h s3 e4
  have hs_a0 : sh s3 a0 = 3 := by rw [e4]; exact hs_a0
  have hs_p1 : sh s3 p1 = 3 := by rw [e4]; exact hs_p1
  refine X_aload_n C dX2_as_16 rfl 0 rfl (isRV_r _) ?_
  exact X_aret C rfl (Or.inl ⟨_, rfl⟩) (isRV_r _) dX2_as_17 (hn s3 _ hb_a0 hs_a0 h)

def w_X2_add (st : St) (a0 : Nat) (p1 : Nat) (p2 : Nat) (Φ : St → Nat → Prop) (Φa : St → Prop) : Prop := w_J8_multiplyExact st (sL st p1 0) (sL st p2 1) (fun (r1 : Int64) => w_J8_multiplyExact st (sL st p2 0) (sL st p1 1) (fun (r9 : Int64) => w_J8_addExact st r1 r9 (fun (r17 : Int64) => w_J8_multiplyExact st (sL st p1 1) (sL st p2 1) (fun (r25 : Int64) => w_X2_is st a0 r17 r25 (fun (s34 : St) (r33 : Nat) => Φ s34 r33) Φa) Φa) Φa) Φa) Φa
theorem nm_X2_add : yX2_add.cls ≠ "java/lang/invoke/MethodHandle" ∧ yX2_add.cls ≠ "java/lang/invoke/VarHandle" ∧ (parseMethodDescriptor yX2_add.desc).map (fun d => d.parameters.length) = some 2 := by decide +kernel
theorem e_X2_add : plainFor yX2_add = true := plainFor_of_name (by decide +kernel)
theorem m_X2_add {θ : Th} {l : Launch} (hl0 : l.stackTraces = false) {d : Nat} (hd : 2 ≤ d) (st : St) (a0 : Nat) (p1 : Nat) (p2 : Nat) (hs_a0 : sh st a0 = 3) (hb_a0 : a0 < gBIG) (hs_p1 : sh st p1 = 3) (hb_p1 : p1 < gBIG) (hs_p2 : sh st p2 = 3) (hb_p2 : p2 < gBIG) {Φ : St → Nat → Prop} {Φa : St → Prop} (h : w_X2_add st a0 p1 p2 Φ Φa) : Ct θ l yX2_add (ws_ yX2_add cX2_add 5 (some (Jvm.ClassFile.FieldType.object "SecretsWorth$Ratio"))) d [.ref (ad θ a0), .ref (ad θ p1), .ref (ad θ p2)] st (pN θ 3 Φ, (exA Φa)) := by
  refine Ct_entry hl0 e_X2_add (Nat.le_of_ble_eq_true rfl) (fun κ hκ _ C => ?_)
  have hn : ∀ st r, r < gBIG → sh st r = 3 → Φ st r → ((pN θ 3 Φ, (exA Φa)) : Ph).1 st (some (.ref (ad θ r))) := fun st r q1 q2 q => ⟨r, rfl, q1, q2, q⟩
  have ha : ∀ st q, Φa st → ((pN θ 3 Φ, (exA Φa)) : Ph).2 st "java/lang/ArithmeticException" q := fun st q2 q => ⟨rfl, q⟩
  change X _ _ _ _ _ [(0, .ref (ad θ a0)), (1, .ref (ad θ p1)), (2, .ref (ad θ p2))] _
  unfold w_X2_add at h
  refine X_aload_n C dX2_add_0 rfl 1 rfl (isRV_r _) ?_
  refine X_get (ci := 2) (j := 0) (q := (RX2, TX2, 2)) C rfl (by decide) q239 rfl dX2_add_1 hs_p1 (v := .long (sL st p1 0)) rfl ?_
  refine X_aload_n C dX2_add_4 rfl 2 rfl (isRV_r _) ?_
  refine X_get (ci := 2) (j := 1) (q := (RX2, TX2, 2)) C rfl (by decide) q240 rfl dX2_add_5 hs_p2 (v := .long (sL st p2 1)) rfl ?_
  refine X_callS (As := [_, _]) (rest := []) C q806 q807 q147 q808 nm_J8_multiplyExact rfl dX2_add_8 (m_J8_multiplyExact (Cx_l C) (d := d - 1) (by omega) st (sL st p1 0) (sL st p2 1) h) (by omega) (by decide) (Nat.le_of_ble_eq_true rfl) (fun s7 w2 hE3 hP4 => ?_) (fun s8 E5 q6 hE3 hP4 => ?_)
  rotate_left
  · rcases hP4 with ⟨rfl, h⟩
    exact XT_out C rfl (ha s8 q6 h)
  obtain ⟨r1, rfl, rfl, h⟩ := hP4
  refine X_tls ?_
  refine X_aload_n C dX2_add_11 rfl 2 rfl (isRV_r _) ?_
  refine X_get (ci := 2) (j := 0) (q := (RX2, TX2, 2)) C rfl (by decide) q239 rfl dX2_add_12 hs_p2 (v := .long (sL st p2 0)) rfl ?_
  refine X_aload_n C dX2_add_15 rfl 1 rfl (isRV_r _) ?_
  refine X_get (ci := 2) (j := 1) (q := (RX2, TX2, 2)) C rfl (by decide) q240 rfl dX2_add_16 hs_p1 (v := .long (sL st p1 1)) rfl ?_
  refine X_callS (As := [_, _]) (rest := [_]) C q806 q807 q147 q808 nm_J8_multiplyExact rfl dX2_add_19 (m_J8_multiplyExact (Cx_l C) (d := d - 1) (by omega) st (sL st p2 0) (sL st p1 1) h) (by omega) (by decide) (Nat.le_of_ble_eq_true rfl) (fun s15 w10 hE11 hP12 => ?_) (fun s16 E13 q14 hE11 hP12 => ?_)
  rotate_left
  · rcases hP12 with ⟨rfl, h⟩
    exact XT_out C rfl (ha s16 q14 h)
  obtain ⟨r9, rfl, rfl, h⟩ := hP12
  refine X_tls ?_
  refine X_callS (As := [_, _]) (rest := []) C q818 q819 q147 q820 nm_J8_addExact rfl dX2_add_22 (m_J8_addExact (Cx_l C) (d := d - 1) (by omega) st r1 r9 h) (by omega) (by decide) (Nat.le_of_ble_eq_true rfl) (fun s23 w18 hE19 hP20 => ?_) (fun s24 E21 q22 hE19 hP20 => ?_)
  rotate_left
  · rcases hP20 with ⟨rfl, h⟩
    exact XT_out C rfl (ha s24 q22 h)
  obtain ⟨r17, rfl, rfl, h⟩ := hP20
  refine X_tls ?_
  refine X_lstore_n C dX2_add_25 rfl (lo2 := [(3, _), (0, _), (1, _), (2, _)]) (by decide) rfl ?_
  refine X_aload_n C dX2_add_26 rfl 1 rfl (isRV_r _) ?_
  refine X_lload_n C dX2_add_27 rfl 0 rfl ?_
  refine X_aload_n C dX2_add_28 rfl 2 rfl (isRV_r _) ?_
  refine X_get (ci := 2) (j := 1) (q := (RX2, TX2, 2)) C rfl (by decide) q240 rfl dX2_add_29 hs_p1 (v := .long (sL st p1 1)) rfl ?_
  refine X_aload_n C dX2_add_32 rfl 3 rfl (isRV_r _) ?_
  refine X_get (ci := 2) (j := 1) (q := (RX2, TX2, 2)) C rfl (by decide) q240 rfl dX2_add_33 hs_p2 (v := .long (sL st p2 1)) rfl ?_
  refine X_callS (As := [_, _]) (rest := [_, _]) C q806 q807 q147 q808 nm_J8_multiplyExact rfl dX2_add_36 (m_J8_multiplyExact (Cx_l C) (d := d - 1) (by omega) st (sL st p1 1) (sL st p2 1) h) (by omega) (by decide) (Nat.le_of_ble_eq_true rfl) (fun s31 w26 hE27 hP28 => ?_) (fun s32 E29 q30 hE27 hP28 => ?_)
  rotate_left
  · rcases hP28 with ⟨rfl, h⟩
    exact XT_out C rfl (ha s32 q30 h)
  obtain ⟨r25, rfl, rfl, h⟩ := hP28
  refine X_tls ?_
  refine X_callV (ci := 2) (q := (RX2, TX2, 2)) (As := [_, _]) (rest := []) C rfl hs_a0 q813 q715 q716 q134 q717 ⟨rfl, nm_X2_is⟩ rfl dX2_add_39 (m_X2_is (Cx_l C) (d := d - 1) (by omega) st a0 r17 r25 hs_a0 hb_a0 h) (by omega) (by decide) (Nat.le_of_ble_eq_true rfl) (fun s34 w35 hE36 hP37 => ?_) (fun s40 E38 q39 hE36 hP37 => ?_)
  rotate_left
  · rcases hP37 with ⟨rfl, h⟩
    exact XT_out C rfl (ha s40 q39 h)
  obtain ⟨r33, rfl, hb41, hs42, h⟩ := hP37
  refine X_tls ?_
  have hs_a0 := Ext_sh hE36 hs_a0 (by decide)
  have hs_p1 := Ext_sh hE36 hs_p1 (by decide)
  have hs_p2 := Ext_sh hE36 hs_p2 (by decide)
  exact X_aret C rfl (Or.inl ⟨_, rfl⟩) (isRV_r _) dX2_add_42 (hn s34 _ hb41 hs42 h)

def w_X2_less (st : St) (a0 : Nat) (p1 : Nat) (p2 : Nat) (Φ : St → Nat → Prop) (Φa : St → Prop) : Prop := w_J8_multiplyExact st (sL st p1 0) (sL st p2 1) (fun (r1 : Int64) => w_J8_multiplyExact st (sL st p2 0) (sL st p1 1) (fun (r9 : Int64) => w_J8_subtractExact st r1 r9 (fun (r17 : Int64) => w_J8_multiplyExact st (sL st p1 1) (sL st p2 1) (fun (r25 : Int64) => w_X2_is st a0 r17 r25 (fun (s34 : St) (r33 : Nat) => Φ s34 r33) Φa) Φa) Φa) Φa) Φa
theorem nm_X2_less : yX2_less.cls ≠ "java/lang/invoke/MethodHandle" ∧ yX2_less.cls ≠ "java/lang/invoke/VarHandle" ∧ (parseMethodDescriptor yX2_less.desc).map (fun d => d.parameters.length) = some 2 := by decide +kernel
theorem e_X2_less : plainFor yX2_less = true := plainFor_of_name (by decide +kernel)
theorem m_X2_less {θ : Th} {l : Launch} (hl0 : l.stackTraces = false) {d : Nat} (hd : 2 ≤ d) (st : St) (a0 : Nat) (p1 : Nat) (p2 : Nat) (hs_a0 : sh st a0 = 3) (hb_a0 : a0 < gBIG) (hs_p1 : sh st p1 = 3) (hb_p1 : p1 < gBIG) (hs_p2 : sh st p2 = 3) (hb_p2 : p2 < gBIG) {Φ : St → Nat → Prop} {Φa : St → Prop} (h : w_X2_less st a0 p1 p2 Φ Φa) : Ct θ l yX2_less (ws_ yX2_less cX2_less 5 (some (Jvm.ClassFile.FieldType.object "SecretsWorth$Ratio"))) d [.ref (ad θ a0), .ref (ad θ p1), .ref (ad θ p2)] st (pN θ 3 Φ, (exA Φa)) := by
  refine Ct_entry hl0 e_X2_less (Nat.le_of_ble_eq_true rfl) (fun κ hκ _ C => ?_)
  have hn : ∀ st r, r < gBIG → sh st r = 3 → Φ st r → ((pN θ 3 Φ, (exA Φa)) : Ph).1 st (some (.ref (ad θ r))) := fun st r q1 q2 q => ⟨r, rfl, q1, q2, q⟩
  have ha : ∀ st q, Φa st → ((pN θ 3 Φ, (exA Φa)) : Ph).2 st "java/lang/ArithmeticException" q := fun st q2 q => ⟨rfl, q⟩
  change X _ _ _ _ _ [(0, .ref (ad θ a0)), (1, .ref (ad θ p1)), (2, .ref (ad θ p2))] _
  unfold w_X2_less at h
  refine X_aload_n C dX2_less_0 rfl 1 rfl (isRV_r _) ?_
  refine X_get (ci := 2) (j := 0) (q := (RX2, TX2, 2)) C rfl (by decide) q239 rfl dX2_less_1 hs_p1 (v := .long (sL st p1 0)) rfl ?_
  refine X_aload_n C dX2_less_4 rfl 2 rfl (isRV_r _) ?_
  refine X_get (ci := 2) (j := 1) (q := (RX2, TX2, 2)) C rfl (by decide) q240 rfl dX2_less_5 hs_p2 (v := .long (sL st p2 1)) rfl ?_
  refine X_callS (As := [_, _]) (rest := []) C q806 q807 q147 q808 nm_J8_multiplyExact rfl dX2_less_8 (m_J8_multiplyExact (Cx_l C) (d := d - 1) (by omega) st (sL st p1 0) (sL st p2 1) h) (by omega) (by decide) (Nat.le_of_ble_eq_true rfl) (fun s7 w2 hE3 hP4 => ?_) (fun s8 E5 q6 hE3 hP4 => ?_)
  rotate_left
  · rcases hP4 with ⟨rfl, h⟩
    exact XT_out C rfl (ha s8 q6 h)
  obtain ⟨r1, rfl, rfl, h⟩ := hP4
  refine X_tls ?_
  refine X_aload_n C dX2_less_11 rfl 2 rfl (isRV_r _) ?_
  refine X_get (ci := 2) (j := 0) (q := (RX2, TX2, 2)) C rfl (by decide) q239 rfl dX2_less_12 hs_p2 (v := .long (sL st p2 0)) rfl ?_
  refine X_aload_n C dX2_less_15 rfl 1 rfl (isRV_r _) ?_
  refine X_get (ci := 2) (j := 1) (q := (RX2, TX2, 2)) C rfl (by decide) q240 rfl dX2_less_16 hs_p1 (v := .long (sL st p1 1)) rfl ?_
  refine X_callS (As := [_, _]) (rest := [_]) C q806 q807 q147 q808 nm_J8_multiplyExact rfl dX2_less_19 (m_J8_multiplyExact (Cx_l C) (d := d - 1) (by omega) st (sL st p2 0) (sL st p1 1) h) (by omega) (by decide) (Nat.le_of_ble_eq_true rfl) (fun s15 w10 hE11 hP12 => ?_) (fun s16 E13 q14 hE11 hP12 => ?_)
  rotate_left
  · rcases hP12 with ⟨rfl, h⟩
    exact XT_out C rfl (ha s16 q14 h)
  obtain ⟨r9, rfl, rfl, h⟩ := hP12
  refine X_tls ?_
  refine X_callS (As := [_, _]) (rest := []) C q845 q846 q147 q847 nm_J8_subtractExact rfl dX2_less_22 (m_J8_subtractExact (Cx_l C) (d := d - 1) (by omega) st r1 r9 h) (by omega) (by decide) (Nat.le_of_ble_eq_true rfl) (fun s23 w18 hE19 hP20 => ?_) (fun s24 E21 q22 hE19 hP20 => ?_)
  rotate_left
  · rcases hP20 with ⟨rfl, h⟩
    exact XT_out C rfl (ha s24 q22 h)
  obtain ⟨r17, rfl, rfl, h⟩ := hP20
  refine X_tls ?_
  refine X_lstore_n C dX2_less_25 rfl (lo2 := [(3, _), (0, _), (1, _), (2, _)]) (by decide) rfl ?_
  refine X_aload_n C dX2_less_26 rfl 1 rfl (isRV_r _) ?_
  refine X_lload_n C dX2_less_27 rfl 0 rfl ?_
  refine X_aload_n C dX2_less_28 rfl 2 rfl (isRV_r _) ?_
  refine X_get (ci := 2) (j := 1) (q := (RX2, TX2, 2)) C rfl (by decide) q240 rfl dX2_less_29 hs_p1 (v := .long (sL st p1 1)) rfl ?_
  refine X_aload_n C dX2_less_32 rfl 3 rfl (isRV_r _) ?_
  refine X_get (ci := 2) (j := 1) (q := (RX2, TX2, 2)) C rfl (by decide) q240 rfl dX2_less_33 hs_p2 (v := .long (sL st p2 1)) rfl ?_
  refine X_callS (As := [_, _]) (rest := [_, _]) C q806 q807 q147 q808 nm_J8_multiplyExact rfl dX2_less_36 (m_J8_multiplyExact (Cx_l C) (d := d - 1) (by omega) st (sL st p1 1) (sL st p2 1) h) (by omega) (by decide) (Nat.le_of_ble_eq_true rfl) (fun s31 w26 hE27 hP28 => ?_) (fun s32 E29 q30 hE27 hP28 => ?_)
  rotate_left
  · rcases hP28 with ⟨rfl, h⟩
    exact XT_out C rfl (ha s32 q30 h)
  obtain ⟨r25, rfl, rfl, h⟩ := hP28
  refine X_tls ?_
  refine X_callV (ci := 2) (q := (RX2, TX2, 2)) (As := [_, _]) (rest := []) C rfl hs_a0 q813 q715 q716 q134 q717 ⟨rfl, nm_X2_is⟩ rfl dX2_less_39 (m_X2_is (Cx_l C) (d := d - 1) (by omega) st a0 r17 r25 hs_a0 hb_a0 h) (by omega) (by decide) (Nat.le_of_ble_eq_true rfl) (fun s34 w35 hE36 hP37 => ?_) (fun s40 E38 q39 hE36 hP37 => ?_)
  rotate_left
  · rcases hP37 with ⟨rfl, h⟩
    exact XT_out C rfl (ha s40 q39 h)
  obtain ⟨r33, rfl, hb41, hs42, h⟩ := hP37
  refine X_tls ?_
  have hs_a0 := Ext_sh hE36 hs_a0 (by decide)
  have hs_p1 := Ext_sh hE36 hs_p1 (by decide)
  have hs_p2 := Ext_sh hE36 hs_p2 (by decide)
  exact X_aret C rfl (Or.inl ⟨_, rfl⟩) (isRV_r _) dX2_less_42 (hn s34 _ hb41 hs42 h)

def w_X2_times (st : St) (a0 : Nat) (p1 : Nat) (p2 : Nat) (Φ : St → Nat → Prop) (Φa : St → Prop) : Prop := w_J8_multiplyExact st (sL st p1 0) (sL st p2 0) (fun (r1 : Int64) => w_J8_multiplyExact st (sL st p1 1) (sL st p2 1) (fun (r9 : Int64) => w_X2_is st a0 r1 r9 (fun (s18 : St) (r17 : Nat) => Φ s18 r17) Φa) Φa) Φa
theorem nm_X2_times : yX2_times.cls ≠ "java/lang/invoke/MethodHandle" ∧ yX2_times.cls ≠ "java/lang/invoke/VarHandle" ∧ (parseMethodDescriptor yX2_times.desc).map (fun d => d.parameters.length) = some 2 := by decide +kernel
theorem e_X2_times : plainFor yX2_times = true := plainFor_of_name (by decide +kernel)
theorem m_X2_times {θ : Th} {l : Launch} (hl0 : l.stackTraces = false) {d : Nat} (hd : 2 ≤ d) (st : St) (a0 : Nat) (p1 : Nat) (p2 : Nat) (hs_a0 : sh st a0 = 3) (hb_a0 : a0 < gBIG) (hs_p1 : sh st p1 = 3) (hb_p1 : p1 < gBIG) (hs_p2 : sh st p2 = 3) (hb_p2 : p2 < gBIG) {Φ : St → Nat → Prop} {Φa : St → Prop} (h : w_X2_times st a0 p1 p2 Φ Φa) : Ct θ l yX2_times (ws_ yX2_times cX2_times 5 (some (Jvm.ClassFile.FieldType.object "SecretsWorth$Ratio"))) d [.ref (ad θ a0), .ref (ad θ p1), .ref (ad θ p2)] st (pN θ 3 Φ, (exA Φa)) := by
  refine Ct_entry hl0 e_X2_times (Nat.le_of_ble_eq_true rfl) (fun κ hκ _ C => ?_)
  have hn : ∀ st r, r < gBIG → sh st r = 3 → Φ st r → ((pN θ 3 Φ, (exA Φa)) : Ph).1 st (some (.ref (ad θ r))) := fun st r q1 q2 q => ⟨r, rfl, q1, q2, q⟩
  have ha : ∀ st q, Φa st → ((pN θ 3 Φ, (exA Φa)) : Ph).2 st "java/lang/ArithmeticException" q := fun st q2 q => ⟨rfl, q⟩
  change X _ _ _ _ _ [(0, .ref (ad θ a0)), (1, .ref (ad θ p1)), (2, .ref (ad θ p2))] _
  unfold w_X2_times at h
  refine X_aload_n C dX2_times_0 rfl 1 rfl (isRV_r _) ?_
  refine X_get (ci := 2) (j := 0) (q := (RX2, TX2, 2)) C rfl (by decide) q239 rfl dX2_times_1 hs_p1 (v := .long (sL st p1 0)) rfl ?_
  refine X_aload_n C dX2_times_4 rfl 2 rfl (isRV_r _) ?_
  refine X_get (ci := 2) (j := 0) (q := (RX2, TX2, 2)) C rfl (by decide) q239 rfl dX2_times_5 hs_p2 (v := .long (sL st p2 0)) rfl ?_
  refine X_callS (As := [_, _]) (rest := []) C q806 q807 q147 q808 nm_J8_multiplyExact rfl dX2_times_8 (m_J8_multiplyExact (Cx_l C) (d := d - 1) (by omega) st (sL st p1 0) (sL st p2 0) h) (by omega) (by decide) (Nat.le_of_ble_eq_true rfl) (fun s7 w2 hE3 hP4 => ?_) (fun s8 E5 q6 hE3 hP4 => ?_)
  rotate_left
  · rcases hP4 with ⟨rfl, h⟩
    exact XT_out C rfl (ha s8 q6 h)
  obtain ⟨r1, rfl, rfl, h⟩ := hP4
  refine X_tls ?_
  refine X_lstore_n C dX2_times_11 rfl (lo2 := [(3, _), (0, _), (1, _), (2, _)]) (by decide) rfl ?_
  refine X_aload_n C dX2_times_12 rfl 1 rfl (isRV_r _) ?_
  refine X_lload_n C dX2_times_13 rfl 0 rfl ?_
  refine X_aload_n C dX2_times_14 rfl 2 rfl (isRV_r _) ?_
  refine X_get (ci := 2) (j := 1) (q := (RX2, TX2, 2)) C rfl (by decide) q240 rfl dX2_times_15 hs_p1 (v := .long (sL st p1 1)) rfl ?_
  refine X_aload_n C dX2_times_18 rfl 3 rfl (isRV_r _) ?_
  refine X_get (ci := 2) (j := 1) (q := (RX2, TX2, 2)) C rfl (by decide) q240 rfl dX2_times_19 hs_p2 (v := .long (sL st p2 1)) rfl ?_
  refine X_callS (As := [_, _]) (rest := [_, _]) C q806 q807 q147 q808 nm_J8_multiplyExact rfl dX2_times_22 (m_J8_multiplyExact (Cx_l C) (d := d - 1) (by omega) st (sL st p1 1) (sL st p2 1) h) (by omega) (by decide) (Nat.le_of_ble_eq_true rfl) (fun s15 w10 hE11 hP12 => ?_) (fun s16 E13 q14 hE11 hP12 => ?_)
  rotate_left
  · rcases hP12 with ⟨rfl, h⟩
    exact XT_out C rfl (ha s16 q14 h)
  obtain ⟨r9, rfl, rfl, h⟩ := hP12
  refine X_tls ?_
  refine X_callV (ci := 2) (q := (RX2, TX2, 2)) (As := [_, _]) (rest := []) C rfl hs_a0 q813 q715 q716 q134 q717 ⟨rfl, nm_X2_is⟩ rfl dX2_times_25 (m_X2_is (Cx_l C) (d := d - 1) (by omega) st a0 r1 r9 hs_a0 hb_a0 h) (by omega) (by decide) (Nat.le_of_ble_eq_true rfl) (fun s18 w19 hE20 hP21 => ?_) (fun s24 E22 q23 hE20 hP21 => ?_)
  rotate_left
  · rcases hP21 with ⟨rfl, h⟩
    exact XT_out C rfl (ha s24 q23 h)
  obtain ⟨r17, rfl, hb25, hs26, h⟩ := hP21
  refine X_tls ?_
  have hs_a0 := Ext_sh hE20 hs_a0 (by decide)
  have hs_p1 := Ext_sh hE20 hs_p1 (by decide)
  have hs_p2 := Ext_sh hE20 hs_p2 (by decide)
  exact X_aret C rfl (Or.inl ⟨_, rfl⟩) (isRV_r _) dX2_times_28 (hn s18 _ hb25 hs26 h)

def w_X2_by (st : St) (a0 : Nat) (p1 : Nat) (p2 : Nat) (Φ : St → Nat → Prop) (Φa : St → Prop) : Prop := w_J8_multiplyExact st (sL st p1 0) (sL st p2 1) (fun (r1 : Int64) => w_J8_multiplyExact st (sL st p1 1) (sL st p2 0) (fun (r9 : Int64) => w_X2_is st a0 r1 r9 (fun (s18 : St) (r17 : Nat) => Φ s18 r17) Φa) Φa) Φa
theorem nm_X2_by : yX2_by.cls ≠ "java/lang/invoke/MethodHandle" ∧ yX2_by.cls ≠ "java/lang/invoke/VarHandle" ∧ (parseMethodDescriptor yX2_by.desc).map (fun d => d.parameters.length) = some 2 := by decide +kernel
theorem e_X2_by : plainFor yX2_by = true := plainFor_of_name (by decide +kernel)
theorem m_X2_by {θ : Th} {l : Launch} (hl0 : l.stackTraces = false) {d : Nat} (hd : 2 ≤ d) (st : St) (a0 : Nat) (p1 : Nat) (p2 : Nat) (hs_a0 : sh st a0 = 3) (hb_a0 : a0 < gBIG) (hs_p1 : sh st p1 = 3) (hb_p1 : p1 < gBIG) (hs_p2 : sh st p2 = 3) (hb_p2 : p2 < gBIG) {Φ : St → Nat → Prop} {Φa : St → Prop} (h : w_X2_by st a0 p1 p2 Φ Φa) : Ct θ l yX2_by (ws_ yX2_by cX2_by 5 (some (Jvm.ClassFile.FieldType.object "SecretsWorth$Ratio"))) d [.ref (ad θ a0), .ref (ad θ p1), .ref (ad θ p2)] st (pN θ 3 Φ, (exA Φa)) := by
  refine Ct_entry hl0 e_X2_by (Nat.le_of_ble_eq_true rfl) (fun κ hκ _ C => ?_)
  have hn : ∀ st r, r < gBIG → sh st r = 3 → Φ st r → ((pN θ 3 Φ, (exA Φa)) : Ph).1 st (some (.ref (ad θ r))) := fun st r q1 q2 q => ⟨r, rfl, q1, q2, q⟩
  have ha : ∀ st q, Φa st → ((pN θ 3 Φ, (exA Φa)) : Ph).2 st "java/lang/ArithmeticException" q := fun st q2 q => ⟨rfl, q⟩
  change X _ _ _ _ _ [(0, .ref (ad θ a0)), (1, .ref (ad θ p1)), (2, .ref (ad θ p2))] _
  unfold w_X2_by at h
  refine X_aload_n C dX2_by_0 rfl 1 rfl (isRV_r _) ?_
  refine X_get (ci := 2) (j := 0) (q := (RX2, TX2, 2)) C rfl (by decide) q239 rfl dX2_by_1 hs_p1 (v := .long (sL st p1 0)) rfl ?_
  refine X_aload_n C dX2_by_4 rfl 2 rfl (isRV_r _) ?_
  refine X_get (ci := 2) (j := 1) (q := (RX2, TX2, 2)) C rfl (by decide) q240 rfl dX2_by_5 hs_p2 (v := .long (sL st p2 1)) rfl ?_
  refine X_callS (As := [_, _]) (rest := []) C q806 q807 q147 q808 nm_J8_multiplyExact rfl dX2_by_8 (m_J8_multiplyExact (Cx_l C) (d := d - 1) (by omega) st (sL st p1 0) (sL st p2 1) h) (by omega) (by decide) (Nat.le_of_ble_eq_true rfl) (fun s7 w2 hE3 hP4 => ?_) (fun s8 E5 q6 hE3 hP4 => ?_)
  rotate_left
  · rcases hP4 with ⟨rfl, h⟩
    exact XT_out C rfl (ha s8 q6 h)
  obtain ⟨r1, rfl, rfl, h⟩ := hP4
  refine X_tls ?_
  refine X_lstore_n C dX2_by_11 rfl (lo2 := [(3, _), (0, _), (1, _), (2, _)]) (by decide) rfl ?_
  refine X_aload_n C dX2_by_12 rfl 1 rfl (isRV_r _) ?_
  refine X_lload_n C dX2_by_13 rfl 0 rfl ?_
  refine X_aload_n C dX2_by_14 rfl 2 rfl (isRV_r _) ?_
  refine X_get (ci := 2) (j := 1) (q := (RX2, TX2, 2)) C rfl (by decide) q240 rfl dX2_by_15 hs_p1 (v := .long (sL st p1 1)) rfl ?_
  refine X_aload_n C dX2_by_18 rfl 3 rfl (isRV_r _) ?_
  refine X_get (ci := 2) (j := 0) (q := (RX2, TX2, 2)) C rfl (by decide) q239 rfl dX2_by_19 hs_p2 (v := .long (sL st p2 0)) rfl ?_
  refine X_callS (As := [_, _]) (rest := [_, _]) C q806 q807 q147 q808 nm_J8_multiplyExact rfl dX2_by_22 (m_J8_multiplyExact (Cx_l C) (d := d - 1) (by omega) st (sL st p1 1) (sL st p2 0) h) (by omega) (by decide) (Nat.le_of_ble_eq_true rfl) (fun s15 w10 hE11 hP12 => ?_) (fun s16 E13 q14 hE11 hP12 => ?_)
  rotate_left
  · rcases hP12 with ⟨rfl, h⟩
    exact XT_out C rfl (ha s16 q14 h)
  obtain ⟨r9, rfl, rfl, h⟩ := hP12
  refine X_tls ?_
  refine X_callV (ci := 2) (q := (RX2, TX2, 2)) (As := [_, _]) (rest := []) C rfl hs_a0 q813 q715 q716 q134 q717 ⟨rfl, nm_X2_is⟩ rfl dX2_by_25 (m_X2_is (Cx_l C) (d := d - 1) (by omega) st a0 r1 r9 hs_a0 hb_a0 h) (by omega) (by decide) (Nat.le_of_ble_eq_true rfl) (fun s18 w19 hE20 hP21 => ?_) (fun s24 E22 q23 hE20 hP21 => ?_)
  rotate_left
  · rcases hP21 with ⟨rfl, h⟩
    exact XT_out C rfl (ha s24 q23 h)
  obtain ⟨r17, rfl, hb25, hs26, h⟩ := hP21
  refine X_tls ?_
  have hs_a0 := Ext_sh hE20 hs_a0 (by decide)
  have hs_p1 := Ext_sh hE20 hs_p1 (by decide)
  have hs_p2 := Ext_sh hE20 hs_p2 (by decide)
  exact X_aret C rfl (Or.inl ⟨_, rfl⟩) (isRV_r _) dX2_by_28 (hn s18 _ hb25 hs26 h)

def w_X2_isAbove (st0 : St) (a0 : Nat) (Φ : Int32 → Prop) : Prop := (((sL st0 a0 0) ≤ 0) → Φ 0) ∧ ((¬ (sL st0 a0 0) ≤ 0) → Φ 1)
theorem nm_X2_isAbove : yX2_isAbove.cls ≠ "java/lang/invoke/MethodHandle" ∧ yX2_isAbove.cls ≠ "java/lang/invoke/VarHandle" ∧ (parseMethodDescriptor yX2_isAbove.desc).map (fun d => d.parameters.length) = some 0 := by decide +kernel
theorem e_X2_isAbove : plainFor yX2_isAbove = true := plainFor_of_name (by decide +kernel)
theorem m_X2_isAbove {θ : Th} {l : Launch} (hl0 : l.stackTraces = false) {d : Nat} (hd : 0 ≤ d) (st0 : St) (a0 : Nat) (hs_a0 : sh st0 a0 = 3) (hb_a0 : a0 < gBIG) {Φ : Int32 → Prop} (h : w_X2_isAbove st0 a0 Φ) : Ct θ l yX2_isAbove (ws_ yX2_isAbove cX2_isAbove 1 (some Jvm.ClassFile.FieldType.boolean)) d [.ref (ad θ a0)] st0 (rI st0 Φ, noX) := by
  refine Ct_entry hl0 e_X2_isAbove (Nat.le_of_ble_eq_true rfl) (fun κ hκ _ C => ?_)
  have hn : ∀ r, Φ r → ((rI st0 Φ, noX) : Ph).1 st0 (some (.int r)) := fun r q => ⟨r, rfl, rfl, q⟩
  change X _ _ _ _ _ [(0, .ref (ad θ a0))] _
  unfold w_X2_isAbove at h
  refine X_aload_n C dX2_isAbove_0 rfl 0 rfl (isRV_r _) ?_
  refine X_get (ci := 2) (j := 0) (q := (RX2, TX2, 2)) C rfl (by decide) q239 rfl dX2_isAbove_1 hs_a0 (v := .long (sL st0 a0 0)) rfl ?_
  refine X_lconst (v := 0) C dX2_isAbove_4 rfl ?_
  refine X_lcmp_le (tgt := 13) C dX2_isAbove_5 dX2_isAbove_6 (by decide) (fun c1 => ?_) (fun c1 => ?_)
  · have h := h.1 c1
    refine X_iconst (v := 0) C dX2_isAbove_13 rfl ?_
    exact X_zret C rfl rfl dX2_isAbove_14 (hn _ h)
  · have h := h.2 c1
    refine X_iconst (v := 1) C dX2_isAbove_9 rfl ?_
    refine X_goto (tgt := 14) C dX2_isAbove_10 (by decide) ?_
    exact X_zret C rfl rfl dX2_isAbove_14 (hn _ h)

def w_X2_isBelow (st0 : St) (a0 : Nat) (Φ : Int32 → Prop) : Prop := ((0 ≤ (sL st0 a0 0)) → Φ 0) ∧ ((¬ 0 ≤ (sL st0 a0 0)) → Φ 1)
theorem nm_X2_isBelow : yX2_isBelow.cls ≠ "java/lang/invoke/MethodHandle" ∧ yX2_isBelow.cls ≠ "java/lang/invoke/VarHandle" ∧ (parseMethodDescriptor yX2_isBelow.desc).map (fun d => d.parameters.length) = some 0 := by decide +kernel
theorem e_X2_isBelow : plainFor yX2_isBelow = true := plainFor_of_name (by decide +kernel)
theorem m_X2_isBelow {θ : Th} {l : Launch} (hl0 : l.stackTraces = false) {d : Nat} (hd : 0 ≤ d) (st0 : St) (a0 : Nat) (hs_a0 : sh st0 a0 = 3) (hb_a0 : a0 < gBIG) {Φ : Int32 → Prop} (h : w_X2_isBelow st0 a0 Φ) : Ct θ l yX2_isBelow (ws_ yX2_isBelow cX2_isBelow 1 (some Jvm.ClassFile.FieldType.boolean)) d [.ref (ad θ a0)] st0 (rI st0 Φ, noX) := by
  refine Ct_entry hl0 e_X2_isBelow (Nat.le_of_ble_eq_true rfl) (fun κ hκ _ C => ?_)
  have hn : ∀ r, Φ r → ((rI st0 Φ, noX) : Ph).1 st0 (some (.int r)) := fun r q => ⟨r, rfl, rfl, q⟩
  change X _ _ _ _ _ [(0, .ref (ad θ a0))] _
  unfold w_X2_isBelow at h
  refine X_aload_n C dX2_isBelow_0 rfl 0 rfl (isRV_r _) ?_
  refine X_get (ci := 2) (j := 0) (q := (RX2, TX2, 2)) C rfl (by decide) q239 rfl dX2_isBelow_1 hs_a0 (v := .long (sL st0 a0 0)) rfl ?_
  refine X_lconst (v := 0) C dX2_isBelow_4 rfl ?_
  refine X_lcmp_ge (tgt := 13) C dX2_isBelow_5 dX2_isBelow_6 (by decide) (fun c1 => ?_) (fun c1 => ?_)
  · have h := h.1 c1
    refine X_iconst (v := 0) C dX2_isBelow_13 rfl ?_
    exact X_zret C rfl rfl dX2_isBelow_14 (hn _ h)
  · have h := h.2 c1
    refine X_iconst (v := 1) C dX2_isBelow_9 rfl ?_
    refine X_goto (tgt := 14) C dX2_isBelow_10 (by decide) ?_
    exact X_zret C rfl rfl dX2_isBelow_14 (hn _ h)

def w_X2_part (st0 : St) (a0 : Nat) (p1 : Int32) (Φ : Int64 → Prop) : Prop := ((p1 ≠ 0) → Φ (sL st0 a0 1)) ∧ ((p1 = 0) → Φ (sL st0 a0 0))
theorem nm_X2_part : yX2_part.cls ≠ "java/lang/invoke/MethodHandle" ∧ yX2_part.cls ≠ "java/lang/invoke/VarHandle" ∧ (parseMethodDescriptor yX2_part.desc).map (fun d => d.parameters.length) = some 1 := by decide +kernel
theorem e_X2_part : plainFor yX2_part = true := plainFor_of_name (by decide +kernel)
theorem m_X2_part {θ : Th} {l : Launch} (hl0 : l.stackTraces = false) {d : Nat} (hd : 0 ≤ d) (st0 : St) (a0 : Nat) (p1 : Int32) (hs_a0 : sh st0 a0 = 3) (hb_a0 : a0 < gBIG) {Φ : Int64 → Prop} (h : w_X2_part st0 a0 p1 Φ) : Ct θ l yX2_part (ws_ yX2_part cX2_part 2 (some Jvm.ClassFile.FieldType.long)) d [.ref (ad θ a0), .int p1] st0 (rL st0 Φ, noX) := by
  refine Ct_entry hl0 e_X2_part (Nat.le_of_ble_eq_true rfl) (fun κ hκ _ C => ?_)
  have hn : ∀ r, Φ r → ((rL st0 Φ, noX) : Ph).1 st0 (some (.long r)) := fun r q => ⟨r, rfl, rfl, q⟩
  change X _ _ _ _ _ [(0, .ref (ad θ a0)), (1, .int p1)] _
  unfold w_X2_part at h
  refine X_iload_n C dX2_part_0 rfl 1 rfl ?_
  refine X_if_ne (tgt := 11) C dX2_part_1 (by decide) (fun c1 => ?_) (fun c1 => ?_)
  · have h := h.1 c1
    refine X_aload_n C dX2_part_11 rfl 0 rfl (isRV_r _) ?_
    refine X_get (ci := 2) (j := 1) (q := (RX2, TX2, 2)) C rfl (by decide) q240 rfl dX2_part_12 hs_a0 (v := .long (sL st0 a0 1)) rfl ?_
    exact X_lret C rfl dX2_part_15 (hn _ h)
  · have h := h.2 c1
    refine X_aload_n C dX2_part_4 rfl 0 rfl (isRV_r _) ?_
    refine X_get (ci := 2) (j := 0) (q := (RX2, TX2, 2)) C rfl (by decide) q239 rfl dX2_part_5 hs_a0 (v := .long (sL st0 a0 0)) rfl ?_
    refine X_goto (tgt := 15) C dX2_part_8 (by decide) ?_
    exact X_lret C rfl dX2_part_15 (hn _ h)
