set_option maxRecDepth 100000
def w_J7_numberOfTrailingZeros_b74 (Φ : Int32 → Prop) (x0 : Int32) (x1 : Int32) : Prop := Φ (x1 + ((x0.toUInt32 >>> ((1 : Int32).toUInt32 &&& Int32.toUInt32 31)).toInt32))
theorem t_J7_numberOfTrailingZeros_b74 {θ : Th} {κ : Kx} {Ph : Ph} {st0 : St} {d : Nat} (hd : 0 ≤ d) (C : Cx θ κ yJ7_numberOfTrailingZeros cJ7_numberOfTrailingZeros 2 (some Jvm.ClassFile.FieldType.int) [] d) {Φ : Int32 → Prop} (hn : ∀ r, Φ r → Ph.1 st0 (some (.int r))) (x0 : Int32) (x1 : Int32) (h : w_J7_numberOfTrailingZeros_b74 Φ x0 x1) : X θ κ Ph st0 74 [(0, .int x0), (1, .int x1)] [] := by
  unfold w_J7_numberOfTrailingZeros_b74 at h
  refine X_iload_n C dJ7_numberOfTrailingZeros_74 rfl 1 rfl ?_
  refine X_iload_n C dJ7_numberOfTrailingZeros_75 rfl 0 rfl ?_
  refine X_iconst (v := 1) C dJ7_numberOfTrailingZeros_76 rfl ?_
  refine X_iushr C dJ7_numberOfTrailingZeros_77 ?_
  refine X_iadd C dJ7_numberOfTrailingZeros_78 ?_
  exact X_iret C rfl dJ7_numberOfTrailingZeros_79 (hn _ h)
def w_J7_numberOfTrailingZeros_b62 (Φ : Int32 → Prop) (x0 : Int32) (x1 : Int32) : Prop := ((x0 ≤ 4) → w_J7_numberOfTrailingZeros_b74 Φ x0 x1) ∧ ((¬ x0 ≤ 4) → ∀ v8 : Int32, v8 = ((x0.toUInt32 >>> ((2 : Int32).toUInt32 &&& Int32.toUInt32 31)).toInt32) → w_J7_numberOfTrailingZeros_b74 Φ v8 (x1 + 2))
theorem t_J7_numberOfTrailingZeros_b62 {θ : Th} {κ : Kx} {Ph : Ph} {st0 : St} {d : Nat} (hd : 0 ≤ d) (C : Cx θ κ yJ7_numberOfTrailingZeros cJ7_numberOfTrailingZeros 2 (some Jvm.ClassFile.FieldType.int) [] d) {Φ : Int32 → Prop} (hn : ∀ r, Φ r → Ph.1 st0 (some (.int r))) (x0 : Int32) (x1 : Int32) (h : w_J7_numberOfTrailingZeros_b62 Φ x0 x1) : X θ κ Ph st0 62 [(0, .int x0), (1, .int x1)] [] := by
  unfold w_J7_numberOfTrailingZeros_b62 at h
  refine X_iload_n C dJ7_numberOfTrailingZeros_62 rfl 0 rfl ?_
  refine X_iconst (v := 4) C dJ7_numberOfTrailingZeros_63 rfl ?_
  refine X_icmp_le (tgt := 74) C dJ7_numberOfTrailingZeros_64 (by decide) (fun c7 => ?_) (fun c7 => ?_)
  · have h := h.1 c7
    exact t_J7_numberOfTrailingZeros_b74 hd C hn x0 x1 h
  · have h := h.2 c7
    refine X_iinc (v := (x1 + 2)) C (j := 1) dJ7_numberOfTrailingZeros_67 rfl rfl (lo2 := [(1, _), (0, _)]) (by decide) rfl ?_
    refine X_iload_n C dJ7_numberOfTrailingZeros_70 rfl 1 rfl ?_
    refine X_iconst (v := 2) C dJ7_numberOfTrailingZeros_71 rfl ?_
    refine X_iushr C dJ7_numberOfTrailingZeros_72 ?_
    refine X_topi (fun v8 e9 => ?_)
    have h := h v8 e9
    refine X_istore_n C dJ7_numberOfTrailingZeros_73 rfl (lo2 := [(0, _), (1, _)]) (by decide) rfl ?_
    exact t_J7_numberOfTrailingZeros_b74 hd C hn v8 (x1 + 2) h
def w_J7_numberOfTrailingZeros_b49 (Φ : Int32 → Prop) (x0 : Int32) (x1 : Int32) : Prop := ((x0 ≤ 16) → w_J7_numberOfTrailingZeros_b62 Φ x0 x1) ∧ ((¬ x0 ≤ 16) → ∀ v10 : Int32, v10 = ((x0.toUInt32 >>> ((4 : Int32).toUInt32 &&& Int32.toUInt32 31)).toInt32) → w_J7_numberOfTrailingZeros_b62 Φ v10 (x1 + 4))
theorem t_J7_numberOfTrailingZeros_b49 {θ : Th} {κ : Kx} {Ph : Ph} {st0 : St} {d : Nat} (hd : 0 ≤ d) (C : Cx θ κ yJ7_numberOfTrailingZeros cJ7_numberOfTrailingZeros 2 (some Jvm.ClassFile.FieldType.int) [] d) {Φ : Int32 → Prop} (hn : ∀ r, Φ r → Ph.1 st0 (some (.int r))) (x0 : Int32) (x1 : Int32) (h : w_J7_numberOfTrailingZeros_b49 Φ x0 x1) : X θ κ Ph st0 49 [(0, .int x0), (1, .int x1)] [] := by
  unfold w_J7_numberOfTrailingZeros_b49 at h
  refine X_iload_n C dJ7_numberOfTrailingZeros_49 rfl 0 rfl ?_
  refine X_bipush (v := 16) C dJ7_numberOfTrailingZeros_50 rfl ?_
  refine X_icmp_le (tgt := 62) C dJ7_numberOfTrailingZeros_52 (by decide) (fun c6 => ?_) (fun c6 => ?_)
  · have h := h.1 c6
    exact t_J7_numberOfTrailingZeros_b62 hd C hn x0 x1 h
  · have h := h.2 c6
    refine X_iinc (v := (x1 + 4)) C (j := 1) dJ7_numberOfTrailingZeros_55 rfl rfl (lo2 := [(1, _), (0, _)]) (by decide) rfl ?_
    refine X_iload_n C dJ7_numberOfTrailingZeros_58 rfl 1 rfl ?_
    refine X_iconst (v := 4) C dJ7_numberOfTrailingZeros_59 rfl ?_
    refine X_iushr C dJ7_numberOfTrailingZeros_60 ?_
    refine X_topi (fun v10 e11 => ?_)
    have h := h v10 e11
    refine X_istore_n C dJ7_numberOfTrailingZeros_61 rfl (lo2 := [(0, _), (1, _)]) (by decide) rfl ?_
    exact t_J7_numberOfTrailingZeros_b62 hd C hn v10 (x1 + 4) h
def w_J7_numberOfTrailingZeros_b34 (Φ : Int32 → Prop) (x0 : Int32) (x1 : Int32) : Prop := ((x0 ≤ 256) → w_J7_numberOfTrailingZeros_b49 Φ x0 x1) ∧ ((¬ x0 ≤ 256) → ∀ v12 : Int32, v12 = ((x0.toUInt32 >>> ((8 : Int32).toUInt32 &&& Int32.toUInt32 31)).toInt32) → w_J7_numberOfTrailingZeros_b49 Φ v12 (x1 + 8))
theorem t_J7_numberOfTrailingZeros_b34 {θ : Th} {κ : Kx} {Ph : Ph} {st0 : St} {d : Nat} (hd : 0 ≤ d) (C : Cx θ κ yJ7_numberOfTrailingZeros cJ7_numberOfTrailingZeros 2 (some Jvm.ClassFile.FieldType.int) [] d) {Φ : Int32 → Prop} (hn : ∀ r, Φ r → Ph.1 st0 (some (.int r))) (x0 : Int32) (x1 : Int32) (h : w_J7_numberOfTrailingZeros_b34 Φ x0 x1) : X θ κ Ph st0 34 [(0, .int x0), (1, .int x1)] [] := by
  unfold w_J7_numberOfTrailingZeros_b34 at h
  refine X_iload_n C dJ7_numberOfTrailingZeros_34 rfl 0 rfl ?_
  refine X_sipush (v := 256) C dJ7_numberOfTrailingZeros_35 rfl ?_
  refine X_icmp_le (tgt := 49) C dJ7_numberOfTrailingZeros_38 (by decide) (fun c5 => ?_) (fun c5 => ?_)
  · have h := h.1 c5
    exact t_J7_numberOfTrailingZeros_b49 hd C hn x0 x1 h
  · have h := h.2 c5
    refine X_iinc (v := (x1 + 8)) C (j := 1) dJ7_numberOfTrailingZeros_41 rfl rfl (lo2 := [(1, _), (0, _)]) (by decide) rfl ?_
    refine X_iload_n C dJ7_numberOfTrailingZeros_44 rfl 1 rfl ?_
    refine X_bipush (v := 8) C dJ7_numberOfTrailingZeros_45 rfl ?_
    refine X_iushr C dJ7_numberOfTrailingZeros_47 ?_
    refine X_topi (fun v12 e13 => ?_)
    have h := h v12 e13
    refine X_istore_n C dJ7_numberOfTrailingZeros_48 rfl (lo2 := [(0, _), (1, _)]) (by decide) rfl ?_
    exact t_J7_numberOfTrailingZeros_b49 hd C hn v12 (x1 + 8) h
def w_J7_numberOfTrailingZeros (p1 : Int32) (Φ : Int32 → Prop) : Prop := ∀ v1 : Int32, v1 = ((p1 ^^^ (-1)) &&& (p1 - 1)) → ((0 < v1) → ((v1 ≤ 65536) → w_J7_numberOfTrailingZeros_b34 Φ v1 1) ∧ ((¬ v1 ≤ 65536) → ∀ v14 : Int32, v14 = ((v1.toUInt32 >>> ((16 : Int32).toUInt32 &&& Int32.toUInt32 31)).toInt32) → w_J7_numberOfTrailingZeros_b34 Φ v14 17)) ∧ ((¬ 0 < v1) → Φ (v1 &&& 32))
theorem nm_J7_numberOfTrailingZeros : yJ7_numberOfTrailingZeros.cls ≠ "java/lang/invoke/MethodHandle" ∧ yJ7_numberOfTrailingZeros.cls ≠ "java/lang/invoke/VarHandle" ∧ (parseMethodDescriptor yJ7_numberOfTrailingZeros.desc).map (fun d => d.parameters.length) = some 1 := by decide +kernel
theorem e_J7_numberOfTrailingZeros : plainFor yJ7_numberOfTrailingZeros = true := plainFor_of_name (by decide +kernel)
theorem m_J7_numberOfTrailingZeros {θ : Th} {l : Launch} (hl0 : l.stackTraces = false) {d : Nat} (hd : 0 ≤ d) (st0 : St) (p1 : Int32) {Φ : Int32 → Prop} (h : w_J7_numberOfTrailingZeros p1 Φ) : Ct θ l yJ7_numberOfTrailingZeros (ws_ yJ7_numberOfTrailingZeros cJ7_numberOfTrailingZeros 2 (some Jvm.ClassFile.FieldType.int)) d [.int p1] st0 (rI st0 Φ, noX) := by
  refine Ct_entry hl0 e_J7_numberOfTrailingZeros (Nat.le_of_ble_eq_true rfl) (fun κ hκ _ C => ?_)
  have hn : ∀ r, Φ r → ((rI st0 Φ, noX) : Ph).1 st0 (some (.int r)) := fun r q => ⟨r, rfl, rfl, q⟩
  change X _ _ _ _ _ [(0, .int p1)] _
  unfold w_J7_numberOfTrailingZeros at h
  refine X_iload_n C dJ7_numberOfTrailingZeros_0 rfl 0 rfl ?_
  refine X_iconst (v := (-1)) C dJ7_numberOfTrailingZeros_1 rfl ?_
  refine X_ixor C dJ7_numberOfTrailingZeros_2 ?_
  refine X_iload_n C dJ7_numberOfTrailingZeros_3 rfl 0 rfl ?_
  refine X_iconst (v := 1) C dJ7_numberOfTrailingZeros_4 rfl ?_
  refine X_isub C dJ7_numberOfTrailingZeros_5 ?_
  refine X_iand C dJ7_numberOfTrailingZeros_6 ?_
  refine X_topi (fun v1 e2 => ?_)
  have h := h v1 e2
  refine X_istore_n C dJ7_numberOfTrailingZeros_7 rfl (lo2 := [(0, _)]) (by decide) rfl ?_
  refine X_iload_n C dJ7_numberOfTrailingZeros_8 rfl 0 rfl ?_
  refine X_if_gt (tgt := 17) C dJ7_numberOfTrailingZeros_9 (by decide) (fun c3 => ?_) (fun c3 => ?_)
  · have h := h.1 c3
    refine X_iconst (v := 1) C dJ7_numberOfTrailingZeros_17 rfl ?_
    refine X_istore_n C dJ7_numberOfTrailingZeros_18 rfl (lo2 := [(1, _), (0, _)]) (by decide) rfl ?_
    refine X_iload_n C dJ7_numberOfTrailingZeros_19 rfl 1 rfl ?_
    refine X_ldcw C q679 dJ7_numberOfTrailingZeros_20 ?_
    refine X_icmp_le (tgt := 34) C dJ7_numberOfTrailingZeros_23 (by decide) (fun c4 => ?_) (fun c4 => ?_)
    · have h := h.1 c4
      refine X_sub [1, 0] (lo2 := [(0, _), (1, _)]) rfl ?_
      exact t_J7_numberOfTrailingZeros_b34 hd C hn v1 1 h
    · have h := h.2 c4
      refine X_iinc (v := 17) C (j := 0) dJ7_numberOfTrailingZeros_26 rfl rfl (lo2 := [(1, _), (0, _)]) (by decide) rfl ?_
      refine X_iload_n C dJ7_numberOfTrailingZeros_29 rfl 1 rfl ?_
      refine X_bipush (v := 16) C dJ7_numberOfTrailingZeros_30 rfl ?_
      refine X_iushr C dJ7_numberOfTrailingZeros_32 ?_
      refine X_topi (fun v14 e15 => ?_)
      have h := h v14 e15
      refine X_istore_n C dJ7_numberOfTrailingZeros_33 rfl (lo2 := [(0, _), (1, _)]) (by decide) rfl ?_
      exact t_J7_numberOfTrailingZeros_b34 hd C hn v14 17 h
  · have h := h.2 c3
    refine X_iload_n C dJ7_numberOfTrailingZeros_12 rfl 0 rfl ?_
    refine X_bipush (v := 32) C dJ7_numberOfTrailingZeros_13 rfl ?_
    refine X_iand C dJ7_numberOfTrailingZeros_15 ?_
    exact X_iret C rfl dJ7_numberOfTrailingZeros_16 (hn _ h)

def w_J7_bitCount (p1 : Int32) (Φ : Int32 → Prop) : Prop := ∀ v1 : Int32, v1 = (p1 - (((p1.toUInt32 >>> ((1 : Int32).toUInt32 &&& Int32.toUInt32 31)).toInt32) &&& 1431655765)) → ∀ v3 : Int32, v3 = ((v1 &&& 858993459) + (((v1.toUInt32 >>> ((2 : Int32).toUInt32 &&& Int32.toUInt32 31)).toInt32) &&& 858993459)) → ∀ v5 : Int32, v5 = ((v3 + ((v3.toUInt32 >>> ((4 : Int32).toUInt32 &&& Int32.toUInt32 31)).toInt32)) &&& 252645135) → ∀ v7 : Int32, v7 = (v5 + ((v5.toUInt32 >>> ((8 : Int32).toUInt32 &&& Int32.toUInt32 31)).toInt32)) → ∀ v9 : Int32, v9 = (v7 + ((v7.toUInt32 >>> ((16 : Int32).toUInt32 &&& Int32.toUInt32 31)).toInt32)) → Φ (v9 &&& 63)
theorem nm_J7_bitCount : yJ7_bitCount.cls ≠ "java/lang/invoke/MethodHandle" ∧ yJ7_bitCount.cls ≠ "java/lang/invoke/VarHandle" ∧ (parseMethodDescriptor yJ7_bitCount.desc).map (fun d => d.parameters.length) = some 1 := by decide +kernel
theorem e_J7_bitCount : plainFor yJ7_bitCount = true := plainFor_of_name (by decide +kernel)
theorem m_J7_bitCount {θ : Th} {l : Launch} (hl0 : l.stackTraces = false) {d : Nat} (hd : 0 ≤ d) (st0 : St) (p1 : Int32) {Φ : Int32 → Prop} (h : w_J7_bitCount p1 Φ) : Ct θ l yJ7_bitCount (ws_ yJ7_bitCount cJ7_bitCount 1 (some Jvm.ClassFile.FieldType.int)) d [.int p1] st0 (rI st0 Φ, noX) := by
  refine Ct_entry hl0 e_J7_bitCount (Nat.le_of_ble_eq_true rfl) (fun κ hκ _ C => ?_)
  have hn : ∀ r, Φ r → ((rI st0 Φ, noX) : Ph).1 st0 (some (.int r)) := fun r q => ⟨r, rfl, rfl, q⟩
  change X _ _ _ _ _ [(0, .int p1)] _
  unfold w_J7_bitCount at h
  refine X_iload_n C dJ7_bitCount_0 rfl 0 rfl ?_
  refine X_iload_n C dJ7_bitCount_1 rfl 0 rfl ?_
  refine X_iconst (v := 1) C dJ7_bitCount_2 rfl ?_
  refine X_iushr C dJ7_bitCount_3 ?_
  refine X_ldcw C q695 dJ7_bitCount_4 ?_
  refine X_iand C dJ7_bitCount_7 ?_
  refine X_isub C dJ7_bitCount_8 ?_
  refine X_topi (fun v1 e2 => ?_)
  have h := h v1 e2
  refine X_istore_n C dJ7_bitCount_9 rfl (lo2 := [(0, _)]) (by decide) rfl ?_
  refine X_iload_n C dJ7_bitCount_10 rfl 0 rfl ?_
  refine X_ldcw C q696 dJ7_bitCount_11 ?_
  refine X_iand C dJ7_bitCount_14 ?_
  refine X_iload_n C dJ7_bitCount_15 rfl 0 rfl ?_
  refine X_iconst (v := 2) C dJ7_bitCount_16 rfl ?_
  refine X_iushr C dJ7_bitCount_17 ?_
  refine X_ldcw C q696 dJ7_bitCount_18 ?_
  refine X_iand C dJ7_bitCount_21 ?_
  refine X_iadd C dJ7_bitCount_22 ?_
  refine X_topi (fun v3 e4 => ?_)
  have h := h v3 e4
  refine X_istore_n C dJ7_bitCount_23 rfl (lo2 := [(0, _)]) (by decide) rfl ?_
  refine X_iload_n C dJ7_bitCount_24 rfl 0 rfl ?_
  refine X_iload_n C dJ7_bitCount_25 rfl 0 rfl ?_
  refine X_iconst (v := 4) C dJ7_bitCount_26 rfl ?_
  refine X_iushr C dJ7_bitCount_27 ?_
  refine X_iadd C dJ7_bitCount_28 ?_
  refine X_ldcw C q697 dJ7_bitCount_29 ?_
  refine X_iand C dJ7_bitCount_32 ?_
  refine X_topi (fun v5 e6 => ?_)
  have h := h v5 e6
  refine X_istore_n C dJ7_bitCount_33 rfl (lo2 := [(0, _)]) (by decide) rfl ?_
  refine X_iload_n C dJ7_bitCount_34 rfl 0 rfl ?_
  refine X_iload_n C dJ7_bitCount_35 rfl 0 rfl ?_
  refine X_bipush (v := 8) C dJ7_bitCount_36 rfl ?_
  refine X_iushr C dJ7_bitCount_38 ?_
  refine X_iadd C dJ7_bitCount_39 ?_
  refine X_topi (fun v7 e8 => ?_)
  have h := h v7 e8
  refine X_istore_n C dJ7_bitCount_40 rfl (lo2 := [(0, _)]) (by decide) rfl ?_
  refine X_iload_n C dJ7_bitCount_41 rfl 0 rfl ?_
  refine X_iload_n C dJ7_bitCount_42 rfl 0 rfl ?_
  refine X_bipush (v := 16) C dJ7_bitCount_43 rfl ?_
  refine X_iushr C dJ7_bitCount_45 ?_
  refine X_iadd C dJ7_bitCount_46 ?_
  refine X_topi (fun v9 e10 => ?_)
  have h := h v9 e10
  refine X_istore_n C dJ7_bitCount_47 rfl (lo2 := [(0, _)]) (by decide) rfl ?_
  refine X_iload_n C dJ7_bitCount_48 rfl 0 rfl ?_
  refine X_bipush (v := 63) C dJ7_bitCount_49 rfl ?_
  refine X_iand C dJ7_bitCount_51 ?_
  exact X_iret C rfl dJ7_bitCount_52 (hn _ h)

def w_J7_stringSize_l16 (Φ : Int32 → Prop) (E27 : Int32 → Int32 → Prop) (E42 : Int32 → Prop) : Nat → Int32 → Int32 → Int32 → Int32 → Prop
  | 0, _, _, _, _ => False
  | n + 1, x0, x1, x2, x3 => ((10 ≤ x3) → E42 x1) ∧ ((¬ 10 ≤ x3) → ((x0 ≤ x2) → ∀ v4 : Int32, v4 = (10 * x2) → w_J7_stringSize_l16 Φ E27 E42 n x0 x1 v4 (x3 + 1)) ∧ ((¬ x0 ≤ x2) → E27 x1 x3))
theorem t_J7_stringSize_l16 {θ : Th} {κ : Kx} {Ph : Ph} {st0 : St} {d : Nat} (hd : 0 ≤ d) (C : Cx θ κ yJ7_stringSize cJ7_stringSize 4 (some Jvm.ClassFile.FieldType.int) [] d) {Φ : Int32 → Prop} (hn : ∀ r, Φ r → Ph.1 st0 (some (.int r))) {E27 : Int32 → Int32 → Prop} {E42 : Int32 → Prop} (hE27 : ∀ (x1 : Int32) (x3 : Int32), E27 x1 x3 → X θ κ Ph st0 27 [(1, .int x1), (3, .int x3)] []) (hE42 : ∀ (x1 : Int32), E42 x1 → X θ κ Ph st0 42 [(1, .int x1)] []) : ∀ (n : Nat) (x0 : Int32) (x1 : Int32) (x2 : Int32) (x3 : Int32), w_J7_stringSize_l16 Φ E27 E42 n x0 x1 x2 x3 → X θ κ Ph st0 16 [(0, .int x0), (1, .int x1), (2, .int x2), (3, .int x3)] [] := by
  intro n
  induction n with
  | zero => intro x0 x1 x2 x3 h; exact h.elim
  | succ n hK16 =>
    intro x0 x1 x2 x3 h
    rw [w_J7_stringSize_l16] at h
    refine X_iload_n C dJ7_stringSize_16 rfl 3 rfl ?_
    refine X_bipush (v := 10) C dJ7_stringSize_17 rfl ?_
    refine X_icmp_ge (tgt := 42) C dJ7_stringSize_19 (by decide) (fun c2 => ?_) (fun c2 => ?_)
    · have h := h.1 c2
      refine X_sub [1] (lo2 := [(1, _)]) rfl ?_
      exact hE42 x1 h
    · have h := h.2 c2
      refine X_iload_n C dJ7_stringSize_22 rfl 0 rfl ?_
      refine X_iload_n C dJ7_stringSize_23 rfl 2 rfl ?_
      refine X_icmp_le (tgt := 31) C dJ7_stringSize_24 (by decide) (fun c3 => ?_) (fun c3 => ?_)
      · have h := h.1 c3
        refine X_bipush (v := 10) C dJ7_stringSize_31 rfl ?_
        refine X_iload_n C dJ7_stringSize_33 rfl 2 rfl ?_
        refine X_imul C dJ7_stringSize_34 ?_
        refine X_topi (fun v4 e5 => ?_)
        have h := h v4 e5
        refine X_istore_n C dJ7_stringSize_35 rfl (lo2 := [(2, _), (0, _), (1, _), (3, _)]) (by decide) rfl ?_
        refine X_iinc (v := (x3 + 1)) C (j := 3) dJ7_stringSize_36 rfl rfl (lo2 := [(3, _), (2, _), (0, _), (1, _)]) (by decide) rfl ?_
        refine X_goto (tgt := 16) C dJ7_stringSize_39 (by decide) ?_
        refine X_sub [2, 3, 1, 0] (lo2 := [(0, _), (1, _), (2, _), (3, _)]) rfl ?_
        exact hK16 x0 x1 v4 (x3 + 1) h
      · have h := h.2 c3
        refine X_sub [1, 3] (lo2 := [(1, _), (3, _)]) rfl ?_
        exact hE27 x1 x3 h
def w_J7_stringSize_b27 (Φ : Int32 → Prop) (x1 : Int32) (x3 : Int32) : Prop := Φ (x3 + x1)
theorem t_J7_stringSize_b27 {θ : Th} {κ : Kx} {Ph : Ph} {st0 : St} {d : Nat} (hd : 0 ≤ d) (C : Cx θ κ yJ7_stringSize cJ7_stringSize 4 (some Jvm.ClassFile.FieldType.int) [] d) {Φ : Int32 → Prop} (hn : ∀ r, Φ r → Ph.1 st0 (some (.int r))) (x1 : Int32) (x3 : Int32) (h : w_J7_stringSize_b27 Φ x1 x3) : X θ κ Ph st0 27 [(1, .int x1), (3, .int x3)] [] := by
  unfold w_J7_stringSize_b27 at h
  refine X_iload_n C dJ7_stringSize_27 rfl 1 rfl ?_
  refine X_iload_n C dJ7_stringSize_28 rfl 0 rfl ?_
  refine X_iadd C dJ7_stringSize_29 ?_
  exact X_iret C rfl dJ7_stringSize_30 (hn _ h)
def w_J7_stringSize_b42 (Φ : Int32 → Prop) (x1 : Int32) : Prop := Φ (10 + x1)
theorem t_J7_stringSize_b42 {θ : Th} {κ : Kx} {Ph : Ph} {st0 : St} {d : Nat} (hd : 0 ≤ d) (C : Cx θ κ yJ7_stringSize cJ7_stringSize 4 (some Jvm.ClassFile.FieldType.int) [] d) {Φ : Int32 → Prop} (hn : ∀ r, Φ r → Ph.1 st0 (some (.int r))) (x1 : Int32) (h : w_J7_stringSize_b42 Φ x1) : X θ κ Ph st0 42 [(1, .int x1)] [] := by
  unfold w_J7_stringSize_b42 at h
  refine X_bipush (v := 10) C dJ7_stringSize_42 rfl ?_
  refine X_iload_n C dJ7_stringSize_44 rfl 0 rfl ?_
  refine X_iadd C dJ7_stringSize_45 ?_
  exact X_iret C rfl dJ7_stringSize_46 (hn _ h)
def w_J7_stringSize_b11 (Φ : Int32 → Prop) (x0 : Int32) (x1 : Int32) : Prop := w_J7_stringSize_l16 Φ (fun (x1 : Int32) (x3 : Int32) => w_J7_stringSize_b27 Φ x1 x3) (fun (x1 : Int32) => w_J7_stringSize_b42 Φ x1) gFU x0 x1 (-10) 1
theorem t_J7_stringSize_b11 {θ : Th} {κ : Kx} {Ph : Ph} {st0 : St} {d : Nat} (hd : 0 ≤ d) (C : Cx θ κ yJ7_stringSize cJ7_stringSize 4 (some Jvm.ClassFile.FieldType.int) [] d) {Φ : Int32 → Prop} (hn : ∀ r, Φ r → Ph.1 st0 (some (.int r))) (x0 : Int32) (x1 : Int32) (h : w_J7_stringSize_b11 Φ x0 x1) : X θ κ Ph st0 11 [(0, .int x0), (1, .int x1)] [] := by
  unfold w_J7_stringSize_b11 at h
  refine X_bipush (v := (-10)) C dJ7_stringSize_11 rfl ?_
  refine X_istore_n C dJ7_stringSize_13 rfl (lo2 := [(2, _), (0, _), (1, _)]) (by decide) rfl ?_
  refine X_iconst (v := 1) C dJ7_stringSize_14 rfl ?_
  refine X_istore_n C dJ7_stringSize_15 rfl (lo2 := [(3, _), (2, _), (0, _), (1, _)]) (by decide) rfl ?_
  refine X_sub [2, 3, 1, 0] (lo2 := [(0, _), (1, _), (2, _), (3, _)]) rfl ?_
  refine t_J7_stringSize_l16 hd C hn ?_ ?_ gFU x0 x1 (-10) 1 h
  · intro x1 x3 h
    exact t_J7_stringSize_b27 hd C hn x1 x3 h
  · intro x1 h
    exact t_J7_stringSize_b42 hd C hn x1 h
def w_J7_stringSize (p1 : Int32) (Φ : Int32 → Prop) : Prop := ((p1 < 0) → w_J7_stringSize_b11 Φ p1 1) ∧ ((¬ p1 < 0) → ∀ v6 : Int32, v6 = (-p1) → w_J7_stringSize_b11 Φ v6 0)
theorem nm_J7_stringSize : yJ7_stringSize.cls ≠ "java/lang/invoke/MethodHandle" ∧ yJ7_stringSize.cls ≠ "java/lang/invoke/VarHandle" ∧ (parseMethodDescriptor yJ7_stringSize.desc).map (fun d => d.parameters.length) = some 1 := by decide +kernel
theorem e_J7_stringSize : plainFor yJ7_stringSize = true := plainFor_of_name (by decide +kernel)
theorem m_J7_stringSize {θ : Th} {l : Launch} (hl0 : l.stackTraces = false) {d : Nat} (hd : 0 ≤ d) (st0 : St) (p1 : Int32) {Φ : Int32 → Prop} (h : w_J7_stringSize p1 Φ) : Ct θ l yJ7_stringSize (ws_ yJ7_stringSize cJ7_stringSize 4 (some Jvm.ClassFile.FieldType.int)) d [.int p1] st0 (rI st0 Φ, noX) := by
  refine Ct_entry hl0 e_J7_stringSize (Nat.le_of_ble_eq_true rfl) (fun κ hκ _ C => ?_)
  have hn : ∀ r, Φ r → ((rI st0 Φ, noX) : Ph).1 st0 (some (.int r)) := fun r q => ⟨r, rfl, rfl, q⟩
  change X _ _ _ _ _ [(0, .int p1)] _
  unfold w_J7_stringSize at h
  refine X_iconst (v := 1) C dJ7_stringSize_0 rfl ?_
  refine X_istore_n C dJ7_stringSize_1 rfl (lo2 := [(1, _), (0, _)]) (by decide) rfl ?_
  refine X_iload_n C dJ7_stringSize_2 rfl 1 rfl ?_
  refine X_if_lt (tgt := 11) C dJ7_stringSize_3 (by decide) (fun c1 => ?_) (fun c1 => ?_)
  · have h := h.1 c1
    refine X_sub [1, 0] (lo2 := [(0, _), (1, _)]) rfl ?_
    exact t_J7_stringSize_b11 hd C hn p1 1 h
  · have h := h.2 c1
    refine X_iconst (v := 0) C dJ7_stringSize_6 rfl ?_
    refine X_istore_n C dJ7_stringSize_7 rfl (lo2 := [(1, _), (0, _)]) (by decide) rfl ?_
    refine X_iload_n C dJ7_stringSize_8 rfl 1 rfl ?_
    refine X_ineg C dJ7_stringSize_9 ?_
    refine X_topi (fun v6 e7 => ?_)
    have h := h v6 e7
    refine X_istore_n C dJ7_stringSize_10 rfl (lo2 := [(0, _), (1, _)]) (by decide) rfl ?_
    exact t_J7_stringSize_b11 hd C hn v6 0 h

def w_J17_stringSize_l20 (Φ : Int32 → Prop) (E33 : Int32 → Int32 → Prop) (E50 : Int32 → Prop) : Nat → Int64 → Int32 → Int64 → Int32 → Prop
  | 0, _, _, _, _ => False
  | n + 1, x0, x2, x3, x5 => ((19 ≤ x5) → E50 x2) ∧ ((¬ 19 ≤ x5) → ((x0 ≤ x3) → ∀ v4 : Int64, v4 = (10 * x3) → w_J17_stringSize_l20 Φ E33 E50 n x0 x2 v4 (x5 + 1)) ∧ ((¬ x0 ≤ x3) → E33 x2 x5))
theorem t_J17_stringSize_l20 {θ : Th} {κ : Kx} {Ph : Ph} {st0 : St} {d : Nat} (hd : 0 ≤ d) (C : Cx θ κ yJ17_stringSize cJ17_stringSize 6 (some Jvm.ClassFile.FieldType.int) [] d) {Φ : Int32 → Prop} (hn : ∀ r, Φ r → Ph.1 st0 (some (.int r))) {E33 : Int32 → Int32 → Prop} {E50 : Int32 → Prop} (hE33 : ∀ (x2 : Int32) (x5 : Int32), E33 x2 x5 → X θ κ Ph st0 33 [(2, .int x2), (5, .int x5)] []) (hE50 : ∀ (x2 : Int32), E50 x2 → X θ κ Ph st0 50 [(2, .int x2)] []) : ∀ (n : Nat) (x0 : Int64) (x2 : Int32) (x3 : Int64) (x5 : Int32), w_J17_stringSize_l20 Φ E33 E50 n x0 x2 x3 x5 → X θ κ Ph st0 20 [(0, .long x0), (2, .int x2), (3, .long x3), (5, .int x5)] [] := by
  intro n
  induction n with
  | zero => intro x0 x2 x3 x5 h; exact h.elim
  | succ n hK20 =>
    intro x0 x2 x3 x5 h
    rw [w_J17_stringSize_l20] at h
    refine X_iload C dJ17_stringSize_20 3 rfl ?_
    refine X_bipush (v := 19) C dJ17_stringSize_22 rfl ?_
    refine X_icmp_ge (tgt := 50) C dJ17_stringSize_24 (by decide) (fun c2 => ?_) (fun c2 => ?_)
    · have h := h.1 c2
      refine X_sub [1] (lo2 := [(2, _)]) rfl ?_
      exact hE50 x2 h
    · have h := h.2 c2
      refine X_lload_n C dJ17_stringSize_27 rfl 0 rfl ?_
      refine X_lload_n C dJ17_stringSize_28 rfl 2 rfl ?_
      refine X_lcmp_le (tgt := 38) C dJ17_stringSize_29 dJ17_stringSize_30 (by decide) (fun c3 => ?_) (fun c3 => ?_)
      · have h := h.1 c3
        refine X_ldc2 C q1562 dJ17_stringSize_38 ?_
        refine X_lload_n C dJ17_stringSize_41 rfl 2 rfl ?_
        refine X_lmul C dJ17_stringSize_42 ?_
        refine X_topl (fun v4 e5 => ?_)
        have h := h v4 e5
        refine X_lstore_n C dJ17_stringSize_43 rfl (lo2 := [(3, _), (0, _), (2, _), (5, _)]) (by decide) rfl ?_
        refine X_iinc (v := (x5 + 1)) C (j := 3) dJ17_stringSize_44 rfl rfl (lo2 := [(5, _), (3, _), (0, _), (2, _)]) (by decide) rfl ?_
        refine X_goto (tgt := 20) C dJ17_stringSize_47 (by decide) ?_
        refine X_sub [2, 3, 1, 0] (lo2 := [(0, _), (2, _), (3, _), (5, _)]) rfl ?_
        exact hK20 x0 x2 v4 (x5 + 1) h
      · have h := h.2 c3
        refine X_sub [1, 3] (lo2 := [(2, _), (5, _)]) rfl ?_
        exact hE33 x2 x5 h
def w_J17_stringSize_b33 (Φ : Int32 → Prop) (x2 : Int32) (x5 : Int32) : Prop := Φ (x5 + x2)
theorem t_J17_stringSize_b33 {θ : Th} {κ : Kx} {Ph : Ph} {st0 : St} {d : Nat} (hd : 0 ≤ d) (C : Cx θ κ yJ17_stringSize cJ17_stringSize 6 (some Jvm.ClassFile.FieldType.int) [] d) {Φ : Int32 → Prop} (hn : ∀ r, Φ r → Ph.1 st0 (some (.int r))) (x2 : Int32) (x5 : Int32) (h : w_J17_stringSize_b33 Φ x2 x5) : X θ κ Ph st0 33 [(2, .int x2), (5, .int x5)] [] := by
  unfold w_J17_stringSize_b33 at h
  refine X_iload C dJ17_stringSize_33 1 rfl ?_
  refine X_iload_n C dJ17_stringSize_35 rfl 0 rfl ?_
  refine X_iadd C dJ17_stringSize_36 ?_
  exact X_iret C rfl dJ17_stringSize_37 (hn _ h)
def w_J17_stringSize_b50 (Φ : Int32 → Prop) (x2 : Int32) : Prop := Φ (19 + x2)
theorem t_J17_stringSize_b50 {θ : Th} {κ : Kx} {Ph : Ph} {st0 : St} {d : Nat} (hd : 0 ≤ d) (C : Cx θ κ yJ17_stringSize cJ17_stringSize 6 (some Jvm.ClassFile.FieldType.int) [] d) {Φ : Int32 → Prop} (hn : ∀ r, Φ r → Ph.1 st0 (some (.int r))) (x2 : Int32) (h : w_J17_stringSize_b50 Φ x2) : X θ κ Ph st0 50 [(2, .int x2)] [] := by
  unfold w_J17_stringSize_b50 at h
  refine X_bipush (v := 19) C dJ17_stringSize_50 rfl ?_
  refine X_iload_n C dJ17_stringSize_52 rfl 0 rfl ?_
  refine X_iadd C dJ17_stringSize_53 ?_
  exact X_iret C rfl dJ17_stringSize_54 (hn _ h)
def w_J17_stringSize_b13 (Φ : Int32 → Prop) (x0 : Int64) (x2 : Int32) : Prop := w_J17_stringSize_l20 Φ (fun (x2 : Int32) (x5 : Int32) => w_J17_stringSize_b33 Φ x2 x5) (fun (x2 : Int32) => w_J17_stringSize_b50 Φ x2) gFU x0 x2 (-10) 1
theorem t_J17_stringSize_b13 {θ : Th} {κ : Kx} {Ph : Ph} {st0 : St} {d : Nat} (hd : 0 ≤ d) (C : Cx θ κ yJ17_stringSize cJ17_stringSize 6 (some Jvm.ClassFile.FieldType.int) [] d) {Φ : Int32 → Prop} (hn : ∀ r, Φ r → Ph.1 st0 (some (.int r))) (x0 : Int64) (x2 : Int32) (h : w_J17_stringSize_b13 Φ x0 x2) : X θ κ Ph st0 13 [(0, .long x0), (2, .int x2)] [] := by
  unfold w_J17_stringSize_b13 at h
  refine X_ldc2 C q1561 dJ17_stringSize_13 ?_
  refine X_lstore_n C dJ17_stringSize_16 rfl (lo2 := [(3, _), (0, _), (2, _)]) (by decide) rfl ?_
  refine X_iconst (v := 1) C dJ17_stringSize_17 rfl ?_
  refine X_istore C dJ17_stringSize_18 (lo2 := [(5, _), (3, _), (0, _), (2, _)]) (by decide) rfl ?_
  refine X_sub [2, 3, 1, 0] (lo2 := [(0, _), (2, _), (3, _), (5, _)]) rfl ?_
  refine t_J17_stringSize_l20 hd C hn ?_ ?_ gFU x0 x2 (-10) 1 h
  · intro x2 x5 h
    exact t_J17_stringSize_b33 hd C hn x2 x5 h
  · intro x2 h
    exact t_J17_stringSize_b50 hd C hn x2 h
def w_J17_stringSize (p1 : Int64) (Φ : Int32 → Prop) : Prop := ((p1 < 0) → w_J17_stringSize_b13 Φ p1 1) ∧ ((¬ p1 < 0) → ∀ v6 : Int64, v6 = (-p1) → w_J17_stringSize_b13 Φ v6 0)
theorem nm_J17_stringSize : yJ17_stringSize.cls ≠ "java/lang/invoke/MethodHandle" ∧ yJ17_stringSize.cls ≠ "java/lang/invoke/VarHandle" ∧ (parseMethodDescriptor yJ17_stringSize.desc).map (fun d => d.parameters.length) = some 1 := by decide +kernel
theorem e_J17_stringSize : plainFor yJ17_stringSize = true := plainFor_of_name (by decide +kernel)
theorem m_J17_stringSize {θ : Th} {l : Launch} (hl0 : l.stackTraces = false) {d : Nat} (hd : 0 ≤ d) (st0 : St) (p1 : Int64) {Φ : Int32 → Prop} (h : w_J17_stringSize p1 Φ) : Ct θ l yJ17_stringSize (ws_ yJ17_stringSize cJ17_stringSize 6 (some Jvm.ClassFile.FieldType.int)) d [.long p1] st0 (rI st0 Φ, noX) := by
  refine Ct_entry hl0 e_J17_stringSize (Nat.le_of_ble_eq_true rfl) (fun κ hκ _ C => ?_)
  have hn : ∀ r, Φ r → ((rI st0 Φ, noX) : Ph).1 st0 (some (.int r)) := fun r q => ⟨r, rfl, rfl, q⟩
  change X _ _ _ _ _ [(0, .long p1)] _
  unfold w_J17_stringSize at h
  refine X_iconst (v := 1) C dJ17_stringSize_0 rfl ?_
  refine X_istore_n C dJ17_stringSize_1 rfl (lo2 := [(2, _), (0, _)]) (by decide) rfl ?_
  refine X_lload_n C dJ17_stringSize_2 rfl 1 rfl ?_
  refine X_lconst (v := 0) C dJ17_stringSize_3 rfl ?_
  refine X_lcmp_lt (tgt := 13) C dJ17_stringSize_4 dJ17_stringSize_5 (by decide) (fun c1 => ?_) (fun c1 => ?_)
  · have h := h.1 c1
    refine X_sub [1, 0] (lo2 := [(0, _), (2, _)]) rfl ?_
    exact t_J17_stringSize_b13 hd C hn p1 1 h
  · have h := h.2 c1
    refine X_iconst (v := 0) C dJ17_stringSize_8 rfl ?_
    refine X_istore_n C dJ17_stringSize_9 rfl (lo2 := [(2, _), (0, _)]) (by decide) rfl ?_
    refine X_lload_n C dJ17_stringSize_10 rfl 1 rfl ?_
    refine X_lneg C dJ17_stringSize_11 ?_
    refine X_topl (fun v6 e7 => ?_)
    have h := h v6 e7
    refine X_lstore_n C dJ17_stringSize_12 rfl (lo2 := [(0, _), (2, _)]) (by decide) rfl ?_
    exact t_J17_stringSize_b13 hd C hn v6 0 h

def w_J15_canEncode (p1 : Int32) (Φ : Int32 → Prop) : Prop := ((255 < p1) → Φ 0) ∧ ((¬ 255 < p1) → Φ 1)
theorem nm_J15_canEncode : yJ15_canEncode.cls ≠ "java/lang/invoke/MethodHandle" ∧ yJ15_canEncode.cls ≠ "java/lang/invoke/VarHandle" ∧ (parseMethodDescriptor yJ15_canEncode.desc).map (fun d => d.parameters.length) = some 1 := by decide +kernel
theorem e_J15_canEncode : plainFor yJ15_canEncode = true := plainFor_of_name (by decide +kernel)
theorem m_J15_canEncode {θ : Th} {l : Launch} (hl0 : l.stackTraces = false) (hX : LX θ) {d : Nat} (hd : 0 ≤ d) (st0 : St) (p1 : Int32) {Φ : Int32 → Prop} (h : w_J15_canEncode p1 Φ) : Ct θ l yJ15_canEncode (ws_ yJ15_canEncode cJ15_canEncode 1 (some Jvm.ClassFile.FieldType.boolean)) d [.int p1] st0 (rI st0 Φ, noX) := by
  refine Ct_entry hl0 e_J15_canEncode (Nat.le_of_ble_eq_true rfl) (fun κ hκ _ C => ?_)
  have hn : ∀ r, Φ r → ((rI st0 Φ, noX) : Ph).1 st0 (some (.int r)) := fun r q => ⟨r, rfl, rfl, q⟩
  change X _ _ _ _ _ [(0, .int p1)] _
  unfold w_J15_canEncode at h
  refine X_iload_n C dJ15_canEncode_0 rfl 0 rfl ?_
  refine X_sipush (v := 255) C dJ15_canEncode_1 rfl ?_
  refine X_icmp_gt (tgt := 11) C dJ15_canEncode_4 (by decide) (fun c1 => ?_) (fun c1 => ?_)
  · have h := h.1 c1
    refine X_iconst (v := 0) C dJ15_canEncode_11 rfl ?_
    exact X_zret C rfl rfl dJ15_canEncode_12 (hn _ h)
  · have h := h.2 c1
    refine X_iconst (v := 1) C dJ15_canEncode_7 rfl ?_
    refine X_goto (tgt := 12) C dJ15_canEncode_8 (by decide) ?_
    exact X_zret C rfl rfl dJ15_canEncode_12 (hn _ h)

def w_J0_init_2v6_b41 (Φ : St → Prop) (st : St) (x0 : Nat) (x1 : Option Nat) (x2 : Option Nat) (x3 : Int32) : Prop := ∀ s12, s12 = putR st x0 3 x1 → ∀ s14, s14 = putR s12 x0 0 x2 → ((x3 ≠ 0) → Φ s14) ∧ ((x3 = 0) → ∀ s17, s17 = putR s14 x0 2 none → Φ s17)
theorem t_J0_init_2v6_b41 {θ : Th} {κ : Kx} {Ph : Ph} (hX : LX θ) {d : Nat} (hd : 0 ≤ d) (C : Cx θ κ yJ0_init_2 cJ0_init_2 5 (none : Option Jvm.ClassFile.FieldType) [] d) {Φ : St → Prop} (hn : ∀ st, Φ st → Ph.1 st none) (st : St) (x0 : Nat) (x1 : Option Nat) (x2 : Option Nat) (x3 : Int32) (hs_x0 : sh st x0 = 6) (hb_x0 : x0 < gBIG) (h : w_J0_init_2v6_b41 Φ st x0 x1 x2 x3) : X θ κ Ph st 41 [(0, .ref (ad θ x0)), (1, rv θ x1), (2, rv θ x2), (3, .int x3)] [] := by
  unfold w_J0_init_2v6_b41 at h
  refine X_aload_n C dJ0_init_2_41 rfl 0 rfl (isRV_r _) ?_
  refine X_aload_n C dJ0_init_2_42 rfl 1 rfl (isRV_v _ _) ?_
  refine X_putR (v := x1) (ci := 5) (j := 3) (q := (RX5, TX5, 7)) C hX rfl (by decide) q494 rfl rfl dJ0_init_2_43 hb_x0 hs_x0 (by decide) (Or.inl ⟨_, rfl⟩) ?_
  refine X_nm (fun s12 e13 => ?_)
  have h := h s12 e13
  have hs_x0 : sh s12 x0 = 6 := by rw [e13]; exact hs_x0
  refine X_aload_n C dJ0_init_2_46 rfl 0 rfl (isRV_r _) ?_
  refine X_aload_n C dJ0_init_2_47 rfl 2 rfl (isRV_v _ _) ?_
  refine X_putR (v := x2) (ci := 5) (j := 0) (q := (RX5, TX5, 7)) C hX rfl (by decide) q495 rfl rfl dJ0_init_2_48 hb_x0 hs_x0 (by decide) (Or.inl ⟨_, rfl⟩) ?_
  refine X_nm (fun s14 e15 => ?_)
  have h := h s14 e15
  have hs_x0 : sh s14 x0 = 6 := by rw [e15]; exact hs_x0
  refine X_iload_n C dJ0_init_2_51 rfl 3 rfl ?_
  refine X_if_ne (tgt := 60) C dJ0_init_2_52 (by decide) (fun c16 => ?_) (fun c16 => ?_)
  · have h := h.1 c16
    exact X_vret C rfl dJ0_init_2_60 (hn s14 h)
  · have h := h.2 c16
    refine X_aload_n C dJ0_init_2_55 rfl 0 rfl (isRV_r _) ?_
    refine X_null C dJ0_init_2_56 ?_
    refine X_putR (v := none) (ci := 5) (j := 2) (q := (RX5, TX5, 7)) C hX rfl (by decide) q497 rfl rfl dJ0_init_2_57 hb_x0 hs_x0 (by decide) (Or.inl ⟨_, rfl⟩) ?_
    refine X_nm (fun s17 e18 => ?_)
    have h := h s17 e18
    have hs_x0 : sh s17 x0 = 6 := by rw [e18]; exact hs_x0
    exact X_vret C rfl dJ0_init_2_60 (hn s17 h)
def w_J0_init_2v6 (st : St) (a0 : Nat) (p1 : Option Nat) (p2 : Option Nat) (p3 : Int32) (p4 : Int32) (Φ : St → Prop) : Prop := ∀ s1, s1 = putR st a0 0 (some a0) → ∀ r3 : Option Nat, ∀ s4, s4 = putR s1 a0 1 r3 → ∀ r6 : Option Nat, ∀ s7, s7 = putR s4 a0 2 r6 → ((p4 = 0) → ∀ s10, s10 = putR s7 a0 1 none → w_J0_init_2v6_b41 Φ s10 a0 p1 p2 p3) ∧ ((¬ p4 = 0) → False)
theorem nm_J0_init_2 : yJ0_init_2.cls ≠ "java/lang/invoke/MethodHandle" ∧ yJ0_init_2.cls ≠ "java/lang/invoke/VarHandle" ∧ (parseMethodDescriptor yJ0_init_2.desc).map (fun d => d.parameters.length) = some 4 := by decide +kernel
theorem e_J0_init_2v6 : plainFor yJ0_init_2 = true := plainFor_of_name (by decide +kernel)
theorem m_J0_init_2v6 {θ : Th} {l : Launch} (hl0 : l.stackTraces = false) (hX : LX θ) {d : Nat} (hd : 0 ≤ d) (st : St) (a0 : Nat) (p1 : Option Nat) (p2 : Option Nat) (p3 : Int32) (p4 : Int32) (hs_a0 : sh st a0 = 6) (hb_a0 : a0 < gBIG) {Φ : St → Prop} (h : w_J0_init_2v6 st a0 p1 p2 p3 p4 Φ) : Ct θ l yJ0_init_2 (ws_ yJ0_init_2 cJ0_init_2 5 (none : Option Jvm.ClassFile.FieldType)) d [.ref (ad θ a0), rv θ p1, rv θ p2, .int p3, .int p4] st (pV Φ, noX) := by
  refine Ct_entry hl0 e_J0_init_2v6 (by rcases p1 with _ | p1 <;> rcases p2 with _ | p2 <;> exact Nat.le_of_ble_eq_true rfl) (fun κ hκ _ C => ?_)
  have hn : ∀ st, Φ st → ((pV Φ, noX) : Ph).1 st none := fun st q => ⟨rfl, q⟩
  have hlo : lv_args 0 [.ref (ad θ a0), rv θ p1, rv θ p2, .int p3, .int p4] = [(0, .ref (ad θ a0)), (1, rv θ p1), (2, rv θ p2), (3, .int p3), (4, .int p4)] := by rcases p1 with _ | p1 <;> rcases p2 with _ | p2 <;> rfl
  rw [hlo]
  unfold w_J0_init_2v6 at h
  refine X_aload_n C dJ0_init_2_0 rfl 0 rfl (isRV_r _) ?_
  refine X_objInit C ⟨_, rfl⟩ q448 q168 q169 (Nat.le_of_ble_eq_true rfl) dJ0_init_2_1 ?_
  refine X_aload_n C dJ0_init_2_4 rfl 0 rfl (isRV_r _) ?_
  refine X_aload_n C dJ0_init_2_5 rfl 0 rfl (isRV_r _) ?_
  refine X_putR (v := (some a0)) (ci := 5) (j := 0) (q := (RX5, TX5, 7)) C hX rfl (by decide) q495 rfl rfl dJ0_init_2_6 hb_a0 hs_a0 (by decide) (Or.inl ⟨_, rfl⟩) ?_
  refine X_nm (fun s1 e2 => ?_)
  have h := h s1 e2
  have hs_a0 : sh s1 a0 = 6 := by rw [e2]; exact hs_a0
  refine X_aload_n C dJ0_init_2_9 rfl 0 rfl (isRV_r _) ?_
  refine X_getsE C (fun s h => h.2.2.2.1) q449 rfl dJ0_init_2_10 (fun r3 => ?_)
  have h := h r3
  refine X_putR (v := r3) (ci := 5) (j := 1) (q := (RX5, TX5, 7)) C hX rfl (by decide) q496 rfl rfl dJ0_init_2_13 hb_a0 hs_a0 (by decide) (Or.inr ⟨_, rfl⟩) ?_
  refine X_nm (fun s4 e5 => ?_)
  have h := h s4 e5
  have hs_a0 : sh s4 a0 = 6 := by rw [e5]; exact hs_a0
  refine X_aload_n C dJ0_init_2_16 rfl 0 rfl (isRV_r _) ?_
  refine X_getsE C (fun s h => h.2.2.2.2.1) q451 rfl dJ0_init_2_17 (fun r6 => ?_)
  have h := h r6
  refine X_putR (v := r6) (ci := 5) (j := 2) (q := (RX5, TX5, 7)) C hX rfl (by decide) q497 rfl rfl dJ0_init_2_20 hb_a0 hs_a0 (by decide) (Or.inl ⟨_, rfl⟩) ?_
  refine X_nm (fun s7 e8 => ?_)
  have h := h s7 e8
  have hs_a0 : sh s7 a0 = 6 := by rw [e8]; exact hs_a0
  refine X_iload C dJ0_init_2_23 4 rfl ?_
  refine X_if_eq (tgt := 36) C dJ0_init_2_25 (by decide) (fun c9 => ?_) (fun c9 => ?_)
  · have h := h.1 c9
    refine X_aload_n C dJ0_init_2_36 rfl 0 rfl (isRV_r _) ?_
    refine X_null C dJ0_init_2_37 ?_
    refine X_putR (v := none) (ci := 5) (j := 1) (q := (RX5, TX5, 7)) C hX rfl (by decide) q496 rfl rfl dJ0_init_2_38 hb_a0 hs_a0 (by decide) (Or.inr ⟨_, rfl⟩) ?_
    refine X_nm (fun s10 e11 => ?_)
    have h := h s10 e11
    have hs_a0 : sh s10 a0 = 6 := by rw [e11]; exact hs_a0
    refine X_sub [0, 1, 2, 3] (lo2 := [(0, _), (1, _), (2, _), (3, _)]) rfl ?_
    exact t_J0_init_2v6_b41 hX hd C hn s10 a0 p1 p2 p3 hs_a0 hb_a0 h
  · have h := h.2 c9
    exact h.elim

def w_J1_initv6 (st : St) (a0 : Nat) (p1 : Option Nat) (p2 : Option Nat) (p3 : Int32) (p4 : Int32) (Φ : St → Prop) : Prop := w_J0_init_2v6 st a0 p1 p2 p3 p4 (fun (s2 : St) => Φ s2)
theorem nm_J1_init : yJ1_init.cls ≠ "java/lang/invoke/MethodHandle" ∧ yJ1_init.cls ≠ "java/lang/invoke/VarHandle" ∧ (parseMethodDescriptor yJ1_init.desc).map (fun d => d.parameters.length) = some 4 := by decide +kernel
theorem e_J1_initv6 : plainFor yJ1_init = true := plainFor_of_name (by decide +kernel)
theorem m_J1_initv6 {θ : Th} {l : Launch} (hl0 : l.stackTraces = false) (hX : LX θ) {d : Nat} (hd : 1 ≤ d) (st : St) (a0 : Nat) (p1 : Option Nat) (p2 : Option Nat) (p3 : Int32) (p4 : Int32) (hs_a0 : sh st a0 = 6) (hb_a0 : a0 < gBIG) {Φ : St → Prop} (h : w_J1_initv6 st a0 p1 p2 p3 p4 Φ) : Ct θ l yJ1_init (ws_ yJ1_init cJ1_init 5 (none : Option Jvm.ClassFile.FieldType)) d [.ref (ad θ a0), rv θ p1, rv θ p2, .int p3, .int p4] st (pV Φ, noX) := by
  refine Ct_entry hl0 e_J1_initv6 (by rcases p1 with _ | p1 <;> rcases p2 with _ | p2 <;> exact Nat.le_of_ble_eq_true rfl) (fun κ hκ _ C => ?_)
  have hn : ∀ st, Φ st → ((pV Φ, noX) : Ph).1 st none := fun st q => ⟨rfl, q⟩
  have hlo : lv_args 0 [.ref (ad θ a0), rv θ p1, rv θ p2, .int p3, .int p4] = [(0, .ref (ad θ a0)), (1, rv θ p1), (2, rv θ p2), (3, .int p3), (4, .int p4)] := by rcases p1 with _ | p1 <;> rcases p2 with _ | p2 <;> rfl
  rw [hlo]
  unfold w_J1_initv6 at h
  refine X_aload_n C dJ1_init_0 rfl 0 rfl (isRV_r _) ?_
  refine X_aload_n C dJ1_init_1 rfl 1 rfl (isRV_v _ _) ?_
  refine X_aload_n C dJ1_init_2 rfl 2 rfl (isRV_v _ _) ?_
  refine X_iload_n C dJ1_init_3 rfl 3 rfl ?_
  refine X_iload C dJ1_init_4 4 rfl ?_
  refine X_callI (As := [_, _, _, _]) (rest := []) C q488 q489 q137 q490 rfl nm_J0_init_2 rfl dJ1_init_6 (m_J0_init_2v6 (Cx_l C) hX (d := d - 1) (by omega) st a0 p1 p2 p3 p4 hs_a0 hb_a0 h) (by omega) (by decide) (Nat.le_of_ble_eq_true rfl) (fun s2 w3 hE4 hP5 => ?_) (fun s8 E6 q7 hE4 hP5 => ?_)
  rotate_left
  · exact False.elim hP5
  obtain ⟨rfl, h⟩ := hP5
  refine X_tln ?_
  have hs_a0 := Ext_sh hE4 hs_a0 (by decide)
  exact X_vret C rfl dJ1_init_9 (hn s2 h)

def w_J2_initv6 (st : St) (a0 : Nat) (p1 : Option Nat) (p2 : Option Nat) (p3 : Int32) (p4 : Int32) (Φ : St → Prop) : Prop := w_J1_initv6 st a0 p1 p2 p3 p4 (fun (s2 : St) => Φ s2)
theorem nm_J2_init : yJ2_init.cls ≠ "java/lang/invoke/MethodHandle" ∧ yJ2_init.cls ≠ "java/lang/invoke/VarHandle" ∧ (parseMethodDescriptor yJ2_init.desc).map (fun d => d.parameters.length) = some 4 := by decide +kernel
theorem e_J2_initv6 : plainFor yJ2_init = true := plainFor_of_name (by decide +kernel)
theorem m_J2_initv6 {θ : Th} {l : Launch} (hl0 : l.stackTraces = false) (hX : LX θ) {d : Nat} (hd : 2 ≤ d) (st : St) (a0 : Nat) (p1 : Option Nat) (p2 : Option Nat) (p3 : Int32) (p4 : Int32) (hs_a0 : sh st a0 = 6) (hb_a0 : a0 < gBIG) {Φ : St → Prop} (h : w_J2_initv6 st a0 p1 p2 p3 p4 Φ) : Ct θ l yJ2_init (ws_ yJ2_init cJ2_init 5 (none : Option Jvm.ClassFile.FieldType)) d [.ref (ad θ a0), rv θ p1, rv θ p2, .int p3, .int p4] st (pV Φ, noX) := by
  refine Ct_entry hl0 e_J2_initv6 (by rcases p1 with _ | p1 <;> rcases p2 with _ | p2 <;> exact Nat.le_of_ble_eq_true rfl) (fun κ hκ _ C => ?_)
  have hn : ∀ st, Φ st → ((pV Φ, noX) : Ph).1 st none := fun st q => ⟨rfl, q⟩
  have hlo : lv_args 0 [.ref (ad θ a0), rv θ p1, rv θ p2, .int p3, .int p4] = [(0, .ref (ad θ a0)), (1, rv θ p1), (2, rv θ p2), (3, .int p3), (4, .int p4)] := by rcases p1 with _ | p1 <;> rcases p2 with _ | p2 <;> rfl
  rw [hlo]
  unfold w_J2_initv6 at h
  refine X_aload_n C dJ2_init_0 rfl 0 rfl (isRV_r _) ?_
  refine X_aload_n C dJ2_init_1 rfl 1 rfl (isRV_v _ _) ?_
  refine X_aload_n C dJ2_init_2 rfl 2 rfl (isRV_v _ _) ?_
  refine X_iload_n C dJ2_init_3 rfl 3 rfl ?_
  refine X_iload C dJ2_init_4 4 rfl ?_
  refine X_callI (As := [_, _, _, _]) (rest := []) C q485 q486 q138 q487 rfl nm_J1_init rfl dJ2_init_6 (m_J1_initv6 (Cx_l C) hX (d := d - 1) (by omega) st a0 p1 p2 p3 p4 hs_a0 hb_a0 h) (by omega) (by decide) (Nat.le_of_ble_eq_true rfl) (fun s2 w3 hE4 hP5 => ?_) (fun s8 E6 q7 hE4 hP5 => ?_)
  rotate_left
  · exact False.elim hP5
  obtain ⟨rfl, h⟩ := hP5
  refine X_tln ?_
  have hs_a0 := Ext_sh hE4 hs_a0 (by decide)
  exact X_vret C rfl dJ2_init_9 (hn s2 h)

def w_X5_init (st : St) (a0 : Nat) (p1 : Int32) (Φ : St → Prop) : Prop := w_J2_initv6 st a0 none none 0 0 (fun (s2 : St) => ∀ s9, s9 = putI s2 a0 6 p1 → Φ s9)
theorem nm_X5_init : yX5_init.cls ≠ "java/lang/invoke/MethodHandle" ∧ yX5_init.cls ≠ "java/lang/invoke/VarHandle" ∧ (parseMethodDescriptor yX5_init.desc).map (fun d => d.parameters.length) = some 1 := by decide +kernel
theorem e_X5_init : plainFor yX5_init = true := plainFor_of_name (by decide +kernel)
theorem m_X5_init {θ : Th} {l : Launch} (hl0 : l.stackTraces = false) (hX : LX θ) {d : Nat} (hd : 3 ≤ d) (st : St) (a0 : Nat) (p1 : Int32) (hs_a0 : sh st a0 = 6) (hb_a0 : a0 < gBIG) {Φ : St → Prop} (h : w_X5_init st a0 p1 Φ) : Ct θ l yX5_init (ws_ yX5_init cX5_init 2 (none : Option Jvm.ClassFile.FieldType)) d [.ref (ad θ a0), .int p1] st (pV Φ, noX) := by
  refine Ct_entry hl0 e_X5_init (Nat.le_of_ble_eq_true rfl) (fun κ hκ _ C => ?_)
  have hn : ∀ st, Φ st → ((pV Φ, noX) : Ph).1 st none := fun st q => ⟨rfl, q⟩
  change X _ _ _ _ _ [(0, .ref (ad θ a0)), (1, .int p1)] _
  unfold w_X5_init at h
  refine X_aload_n C dX5_init_0 rfl 0 rfl (isRV_r _) ?_
  refine X_null C dX5_init_1 ?_
  refine X_null C dX5_init_2 ?_
  refine X_iconst (v := 0) C dX5_init_3 rfl ?_
  refine X_iconst (v := 0) C dX5_init_4 rfl ?_
  refine X_callI (As := [_, _, _, _]) (rest := []) C q482 q483 q139 q484 rfl nm_J2_init rfl dX5_init_5 (m_J2_initv6 (Cx_l C) hX (d := d - 1) (by omega) st a0 none none 0 0 hs_a0 hb_a0 h) (by omega) (by decide) (Nat.le_of_ble_eq_true rfl) (fun s2 w3 hE4 hP5 => ?_) (fun s8 E6 q7 hE4 hP5 => ?_)
  rotate_left
  · exact False.elim hP5
  obtain ⟨rfl, h⟩ := hP5
  refine X_tln ?_
  have hs_a0 := Ext_sh hE4 hs_a0 (by decide)
  refine X_aload_n C dX5_init_8 rfl 0 rfl (isRV_r _) ?_
  refine X_iload_n C dX5_init_9 rfl 1 rfl ?_
  refine X_putFI (ci := 5) (j := 6) (q := (RX5, TX5, 7)) C rfl rfl (by decide) q491 rfl rfl rfl dX5_init_10 hb_a0 hs_a0 rfl rfl rfl ?_
  refine X_nm (fun s9 e10 => ?_)
  have h := h s9 e10
  have hs_a0 : sh s9 a0 = 6 := by rw [e10]; exact hs_a0
  exact X_vret C rfl dX5_init_13 (hn s9 h)

def w_J0_init_2v7_b41 (Φ : St → Prop) (st : St) (x0 : Nat) (x1 : Option Nat) (x2 : Option Nat) (x3 : Int32) : Prop := ∀ s12, s12 = putR st x0 3 x1 → ∀ s14, s14 = putR s12 x0 0 x2 → ((x3 ≠ 0) → Φ s14) ∧ ((x3 = 0) → ∀ s17, s17 = putR s14 x0 2 none → Φ s17)
theorem t_J0_init_2v7_b41 {θ : Th} {κ : Kx} {Ph : Ph} (hX : LX θ) {d : Nat} (hd : 0 ≤ d) (C : Cx θ κ yJ0_init_2 cJ0_init_2 5 (none : Option Jvm.ClassFile.FieldType) [] d) {Φ : St → Prop} (hn : ∀ st, Φ st → Ph.1 st none) (st : St) (x0 : Nat) (x1 : Option Nat) (x2 : Option Nat) (x3 : Int32) (hs_x0 : sh st x0 = 7) (hb_x0 : x0 < gBIG) (h : w_J0_init_2v7_b41 Φ st x0 x1 x2 x3) : X θ κ Ph st 41 [(0, .ref (ad θ x0)), (1, rv θ x1), (2, rv θ x2), (3, .int x3)] [] := by
  unfold w_J0_init_2v7_b41 at h
  refine X_aload_n C dJ0_init_2_41 rfl 0 rfl (isRV_r _) ?_
  refine X_aload_n C dJ0_init_2_42 rfl 1 rfl (isRV_v _ _) ?_
  refine X_putR (v := x1) (ci := 6) (j := 3) (q := (RX6, TX6, 7)) C hX rfl (by decide) q494 rfl rfl dJ0_init_2_43 hb_x0 hs_x0 (by decide) (Or.inl ⟨_, rfl⟩) ?_
  refine X_nm (fun s12 e13 => ?_)
  have h := h s12 e13
  have hs_x0 : sh s12 x0 = 7 := by rw [e13]; exact hs_x0
  refine X_aload_n C dJ0_init_2_46 rfl 0 rfl (isRV_r _) ?_
  refine X_aload_n C dJ0_init_2_47 rfl 2 rfl (isRV_v _ _) ?_
  refine X_putR (v := x2) (ci := 6) (j := 0) (q := (RX6, TX6, 7)) C hX rfl (by decide) q495 rfl rfl dJ0_init_2_48 hb_x0 hs_x0 (by decide) (Or.inl ⟨_, rfl⟩) ?_
  refine X_nm (fun s14 e15 => ?_)
  have h := h s14 e15
  have hs_x0 : sh s14 x0 = 7 := by rw [e15]; exact hs_x0
  refine X_iload_n C dJ0_init_2_51 rfl 3 rfl ?_
  refine X_if_ne (tgt := 60) C dJ0_init_2_52 (by decide) (fun c16 => ?_) (fun c16 => ?_)
  · have h := h.1 c16
    exact X_vret C rfl dJ0_init_2_60 (hn s14 h)
  · have h := h.2 c16
    refine X_aload_n C dJ0_init_2_55 rfl 0 rfl (isRV_r _) ?_
    refine X_null C dJ0_init_2_56 ?_
    refine X_putR (v := none) (ci := 6) (j := 2) (q := (RX6, TX6, 7)) C hX rfl (by decide) q497 rfl rfl dJ0_init_2_57 hb_x0 hs_x0 (by decide) (Or.inl ⟨_, rfl⟩) ?_
    refine X_nm (fun s17 e18 => ?_)
    have h := h s17 e18
    have hs_x0 : sh s17 x0 = 7 := by rw [e18]; exact hs_x0
    exact X_vret C rfl dJ0_init_2_60 (hn s17 h)
def w_J0_init_2v7 (st : St) (a0 : Nat) (p1 : Option Nat) (p2 : Option Nat) (p3 : Int32) (p4 : Int32) (Φ : St → Prop) : Prop := ∀ s1, s1 = putR st a0 0 (some a0) → ∀ r3 : Option Nat, ∀ s4, s4 = putR s1 a0 1 r3 → ∀ r6 : Option Nat, ∀ s7, s7 = putR s4 a0 2 r6 → ((p4 = 0) → ∀ s10, s10 = putR s7 a0 1 none → w_J0_init_2v7_b41 Φ s10 a0 p1 p2 p3) ∧ ((¬ p4 = 0) → False)
theorem e_J0_init_2v7 : plainFor yJ0_init_2 = true := plainFor_of_name (by decide +kernel)
theorem m_J0_init_2v7 {θ : Th} {l : Launch} (hl0 : l.stackTraces = false) (hX : LX θ) {d : Nat} (hd : 0 ≤ d) (st : St) (a0 : Nat) (p1 : Option Nat) (p2 : Option Nat) (p3 : Int32) (p4 : Int32) (hs_a0 : sh st a0 = 7) (hb_a0 : a0 < gBIG) {Φ : St → Prop} (h : w_J0_init_2v7 st a0 p1 p2 p3 p4 Φ) : Ct θ l yJ0_init_2 (ws_ yJ0_init_2 cJ0_init_2 5 (none : Option Jvm.ClassFile.FieldType)) d [.ref (ad θ a0), rv θ p1, rv θ p2, .int p3, .int p4] st (pV Φ, noX) := by
  refine Ct_entry hl0 e_J0_init_2v7 (by rcases p1 with _ | p1 <;> rcases p2 with _ | p2 <;> exact Nat.le_of_ble_eq_true rfl) (fun κ hκ _ C => ?_)
  have hn : ∀ st, Φ st → ((pV Φ, noX) : Ph).1 st none := fun st q => ⟨rfl, q⟩
  have hlo : lv_args 0 [.ref (ad θ a0), rv θ p1, rv θ p2, .int p3, .int p4] = [(0, .ref (ad θ a0)), (1, rv θ p1), (2, rv θ p2), (3, .int p3), (4, .int p4)] := by rcases p1 with _ | p1 <;> rcases p2 with _ | p2 <;> rfl
  rw [hlo]
  unfold w_J0_init_2v7 at h
  refine X_aload_n C dJ0_init_2_0 rfl 0 rfl (isRV_r _) ?_
  refine X_objInit C ⟨_, rfl⟩ q448 q168 q169 (Nat.le_of_ble_eq_true rfl) dJ0_init_2_1 ?_
  refine X_aload_n C dJ0_init_2_4 rfl 0 rfl (isRV_r _) ?_
  refine X_aload_n C dJ0_init_2_5 rfl 0 rfl (isRV_r _) ?_
  refine X_putR (v := (some a0)) (ci := 6) (j := 0) (q := (RX6, TX6, 7)) C hX rfl (by decide) q495 rfl rfl dJ0_init_2_6 hb_a0 hs_a0 (by decide) (Or.inl ⟨_, rfl⟩) ?_
  refine X_nm (fun s1 e2 => ?_)
  have h := h s1 e2
  have hs_a0 : sh s1 a0 = 7 := by rw [e2]; exact hs_a0
  refine X_aload_n C dJ0_init_2_9 rfl 0 rfl (isRV_r _) ?_
  refine X_getsE C (fun s h => h.2.2.2.1) q449 rfl dJ0_init_2_10 (fun r3 => ?_)
  have h := h r3
  refine X_putR (v := r3) (ci := 6) (j := 1) (q := (RX6, TX6, 7)) C hX rfl (by decide) q496 rfl rfl dJ0_init_2_13 hb_a0 hs_a0 (by decide) (Or.inr ⟨_, rfl⟩) ?_
  refine X_nm (fun s4 e5 => ?_)
  have h := h s4 e5
  have hs_a0 : sh s4 a0 = 7 := by rw [e5]; exact hs_a0
  refine X_aload_n C dJ0_init_2_16 rfl 0 rfl (isRV_r _) ?_
  refine X_getsE C (fun s h => h.2.2.2.2.1) q451 rfl dJ0_init_2_17 (fun r6 => ?_)
  have h := h r6
  refine X_putR (v := r6) (ci := 6) (j := 2) (q := (RX6, TX6, 7)) C hX rfl (by decide) q497 rfl rfl dJ0_init_2_20 hb_a0 hs_a0 (by decide) (Or.inl ⟨_, rfl⟩) ?_
  refine X_nm (fun s7 e8 => ?_)
  have h := h s7 e8
  have hs_a0 : sh s7 a0 = 7 := by rw [e8]; exact hs_a0
  refine X_iload C dJ0_init_2_23 4 rfl ?_
  refine X_if_eq (tgt := 36) C dJ0_init_2_25 (by decide) (fun c9 => ?_) (fun c9 => ?_)
  · have h := h.1 c9
    refine X_aload_n C dJ0_init_2_36 rfl 0 rfl (isRV_r _) ?_
    refine X_null C dJ0_init_2_37 ?_
    refine X_putR (v := none) (ci := 6) (j := 1) (q := (RX6, TX6, 7)) C hX rfl (by decide) q496 rfl rfl dJ0_init_2_38 hb_a0 hs_a0 (by decide) (Or.inr ⟨_, rfl⟩) ?_
    refine X_nm (fun s10 e11 => ?_)
    have h := h s10 e11
    have hs_a0 : sh s10 a0 = 7 := by rw [e11]; exact hs_a0
    refine X_sub [0, 1, 2, 3] (lo2 := [(0, _), (1, _), (2, _), (3, _)]) rfl ?_
    exact t_J0_init_2v7_b41 hX hd C hn s10 a0 p1 p2 p3 hs_a0 hb_a0 h
  · have h := h.2 c9
    exact h.elim

def w_J1_initv7 (st : St) (a0 : Nat) (p1 : Option Nat) (p2 : Option Nat) (p3 : Int32) (p4 : Int32) (Φ : St → Prop) : Prop := w_J0_init_2v7 st a0 p1 p2 p3 p4 (fun (s2 : St) => Φ s2)
theorem e_J1_initv7 : plainFor yJ1_init = true := plainFor_of_name (by decide +kernel)
theorem m_J1_initv7 {θ : Th} {l : Launch} (hl0 : l.stackTraces = false) (hX : LX θ) {d : Nat} (hd : 1 ≤ d) (st : St) (a0 : Nat) (p1 : Option Nat) (p2 : Option Nat) (p3 : Int32) (p4 : Int32) (hs_a0 : sh st a0 = 7) (hb_a0 : a0 < gBIG) {Φ : St → Prop} (h : w_J1_initv7 st a0 p1 p2 p3 p4 Φ) : Ct θ l yJ1_init (ws_ yJ1_init cJ1_init 5 (none : Option Jvm.ClassFile.FieldType)) d [.ref (ad θ a0), rv θ p1, rv θ p2, .int p3, .int p4] st (pV Φ, noX) := by
  refine Ct_entry hl0 e_J1_initv7 (by rcases p1 with _ | p1 <;> rcases p2 with _ | p2 <;> exact Nat.le_of_ble_eq_true rfl) (fun κ hκ _ C => ?_)
  have hn : ∀ st, Φ st → ((pV Φ, noX) : Ph).1 st none := fun st q => ⟨rfl, q⟩
  have hlo : lv_args 0 [.ref (ad θ a0), rv θ p1, rv θ p2, .int p3, .int p4] = [(0, .ref (ad θ a0)), (1, rv θ p1), (2, rv θ p2), (3, .int p3), (4, .int p4)] := by rcases p1 with _ | p1 <;> rcases p2 with _ | p2 <;> rfl
  rw [hlo]
  unfold w_J1_initv7 at h
  refine X_aload_n C dJ1_init_0 rfl 0 rfl (isRV_r _) ?_
  refine X_aload_n C dJ1_init_1 rfl 1 rfl (isRV_v _ _) ?_
  refine X_aload_n C dJ1_init_2 rfl 2 rfl (isRV_v _ _) ?_
  refine X_iload_n C dJ1_init_3 rfl 3 rfl ?_
  refine X_iload C dJ1_init_4 4 rfl ?_
  refine X_callI (As := [_, _, _, _]) (rest := []) C q488 q489 q137 q490 rfl nm_J0_init_2 rfl dJ1_init_6 (m_J0_init_2v7 (Cx_l C) hX (d := d - 1) (by omega) st a0 p1 p2 p3 p4 hs_a0 hb_a0 h) (by omega) (by decide) (Nat.le_of_ble_eq_true rfl) (fun s2 w3 hE4 hP5 => ?_) (fun s8 E6 q7 hE4 hP5 => ?_)
  rotate_left
  · exact False.elim hP5
  obtain ⟨rfl, h⟩ := hP5
  refine X_tln ?_
  have hs_a0 := Ext_sh hE4 hs_a0 (by decide)
  exact X_vret C rfl dJ1_init_9 (hn s2 h)

def w_J2_initv7 (st : St) (a0 : Nat) (p1 : Option Nat) (p2 : Option Nat) (p3 : Int32) (p4 : Int32) (Φ : St → Prop) : Prop := w_J1_initv7 st a0 p1 p2 p3 p4 (fun (s2 : St) => Φ s2)
theorem e_J2_initv7 : plainFor yJ2_init = true := plainFor_of_name (by decide +kernel)
theorem m_J2_initv7 {θ : Th} {l : Launch} (hl0 : l.stackTraces = false) (hX : LX θ) {d : Nat} (hd : 2 ≤ d) (st : St) (a0 : Nat) (p1 : Option Nat) (p2 : Option Nat) (p3 : Int32) (p4 : Int32) (hs_a0 : sh st a0 = 7) (hb_a0 : a0 < gBIG) {Φ : St → Prop} (h : w_J2_initv7 st a0 p1 p2 p3 p4 Φ) : Ct θ l yJ2_init (ws_ yJ2_init cJ2_init 5 (none : Option Jvm.ClassFile.FieldType)) d [.ref (ad θ a0), rv θ p1, rv θ p2, .int p3, .int p4] st (pV Φ, noX) := by
  refine Ct_entry hl0 e_J2_initv7 (by rcases p1 with _ | p1 <;> rcases p2 with _ | p2 <;> exact Nat.le_of_ble_eq_true rfl) (fun κ hκ _ C => ?_)
  have hn : ∀ st, Φ st → ((pV Φ, noX) : Ph).1 st none := fun st q => ⟨rfl, q⟩
  have hlo : lv_args 0 [.ref (ad θ a0), rv θ p1, rv θ p2, .int p3, .int p4] = [(0, .ref (ad θ a0)), (1, rv θ p1), (2, rv θ p2), (3, .int p3), (4, .int p4)] := by rcases p1 with _ | p1 <;> rcases p2 with _ | p2 <;> rfl
  rw [hlo]
  unfold w_J2_initv7 at h
  refine X_aload_n C dJ2_init_0 rfl 0 rfl (isRV_r _) ?_
  refine X_aload_n C dJ2_init_1 rfl 1 rfl (isRV_v _ _) ?_
  refine X_aload_n C dJ2_init_2 rfl 2 rfl (isRV_v _ _) ?_
  refine X_iload_n C dJ2_init_3 rfl 3 rfl ?_
  refine X_iload C dJ2_init_4 4 rfl ?_
  refine X_callI (As := [_, _, _, _]) (rest := []) C q485 q486 q138 q487 rfl nm_J1_init rfl dJ2_init_6 (m_J1_initv7 (Cx_l C) hX (d := d - 1) (by omega) st a0 p1 p2 p3 p4 hs_a0 hb_a0 h) (by omega) (by decide) (Nat.le_of_ble_eq_true rfl) (fun s2 w3 hE4 hP5 => ?_) (fun s8 E6 q7 hE4 hP5 => ?_)
  rotate_left
  · exact False.elim hP5
  obtain ⟨rfl, h⟩ := hP5
  refine X_tln ?_
  have hs_a0 := Ext_sh hE4 hs_a0 (by decide)
  exact X_vret C rfl dJ2_init_9 (hn s2 h)

def w_X6_init (st : St) (a0 : Nat) (p1 : Int32) (Φ : St → Prop) : Prop := w_J2_initv7 st a0 none none 0 0 (fun (s2 : St) => ∀ s9, s9 = putI s2 a0 6 p1 → Φ s9)
theorem nm_X6_init : yX6_init.cls ≠ "java/lang/invoke/MethodHandle" ∧ yX6_init.cls ≠ "java/lang/invoke/VarHandle" ∧ (parseMethodDescriptor yX6_init.desc).map (fun d => d.parameters.length) = some 1 := by decide +kernel
theorem e_X6_init : plainFor yX6_init = true := plainFor_of_name (by decide +kernel)
theorem m_X6_init {θ : Th} {l : Launch} (hl0 : l.stackTraces = false) (hX : LX θ) {d : Nat} (hd : 3 ≤ d) (st : St) (a0 : Nat) (p1 : Int32) (hs_a0 : sh st a0 = 7) (hb_a0 : a0 < gBIG) {Φ : St → Prop} (h : w_X6_init st a0 p1 Φ) : Ct θ l yX6_init (ws_ yX6_init cX6_init 2 (none : Option Jvm.ClassFile.FieldType)) d [.ref (ad θ a0), .int p1] st (pV Φ, noX) := by
  refine Ct_entry hl0 e_X6_init (Nat.le_of_ble_eq_true rfl) (fun κ hκ _ C => ?_)
  have hn : ∀ st, Φ st → ((pV Φ, noX) : Ph).1 st none := fun st q => ⟨rfl, q⟩
  change X _ _ _ _ _ [(0, .ref (ad θ a0)), (1, .int p1)] _
  unfold w_X6_init at h
  refine X_aload_n C dX6_init_0 rfl 0 rfl (isRV_r _) ?_
  refine X_null C dX6_init_1 ?_
  refine X_null C dX6_init_2 ?_
  refine X_iconst (v := 0) C dX6_init_3 rfl ?_
  refine X_iconst (v := 0) C dX6_init_4 rfl ?_
  refine X_callI (As := [_, _, _, _]) (rest := []) C q1159 q483 q139 q484 rfl nm_J2_init rfl dX6_init_5 (m_J2_initv7 (Cx_l C) hX (d := d - 1) (by omega) st a0 none none 0 0 hs_a0 hb_a0 h) (by omega) (by decide) (Nat.le_of_ble_eq_true rfl) (fun s2 w3 hE4 hP5 => ?_) (fun s8 E6 q7 hE4 hP5 => ?_)
  rotate_left
  · exact False.elim hP5
  obtain ⟨rfl, h⟩ := hP5
  refine X_tln ?_
  have hs_a0 := Ext_sh hE4 hs_a0 (by decide)
  refine X_aload_n C dX6_init_8 rfl 0 rfl (isRV_r _) ?_
  refine X_iload_n C dX6_init_9 rfl 1 rfl ?_
  refine X_putFI (ci := 6) (j := 6) (q := (RX6, TX6, 7)) C rfl rfl (by decide) q1160 rfl rfl rfl dX6_init_10 hb_a0 hs_a0 rfl rfl rfl ?_
  refine X_nm (fun s9 e10 => ?_)
  have h := h s9 e10
  have hs_a0 : sh s9 a0 = 7 := by rw [e10]; exact hs_a0
  exact X_vret C rfl dX6_init_13 (hn s9 h)
