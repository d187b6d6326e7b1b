set_option maxRecDepth 100000
theorem nmF_0 : ("SecretsWorth$Says" : String) ≠ "java/lang/invoke/MethodHandle" ∧ ("SecretsWorth$Says" : String) ≠ "java/lang/invoke/VarHandle" ∧ (parseMethodDescriptor "(Ljava/lang/String;)Ljava/lang/String;").map (fun d => d.parameters.length) = some 1 := by decide +kernel
theorem nmF_1 : ("SecretsWorth$Says" : String) ≠ "java/lang/invoke/MethodHandle" ∧ ("SecretsWorth$Says" : String) ≠ "java/lang/invoke/VarHandle" ∧ (parseMethodDescriptor "(JJ)Ljava/lang/String;").map (fun d => d.parameters.length) = some 2 := by decide +kernel
theorem nmF_2 : ("SecretsWorth$Says" : String) ≠ "java/lang/invoke/MethodHandle" ∧ ("SecretsWorth$Says" : String) ≠ "java/lang/invoke/VarHandle" ∧ (parseMethodDescriptor "()Ljava/lang/String;").map (fun d => d.parameters.length) = some 0 := by decide +kernel
theorem nmF_3 : ("java/lang/AbstractStringBuilder" : String) ≠ "java/lang/invoke/MethodHandle" ∧ ("java/lang/AbstractStringBuilder" : String) ≠ "java/lang/invoke/VarHandle" ∧ (parseMethodDescriptor "(I)V").map (fun d => d.parameters.length) = some 1 := by decide +kernel
theorem nmF_4 : ("java/lang/AbstractStringBuilder" : String) ≠ "java/lang/invoke/MethodHandle" ∧ ("java/lang/AbstractStringBuilder" : String) ≠ "java/lang/invoke/VarHandle" ∧ (parseMethodDescriptor "(C)Ljava/lang/AbstractStringBuilder;").map (fun d => d.parameters.length) = some 1 := by decide +kernel
theorem nmF_5 : ("java/lang/AbstractStringBuilder" : String) ≠ "java/lang/invoke/MethodHandle" ∧ ("java/lang/AbstractStringBuilder" : String) ≠ "java/lang/invoke/VarHandle" ∧ (parseMethodDescriptor "(I)Ljava/lang/AbstractStringBuilder;").map (fun d => d.parameters.length) = some 1 := by decide +kernel
theorem nmF_6 : ("java/lang/AbstractStringBuilder" : String) ≠ "java/lang/invoke/MethodHandle" ∧ ("java/lang/AbstractStringBuilder" : String) ≠ "java/lang/invoke/VarHandle" ∧ (parseMethodDescriptor "(J)Ljava/lang/AbstractStringBuilder;").map (fun d => d.parameters.length) = some 1 := by decide +kernel
theorem nmF_7 : ("java/lang/AbstractStringBuilder" : String) ≠ "java/lang/invoke/MethodHandle" ∧ ("java/lang/AbstractStringBuilder" : String) ≠ "java/lang/invoke/VarHandle" ∧ (parseMethodDescriptor "(Ljava/lang/String;)Ljava/lang/AbstractStringBuilder;").map (fun d => d.parameters.length) = some 1 := by decide +kernel
theorem nmF_8 : ("java/lang/AbstractStringBuilder" : String) ≠ "java/lang/invoke/MethodHandle" ∧ ("java/lang/AbstractStringBuilder" : String) ≠ "java/lang/invoke/VarHandle" ∧ (parseMethodDescriptor "()Ljava/lang/AbstractStringBuilder;").map (fun d => d.parameters.length) = some 0 := by decide +kernel
theorem nmF_9 : ("java/lang/AbstractStringBuilder" : String) ≠ "java/lang/invoke/MethodHandle" ∧ ("java/lang/AbstractStringBuilder" : String) ≠ "java/lang/invoke/VarHandle" ∧ (parseMethodDescriptor "(I)C").map (fun d => d.parameters.length) = some 1 := by decide +kernel
theorem nmF_10 : ("java/lang/AbstractStringBuilder" : String) ≠ "java/lang/invoke/MethodHandle" ∧ ("java/lang/AbstractStringBuilder" : String) ≠ "java/lang/invoke/VarHandle" ∧ (parseMethodDescriptor "(I)V").map (fun d => d.parameters.length) = some 1 := by decide +kernel
theorem nmF_11 : ("java/lang/AbstractStringBuilder" : String) ≠ "java/lang/invoke/MethodHandle" ∧ ("java/lang/AbstractStringBuilder" : String) ≠ "java/lang/invoke/VarHandle" ∧ (parseMethodDescriptor "()[B").map (fun d => d.parameters.length) = some 0 := by decide +kernel
theorem nmF_12 : ("java/lang/AbstractStringBuilder" : String) ≠ "java/lang/invoke/MethodHandle" ∧ ("java/lang/AbstractStringBuilder" : String) ≠ "java/lang/invoke/VarHandle" ∧ (parseMethodDescriptor "()V").map (fun d => d.parameters.length) = some 0 := by decide +kernel
theorem nmF_13 : ("java/lang/AbstractStringBuilder" : String) ≠ "java/lang/invoke/MethodHandle" ∧ ("java/lang/AbstractStringBuilder" : String) ≠ "java/lang/invoke/VarHandle" ∧ (parseMethodDescriptor "(Ljava/lang/String;)V").map (fun d => d.parameters.length) = some 1 := by decide +kernel
theorem nmF_14 : ("java/lang/AbstractStringBuilder" : String) ≠ "java/lang/invoke/MethodHandle" ∧ ("java/lang/AbstractStringBuilder" : String) ≠ "java/lang/invoke/VarHandle" ∧ (parseMethodDescriptor "()Z").map (fun d => d.parameters.length) = some 0 := by decide +kernel
theorem nmF_15 : ("java/lang/AbstractStringBuilder" : String) ≠ "java/lang/invoke/MethodHandle" ∧ ("java/lang/AbstractStringBuilder" : String) ≠ "java/lang/invoke/VarHandle" ∧ (parseMethodDescriptor "()I").map (fun d => d.parameters.length) = some 0 := by decide +kernel
theorem nmF_16 : ("java/lang/AbstractStringBuilder" : String) ≠ "java/lang/invoke/MethodHandle" ∧ ("java/lang/AbstractStringBuilder" : String) ≠ "java/lang/invoke/VarHandle" ∧ (parseMethodDescriptor "(I)I").map (fun d => d.parameters.length) = some 1 := by decide +kernel
theorem nmF_17 : ("java/lang/AbstractStringBuilder" : String) ≠ "java/lang/invoke/MethodHandle" ∧ ("java/lang/AbstractStringBuilder" : String) ≠ "java/lang/invoke/VarHandle" ∧ (parseMethodDescriptor "(ILjava/lang/String;)V").map (fun d => d.parameters.length) = some 2 := by decide +kernel
theorem nmF_18 : ("java/lang/CharSequence" : String) ≠ "java/lang/invoke/MethodHandle" ∧ ("java/lang/CharSequence" : String) ≠ "java/lang/invoke/VarHandle" ∧ (parseMethodDescriptor "(I)C").map (fun d => d.parameters.length) = some 1 := by decide +kernel
theorem nmF_19 : ("java/lang/CharSequence" : String) ≠ "java/lang/invoke/MethodHandle" ∧ ("java/lang/CharSequence" : String) ≠ "java/lang/invoke/VarHandle" ∧ (parseMethodDescriptor "()I").map (fun d => d.parameters.length) = some 0 := by decide +kernel
theorem nmF_20 : ("java/lang/Object" : String) ≠ "java/lang/invoke/MethodHandle" ∧ ("java/lang/Object" : String) ≠ "java/lang/invoke/VarHandle" ∧ (parseMethodDescriptor "()V").map (fun d => d.parameters.length) = some 0 := by decide +kernel
theorem nmF_21 : ("java/lang/Object" : String) ≠ "java/lang/invoke/MethodHandle" ∧ ("java/lang/Object" : String) ≠ "java/lang/invoke/VarHandle" ∧ (parseMethodDescriptor "()Ljava/lang/Class;").map (fun d => d.parameters.length) = some 0 := by decide +kernel
theorem nmF_22 : ("java/lang/Object" : String) ≠ "java/lang/invoke/MethodHandle" ∧ ("java/lang/Object" : String) ≠ "java/lang/invoke/VarHandle" ∧ (parseMethodDescriptor "()Ljava/lang/String;").map (fun d => d.parameters.length) = some 0 := by decide +kernel

theorem nm_J16_checkIndex : yJ16_checkIndex.cls ≠ "java/lang/invoke/MethodHandle" ∧ yJ16_checkIndex.cls ≠ "java/lang/invoke/VarHandle" ∧ (parseMethodDescriptor yJ16_checkIndex.desc).map (fun d => d.parameters.length) = some 3 := by decide +kernel
def w_J16_checkIndex (p1 : Int32) (p2 : Int32) (p3 : Option Nat) (Φ : Int32 → Prop) : Prop := ((p1 < 0) → False) ∧ ((¬ p1 < 0) → ((p1 < p2) → Φ p1) ∧ ((¬ p1 < p2) → False))
theorem e_J16_checkIndex : plainFor yJ16_checkIndex = true := plainFor_of_name (by decide +kernel)
theorem m_J16_checkIndex {θ : Th} {l : Launch} (hl0 : l.stackTraces = false) {d : Nat} (hd : 0 ≤ d) (st0 : St) (p1 : Int32) (p2 : Int32) (p3 : Option Nat) {Φ : Int32 → Prop} (h : w_J16_checkIndex p1 p2 p3 Φ) : Ct θ l yJ16_checkIndex (ws_ yJ16_checkIndex cJ16_checkIndex 3 (some Jvm.ClassFile.FieldType.int)) d [.int p1, .int p2, rv θ p3] st0 (rI st0 Φ, noX) := by
  refine Ct_entry hl0 e_J16_checkIndex (by rcases p3 with _ | p3 <;> exact Nat.le_of_ble_eq_true rfl) (fun κ hκ _ C => ?_)
  have hn : ∀ r, Φ r → ((rI st0 Φ, noX) : Ph).1 st0 (some (.int r)) := fun r q => ⟨r, rfl, rfl, q⟩
  have hlo : lv_args 0 [.int p1, .int p2, rv θ p3] = [(0, .int p1), (1, .int p2), (2, rv θ p3)] := by rcases p3 with _ | p3 <;> rfl
  rw [hlo]
  unfold w_J16_checkIndex at h
  refine X_iload_n C dJ16_checkIndex_0 rfl 0 rfl ?_
  refine X_if_lt (tgt := 9) C dJ16_checkIndex_1 (by decide) (fun c1 => ?_) (fun c1 => ?_)
  · have h := h.1 c1
    exact h.elim
  · have h := h.2 c1
    refine X_iload_n C dJ16_checkIndex_4 rfl 0 rfl ?_
    refine X_iload_n C dJ16_checkIndex_5 rfl 1 rfl ?_
    refine X_icmp_lt (tgt := 16) C dJ16_checkIndex_6 (by decide) (fun c2 => ?_) (fun c2 => ?_)
    · have h := h.1 c2
      refine X_iload_n C dJ16_checkIndex_16 rfl 0 rfl ?_
      exact X_iret C rfl dJ16_checkIndex_17 (hn _ h)
    · have h := h.2 c2
      exact h.elim

theorem nm_J16_checkFromToIndex : yJ16_checkFromToIndex.cls ≠ "java/lang/invoke/MethodHandle" ∧ yJ16_checkFromToIndex.cls ≠ "java/lang/invoke/VarHandle" ∧ (parseMethodDescriptor yJ16_checkFromToIndex.desc).map (fun d => d.parameters.length) = some 4 := by decide +kernel
def w_J16_checkFromToIndex (p1 : Int32) (p2 : Int32) (p3 : Int32) (p4 : Option Nat) (Φ : Int32 → Prop) : Prop := ((p1 < 0) → False) ∧ ((¬ p1 < 0) → ((p2 < p1) → False) ∧ ((¬ p2 < p1) → ((p2 ≤ p3) → Φ p1) ∧ ((¬ p2 ≤ p3) → False)))
theorem e_J16_checkFromToIndex : plainFor yJ16_checkFromToIndex = true := plainFor_of_name (by decide +kernel)
theorem m_J16_checkFromToIndex {θ : Th} {l : Launch} (hl0 : l.stackTraces = false) {d : Nat} (hd : 0 ≤ d) (st0 : St) (p1 : Int32) (p2 : Int32) (p3 : Int32) (p4 : Option Nat) {Φ : Int32 → Prop} (h : w_J16_checkFromToIndex p1 p2 p3 p4 Φ) : Ct θ l yJ16_checkFromToIndex (ws_ yJ16_checkFromToIndex cJ16_checkFromToIndex 4 (some Jvm.ClassFile.FieldType.int)) d [.int p1, .int p2, .int p3, rv θ p4] st0 (rI st0 Φ, noX) := by
  refine Ct_entry hl0 e_J16_checkFromToIndex (by rcases p4 with _ | p4 <;> exact Nat.le_of_ble_eq_true rfl) (fun κ hκ _ C => ?_)
  have hn : ∀ r, Φ r → ((rI st0 Φ, noX) : Ph).1 st0 (some (.int r)) := fun r q => ⟨r, rfl, rfl, q⟩
  have hlo : lv_args 0 [.int p1, .int p2, .int p3, rv θ p4] = [(0, .int p1), (1, .int p2), (2, .int p3), (3, rv θ p4)] := by rcases p4 with _ | p4 <;> rfl
  rw [hlo]
  unfold w_J16_checkFromToIndex at h
  refine X_iload_n C dJ16_checkFromToIndex_0 rfl 0 rfl ?_
  refine X_if_lt (tgt := 14) C dJ16_checkFromToIndex_1 (by decide) (fun c1 => ?_) (fun c1 => ?_)
  · have h := h.1 c1
    exact h.elim
  · have h := h.2 c1
    refine X_iload_n C dJ16_checkFromToIndex_4 rfl 0 rfl ?_
    refine X_iload_n C dJ16_checkFromToIndex_5 rfl 1 rfl ?_
    refine X_icmp_gt (tgt := 14) C dJ16_checkFromToIndex_6 (by decide) (fun c2 => ?_) (fun c2 => ?_)
    · have h := h.1 c2
      exact h.elim
    · have h := h.2 c2
      refine X_iload_n C dJ16_checkFromToIndex_9 rfl 1 rfl ?_
      refine X_iload_n C dJ16_checkFromToIndex_10 rfl 2 rfl ?_
      refine X_icmp_le (tgt := 22) C dJ16_checkFromToIndex_11 (by decide) (fun c3 => ?_) (fun c3 => ?_)
      · have h := h.1 c3
        refine X_iload_n C dJ16_checkFromToIndex_22 rfl 0 rfl ?_
        exact X_iret C rfl dJ16_checkFromToIndex_23 (hn _ h)
      · have h := h.2 c3
        exact h.elim

theorem nm_J16_checkFromIndexSize : yJ16_checkFromIndexSize.cls ≠ "java/lang/invoke/MethodHandle" ∧ yJ16_checkFromIndexSize.cls ≠ "java/lang/invoke/VarHandle" ∧ (parseMethodDescriptor yJ16_checkFromIndexSize.desc).map (fun d => d.parameters.length) = some 4 := by decide +kernel
def w_J16_checkFromIndexSize (p1 : Int32) (p2 : Int32) (p3 : Int32) (p4 : Option Nat) (Φ : Int32 → Prop) : Prop := ((((p3 ||| p1) ||| p2) < 0) → False) ∧ ((¬ ((p3 ||| p1) ||| p2) < 0) → ((p2 ≤ (p3 - p1)) → Φ p1) ∧ ((¬ p2 ≤ (p3 - p1)) → False))
theorem e_J16_checkFromIndexSize : plainFor yJ16_checkFromIndexSize = true := plainFor_of_name (by decide +kernel)
theorem m_J16_checkFromIndexSize {θ : Th} {l : Launch} (hl0 : l.stackTraces = false) {d : Nat} (hd : 0 ≤ d) (st0 : St) (p1 : Int32) (p2 : Int32) (p3 : Int32) (p4 : Option Nat) {Φ : Int32 → Prop} (h : w_J16_checkFromIndexSize p1 p2 p3 p4 Φ) : Ct θ l yJ16_checkFromIndexSize (ws_ yJ16_checkFromIndexSize cJ16_checkFromIndexSize 4 (some Jvm.ClassFile.FieldType.int)) d [.int p1, .int p2, .int p3, rv θ p4] st0 (rI st0 Φ, noX) := by
  refine Ct_entry hl0 e_J16_checkFromIndexSize (by rcases p4 with _ | p4 <;> exact Nat.le_of_ble_eq_true rfl) (fun κ hκ _ C => ?_)
  have hn : ∀ r, Φ r → ((rI st0 Φ, noX) : Ph).1 st0 (some (.int r)) := fun r q => ⟨r, rfl, rfl, q⟩
  have hlo : lv_args 0 [.int p1, .int p2, .int p3, rv θ p4] = [(0, .int p1), (1, .int p2), (2, .int p3), (3, rv θ p4)] := by rcases p4 with _ | p4 <;> rfl
  rw [hlo]
  unfold w_J16_checkFromIndexSize at h
  refine X_iload_n C dJ16_checkFromIndexSize_0 rfl 2 rfl ?_
  refine X_iload_n C dJ16_checkFromIndexSize_1 rfl 0 rfl ?_
  refine X_ior C dJ16_checkFromIndexSize_2 ?_
  refine X_iload_n C dJ16_checkFromIndexSize_3 rfl 1 rfl ?_
  refine X_ior C dJ16_checkFromIndexSize_4 ?_
  refine X_if_lt (tgt := 15) C dJ16_checkFromIndexSize_5 (by decide) (fun c1 => ?_) (fun c1 => ?_)
  · have h := h.1 c1
    exact h.elim
  · have h := h.2 c1
    refine X_iload_n C dJ16_checkFromIndexSize_8 rfl 1 rfl ?_
    refine X_iload_n C dJ16_checkFromIndexSize_9 rfl 2 rfl ?_
    refine X_iload_n C dJ16_checkFromIndexSize_10 rfl 0 rfl ?_
    refine X_isub C dJ16_checkFromIndexSize_11 ?_
    refine X_icmp_le (tgt := 23) C dJ16_checkFromIndexSize_12 (by decide) (fun c2 => ?_) (fun c2 => ?_)
    · have h := h.1 c2
      refine X_iload_n C dJ16_checkFromIndexSize_23 rfl 0 rfl ?_
      exact X_iret C rfl dJ16_checkFromIndexSize_24 (hn _ h)
    · have h := h.2 c2
      exact h.elim

theorem nm_J6_checkIndex : yJ6_checkIndex.cls ≠ "java/lang/invoke/MethodHandle" ∧ yJ6_checkIndex.cls ≠ "java/lang/invoke/VarHandle" ∧ (parseMethodDescriptor yJ6_checkIndex.desc).map (fun d => d.parameters.length) = some 2 := by decide +kernel
def w_J6_checkIndex (st0 : St) (p1 : Int32) (p2 : Int32) (Φ : Prop) : Prop := ∀ r1 : Option Nat, w_J16_checkIndex p1 p2 r1 (fun (r2 : Int32) => Φ)
theorem e_J6_checkIndex : plainFor yJ6_checkIndex = true := plainFor_of_name (by decide +kernel)
theorem m_J6_checkIndex {θ : Th} {l : Launch} (hl0 : l.stackTraces = false) {d : Nat} (hd : 1 ≤ d) (st0 : St) (p1 : Int32) (p2 : Int32) {Φ : Prop} (h : w_J6_checkIndex st0 p1 p2 Φ) : Ct θ l yJ6_checkIndex (ws_ yJ6_checkIndex cJ6_checkIndex 2 (none : Option Jvm.ClassFile.FieldType)) d [.int p1, .int p2] st0 (rV st0 Φ, noX) := by
  refine Ct_entry hl0 e_J6_checkIndex (Nat.le_of_ble_eq_true rfl) (fun κ hκ _ C => ?_)
  have hn : Φ → ((rV st0 Φ, noX) : Ph).1 st0 none := fun q => ⟨rfl, rfl, q⟩
  change X _ _ _ _ _ [(0, .int p1), (1, .int p2)] _
  unfold w_J6_checkIndex at h
  refine X_iload_n C dJ6_checkIndex_0 rfl 0 rfl ?_
  refine X_iload_n C dJ6_checkIndex_1 rfl 1 rfl ?_
  refine X_getsE C (fun s h => h.2.2.2.2.2.2.2.2.1) q1060 rfl dJ6_checkIndex_2 (fun r1 => ?_)
  have h := h r1
  refine X_callS (As := [_, _, _]) (rest := []) C q1083 q1084 q156 q1085 nm_J16_checkIndex rfl dJ6_checkIndex_5 (m_J16_checkIndex (Cx_l C) (d := d - 1) (by omega) st0 p1 p2 r1 h) (by omega) (by decide) (Nat.le_of_ble_eq_true rfl) (fun s8 w3 hE4 hP5 => ?_) (fun s9 E6 q7 hE4 hP5 => ?_)
  rotate_left
  · exact False.elim hP5
  obtain ⟨r2, rfl, rfl, h⟩ := hP5
  refine X_tls ?_
  refine X_pop C dJ6_checkIndex_8 rfl ?_
  exact X_vret C rfl dJ6_checkIndex_9 (hn h)

theorem nm_J6_checkBoundsOffCount : yJ6_checkBoundsOffCount.cls ≠ "java/lang/invoke/MethodHandle" ∧ yJ6_checkBoundsOffCount.cls ≠ "java/lang/invoke/VarHandle" ∧ (parseMethodDescriptor yJ6_checkBoundsOffCount.desc).map (fun d => d.parameters.length) = some 3 := by decide +kernel
def w_J6_checkBoundsOffCount (st0 : St) (p1 : Int32) (p2 : Int32) (p3 : Int32) (Φ : Int32 → Prop) : Prop := ∀ r1 : Option Nat, w_J16_checkFromIndexSize p1 p2 p3 r1 (fun (r2 : Int32) => Φ r2)
theorem e_J6_checkBoundsOffCount : plainFor yJ6_checkBoundsOffCount = true := plainFor_of_name (by decide +kernel)
theorem m_J6_checkBoundsOffCount {θ : Th} {l : Launch} (hl0 : l.stackTraces = false) {d : Nat} (hd : 1 ≤ d) (st0 : St) (p1 : Int32) (p2 : Int32) (p3 : Int32) {Φ : Int32 → Prop} (h : w_J6_checkBoundsOffCount st0 p1 p2 p3 Φ) : Ct θ l yJ6_checkBoundsOffCount (ws_ yJ6_checkBoundsOffCount cJ6_checkBoundsOffCount 3 (some Jvm.ClassFile.FieldType.int)) d [.int p1, .int p2, .int p3] st0 (rI st0 Φ, noX) := by
  refine Ct_entry hl0 e_J6_checkBoundsOffCount (Nat.le_of_ble_eq_true rfl) (fun κ hκ _ C => ?_)
  have hn : ∀ r, Φ r → ((rI st0 Φ, noX) : Ph).1 st0 (some (.int r)) := fun r q => ⟨r, rfl, rfl, q⟩
  change X _ _ _ _ _ [(0, .int p1), (1, .int p2), (2, .int p3)] _
  unfold w_J6_checkBoundsOffCount at h
  refine X_iload_n C dJ6_checkBoundsOffCount_0 rfl 0 rfl ?_
  refine X_iload_n C dJ6_checkBoundsOffCount_1 rfl 1 rfl ?_
  refine X_iload_n C dJ6_checkBoundsOffCount_2 rfl 2 rfl ?_
  refine X_getsE C (fun s h => h.2.2.2.2.2.2.2.2.1) q1060 rfl dJ6_checkBoundsOffCount_3 (fun r1 => ?_)
  have h := h r1
  refine X_callS (As := [_, _, _, _]) (rest := []) C q1062 q1063 q156 q1064 nm_J16_checkFromIndexSize rfl dJ6_checkBoundsOffCount_6 (m_J16_checkFromIndexSize (Cx_l C) (d := d - 1) (by omega) st0 p1 p2 p3 r1 h) (by omega) (by decide) (Nat.le_of_ble_eq_true rfl) (fun s8 w3 hE4 hP5 => ?_) (fun s9 E6 q7 hE4 hP5 => ?_)
  rotate_left
  · exact False.elim hP5
  obtain ⟨r2, rfl, rfl, h⟩ := hP5
  refine X_tls ?_
  exact X_iret C rfl dJ6_checkBoundsOffCount_9 (hn _ h)

theorem nm_J6_checkBoundsBeginEnd : yJ6_checkBoundsBeginEnd.cls ≠ "java/lang/invoke/MethodHandle" ∧ yJ6_checkBoundsBeginEnd.cls ≠ "java/lang/invoke/VarHandle" ∧ (parseMethodDescriptor yJ6_checkBoundsBeginEnd.desc).map (fun d => d.parameters.length) = some 3 := by decide +kernel
def w_J6_checkBoundsBeginEnd (st0 : St) (p1 : Int32) (p2 : Int32) (p3 : Int32) (Φ : Prop) : Prop := ∀ r1 : Option Nat, w_J16_checkFromToIndex p1 p2 p3 r1 (fun (r2 : Int32) => Φ)
theorem e_J6_checkBoundsBeginEnd : plainFor yJ6_checkBoundsBeginEnd = true := plainFor_of_name (by decide +kernel)
theorem m_J6_checkBoundsBeginEnd {θ : Th} {l : Launch} (hl0 : l.stackTraces = false) {d : Nat} (hd : 1 ≤ d) (st0 : St) (p1 : Int32) (p2 : Int32) (p3 : Int32) {Φ : Prop} (h : w_J6_checkBoundsBeginEnd st0 p1 p2 p3 Φ) : Ct θ l yJ6_checkBoundsBeginEnd (ws_ yJ6_checkBoundsBeginEnd cJ6_checkBoundsBeginEnd 3 (none : Option Jvm.ClassFile.FieldType)) d [.int p1, .int p2, .int p3] st0 (rV st0 Φ, noX) := by
  refine Ct_entry hl0 e_J6_checkBoundsBeginEnd (Nat.le_of_ble_eq_true rfl) (fun κ hκ _ C => ?_)
  have hn : Φ → ((rV st0 Φ, noX) : Ph).1 st0 none := fun q => ⟨rfl, rfl, q⟩
  change X _ _ _ _ _ [(0, .int p1), (1, .int p2), (2, .int p3)] _
  unfold w_J6_checkBoundsBeginEnd at h
  refine X_iload_n C dJ6_checkBoundsBeginEnd_0 rfl 0 rfl ?_
  refine X_iload_n C dJ6_checkBoundsBeginEnd_1 rfl 1 rfl ?_
  refine X_iload_n C dJ6_checkBoundsBeginEnd_2 rfl 2 rfl ?_
  refine X_getsE C (fun s h => h.2.2.2.2.2.2.2.2.1) q1060 rfl dJ6_checkBoundsBeginEnd_3 (fun r1 => ?_)
  have h := h r1
  refine X_callS (As := [_, _, _, _]) (rest := []) C q1376 q1377 q156 q1378 nm_J16_checkFromToIndex rfl dJ6_checkBoundsBeginEnd_6 (m_J16_checkFromToIndex (Cx_l C) (d := d - 1) (by omega) st0 p1 p2 p3 r1 h) (by omega) (by decide) (Nat.le_of_ble_eq_true rfl) (fun s8 w3 hE4 hP5 => ?_) (fun s9 E6 q7 hE4 hP5 => ?_)
  rotate_left
  · exact False.elim hP5
  obtain ⟨r2, rfl, rfl, h⟩ := hP5
  refine X_tls ?_
  refine X_pop C dJ6_checkBoundsBeginEnd_9 rfl ?_
  exact X_vret C rfl dJ6_checkBoundsBeginEnd_10 (hn h)

theorem nm_J6_isLatin1 : yJ6_isLatin1.cls ≠ "java/lang/invoke/MethodHandle" ∧ yJ6_isLatin1.cls ≠ "java/lang/invoke/VarHandle" ∧ (parseMethodDescriptor yJ6_isLatin1.desc).map (fun d => d.parameters.length) = some 0 := by decide +kernel
def w_J6_isLatin1 (st0 : St) (a0 : Nat) (Φ : Int32 → Prop) : Prop := (((sI st0 a0 1) ≠ 0) → Φ 0) ∧ (((sI st0 a0 1) = 0) → Φ 1)
theorem e_J6_isLatin1 : plainFor yJ6_isLatin1 = true := plainFor_of_name (by decide +kernel)
theorem m_J6_isLatin1 {θ : Th} {l : Launch} (hl0 : l.stackTraces = false) (hX : LX θ) {d : Nat} (hd : 0 ≤ d) (st0 : St) (a0 : Nat) (hs_a0 : sh st0 a0 = 10) {Φ : Int32 → Prop} (h : w_J6_isLatin1 st0 a0 Φ) : Ct θ l yJ6_isLatin1 (ws_ yJ6_isLatin1 cJ6_isLatin1 1 (some Jvm.ClassFile.FieldType.boolean)) d [.ref (ad θ a0)] st0 (rI st0 Φ, noX) := by
  refine Ct_entry hl0 e_J6_isLatin1 (Nat.le_of_ble_eq_true rfl) (fun κ hκ _ C => ?_)
  have hn : ∀ r, Φ r → ((rI st0 Φ, noX) : Ph).1 st0 (some (.int r)) := fun r q => ⟨r, rfl, rfl, q⟩
  change X _ _ _ _ _ [(0, .ref (ad θ a0))] _
  unfold w_J6_isLatin1 at h
  refine X_getsZ (v := .int 1) C (fun s h => h.2.2.2.2.2.1) q1121 rfl dJ6_isLatin1_0 ?_
  refine X_if_eq (tgt := 17) C dJ6_isLatin1_3 (by decide) (fun c2 => ?_) (fun c2 => ?_)
  · exact absurd c2 (by decide)
  · refine X_aload_n C dJ6_isLatin1_6 rfl 0 rfl (isRV_r _) ?_
    refine X_get (ci := 9) (j := 1) (q := (RJ6, TJ6, 4)) C rfl (by decide) q1136 rfl dJ6_isLatin1_7 hs_a0 (v := .int (sI st0 a0 1)) rfl ?_
    refine X_if_ne (tgt := 17) C dJ6_isLatin1_10 (by decide) (fun c1 => ?_) (fun c1 => ?_)
    · have h := h.1 c1
      refine X_iconst (v := 0) C dJ6_isLatin1_17 rfl ?_
      exact X_zret C rfl rfl dJ6_isLatin1_18 (hn _ h)
    · have h := h.2 c1
      refine X_iconst (v := 1) C dJ6_isLatin1_13 rfl ?_
      refine X_goto (tgt := 18) C dJ6_isLatin1_14 (by decide) ?_
      exact X_zret C rfl rfl dJ6_isLatin1_18 (hn _ h)

theorem nm_J6_coder : yJ6_coder.cls ≠ "java/lang/invoke/MethodHandle" ∧ yJ6_coder.cls ≠ "java/lang/invoke/VarHandle" ∧ (parseMethodDescriptor yJ6_coder.desc).map (fun d => d.parameters.length) = some 0 := by decide +kernel
def w_J6_coder (st0 : St) (a0 : Nat) (Φ : Int32 → Prop) : Prop := (sI st0 a0 1).toInt8.toInt32 = (sI st0 a0 1) ∧ Φ (sI st0 a0 1)
theorem e_J6_coder : plainFor yJ6_coder = true := plainFor_of_name (by decide +kernel)
theorem m_J6_coder {θ : Th} {l : Launch} (hl0 : l.stackTraces = false) (hX : LX θ) {d : Nat} (hd : 0 ≤ d) (st0 : St) (a0 : Nat) (hs_a0 : sh st0 a0 = 10) {Φ : Int32 → Prop} (h : w_J6_coder st0 a0 Φ) : Ct θ l yJ6_coder (ws_ yJ6_coder cJ6_coder 1 (some Jvm.ClassFile.FieldType.byte)) d [.ref (ad θ a0)] st0 (rI st0 Φ, noX) := by
  refine Ct_entry hl0 e_J6_coder (Nat.le_of_ble_eq_true rfl) (fun κ hκ _ C => ?_)
  have hn : ∀ r, Φ r → ((rI st0 Φ, noX) : Ph).1 st0 (some (.int r)) := fun r q => ⟨r, rfl, rfl, q⟩
  change X _ _ _ _ _ [(0, .ref (ad θ a0))] _
  unfold w_J6_coder at h
  refine X_getsZ (v := .int 1) C (fun s h => h.2.2.2.2.2.1) q1121 rfl dJ6_coder_0 ?_
  refine X_if_eq (tgt := 13) C dJ6_coder_3 (by decide) (fun c2 => ?_) (fun c2 => ?_)
  · exact absurd c2 (by decide)
  · refine X_aload_n C dJ6_coder_6 rfl 0 rfl (isRV_r _) ?_
    refine X_get (ci := 9) (j := 1) (q := (RJ6, TJ6, 4)) C rfl (by decide) q1136 rfl dJ6_coder_7 hs_a0 (v := .int (sI st0 a0 1)) rfl ?_
    refine X_goto (tgt := 14) C dJ6_coder_10 (by decide) ?_
    have g1 := h.1
    have h := h.2
    exact X_zret C rfl (ny_in g1).1 dJ6_coder_14 (hn _ h)

theorem nm_J6_length : yJ6_length.cls ≠ "java/lang/invoke/MethodHandle" ∧ yJ6_length.cls ≠ "java/lang/invoke/VarHandle" ∧ (parseMethodDescriptor yJ6_length.desc).map (fun d => d.parameters.length) = some 0 := by decide +kernel
def w_J6_length (st0 : St) (a0 : Nat) (Φ : Int32 → Prop) : Prop := ∃ r1, (sR st0 a0 0) = some r1 ∧ sh st0 r1 = 103 ∧ w_J6_coder st0 a0 (fun (r4 : Int32) => Φ ((Int32.ofNat (ln st0 r1)) >>> (r4 &&& 31)))
theorem e_J6_length : plainFor yJ6_length = true := plainFor_of_name (by decide +kernel)
theorem m_J6_length {θ : Th} {l : Launch} (hl0 : l.stackTraces = false) (hX : LX θ) {d : Nat} (hd : 1 ≤ d) (st0 : St) (a0 : Nat) (hs_a0 : sh st0 a0 = 10) {Φ : Int32 → Prop} (h : w_J6_length st0 a0 Φ) : Ct θ l yJ6_length (ws_ yJ6_length cJ6_length 1 (some Jvm.ClassFile.FieldType.int)) d [.ref (ad θ a0)] st0 (rI st0 Φ, noX) := by
  refine Ct_entry hl0 e_J6_length (Nat.le_of_ble_eq_true rfl) (fun κ hκ _ C => ?_)
  have hn : ∀ r, Φ r → ((rI st0 Φ, noX) : Ph).1 st0 (some (.int r)) := fun r q => ⟨r, rfl, rfl, q⟩
  change X _ _ _ _ _ [(0, .ref (ad θ a0))] _
  unfold w_J6_length at h
  refine X_aload_n C dJ6_length_0 rfl 0 rfl (isRV_r _) ?_
  refine X_get (ci := 9) (j := 0) (q := (RJ6, TJ6, 4)) C rfl (by decide) q1135 rfl dJ6_length_1 hs_a0 (v := rv θ (sR st0 a0 0)) rfl ?_
  obtain ⟨r1, q2, hs3, h⟩ := h
  rw [q2]
  refine X_tor ?_
  refine X_alen C 2 rfl hs3 (by decide) (v := (Int32.ofNat (ln st0 r1))) rfl dJ6_length_4 ?_
  refine X_aload_n C dJ6_length_5 rfl 0 rfl (isRV_r _) ?_
  refine X_callV (ci := 9) (q := (RJ6, TJ6, 4)) (As := []) (rest := [_]) C rfl hs_a0 q1383 q1384 q1385 q144 q1386 ⟨rfl, nm_J6_coder⟩ rfl dJ6_length_6 (m_J6_coder (Cx_l C) hX (d := d - 1) (by omega) st0 a0 hs_a0 h) (by omega) (by decide) (Nat.le_of_ble_eq_true rfl) (fun s10 w5 hE6 hP7 => ?_) (fun s11 E8 q9 hE6 hP7 => ?_)
  rotate_left
  · exact False.elim hP7
  obtain ⟨r4, rfl, rfl, h⟩ := hP7
  refine X_tls ?_
  refine X_ishr C dJ6_length_9 ?_
  exact X_iret C rfl dJ6_length_10 (hn _ h)

theorem nm_J6_isEmpty : yJ6_isEmpty.cls ≠ "java/lang/invoke/MethodHandle" ∧ yJ6_isEmpty.cls ≠ "java/lang/invoke/VarHandle" ∧ (parseMethodDescriptor yJ6_isEmpty.desc).map (fun d => d.parameters.length) = some 0 := by decide +kernel
def w_J6_isEmpty (st0 : St) (a0 : Nat) (Φ : Int32 → Prop) : Prop := ∃ r1, (sR st0 a0 0) = some r1 ∧ sh st0 r1 = 103 ∧ (((Int32.ofNat (ln st0 r1)) ≠ 0) → Φ 0) ∧ (((Int32.ofNat (ln st0 r1)) = 0) → Φ 1)
theorem e_J6_isEmpty : plainFor yJ6_isEmpty = true := plainFor_of_name (by decide +kernel)
theorem m_J6_isEmpty {θ : Th} {l : Launch} (hl0 : l.stackTraces = false) (hX : LX θ) {d : Nat} (hd : 0 ≤ d) (st0 : St) (a0 : Nat) (hs_a0 : sh st0 a0 = 10) {Φ : Int32 → Prop} (h : w_J6_isEmpty st0 a0 Φ) : Ct θ l yJ6_isEmpty (ws_ yJ6_isEmpty cJ6_isEmpty 1 (some Jvm.ClassFile.FieldType.boolean)) d [.ref (ad θ a0)] st0 (rI st0 Φ, noX) := by
  refine Ct_entry hl0 e_J6_isEmpty (Nat.le_of_ble_eq_true rfl) (fun κ hκ _ C => ?_)
  have hn : ∀ r, Φ r → ((rI st0 Φ, noX) : Ph).1 st0 (some (.int r)) := fun r q => ⟨r, rfl, rfl, q⟩
  change X _ _ _ _ _ [(0, .ref (ad θ a0))] _
  unfold w_J6_isEmpty at h
  refine X_aload_n C dJ6_isEmpty_0 rfl 0 rfl (isRV_r _) ?_
  refine X_get (ci := 9) (j := 0) (q := (RJ6, TJ6, 4)) C rfl (by decide) q1135 rfl dJ6_isEmpty_1 hs_a0 (v := rv θ (sR st0 a0 0)) rfl ?_
  obtain ⟨r1, q2, hs3, h⟩ := h
  rw [q2]
  refine X_tor ?_
  refine X_alen C 2 rfl hs3 (by decide) (v := (Int32.ofNat (ln st0 r1))) rfl dJ6_isEmpty_4 ?_
  refine X_if_ne (tgt := 12) C dJ6_isEmpty_5 (by decide) (fun c4 => ?_) (fun c4 => ?_)
  · have h := h.1 c4
    refine X_iconst (v := 0) C dJ6_isEmpty_12 rfl ?_
    exact X_zret C rfl rfl dJ6_isEmpty_13 (hn _ h)
  · have h := h.2 c4
    refine X_iconst (v := 1) C dJ6_isEmpty_8 rfl ?_
    refine X_goto (tgt := 13) C dJ6_isEmpty_9 (by decide) ?_
    exact X_zret C rfl rfl dJ6_isEmpty_13 (hn _ h)

theorem nm_J15_charAt : yJ15_charAt.cls ≠ "java/lang/invoke/MethodHandle" ∧ yJ15_charAt.cls ≠ "java/lang/invoke/VarHandle" ∧ (parseMethodDescriptor yJ15_charAt.desc).map (fun d => d.parameters.length) = some 2 := by decide +kernel
def w_J15_charAt (st0 : St) (p1 : Nat) (p2 : Int32) (Φ : Int32 → Prop) : Prop := w_J6_checkIndex st0 p2 (Int32.ofNat (ln st0 p1)) (vp_in p2 (ln st0 p1) ∧ (0 ≤ ((((sI st0 p1 (p2).toNatClampNeg) &&& 255).toUInt32 % 65536).toInt32).toInt ∧ ((((sI st0 p1 (p2).toNatClampNeg) &&& 255).toUInt32 % 65536).toInt32).toInt < 65536) ∧ Φ (((sI st0 p1 (p2).toNatClampNeg) &&& 255).toUInt32 % 65536).toInt32)
theorem e_J15_charAt : plainFor yJ15_charAt = true := plainFor_of_name (by decide +kernel)
theorem m_J15_charAt {θ : Th} {l : Launch} (hl0 : l.stackTraces = false) (hX : LX θ) {d : Nat} (hd : 2 ≤ d) (st0 : St) (p1 : Nat) (p2 : Int32) (hs_p1 : sh st0 p1 = 103) {Φ : Int32 → Prop} (h : w_J15_charAt st0 p1 p2 Φ) : Ct θ l yJ15_charAt (ws_ yJ15_charAt cJ15_charAt 2 (some Jvm.ClassFile.FieldType.char)) d [.ref (ad θ p1), .int p2] st0 (rI st0 Φ, noX) := by
  refine Ct_entry hl0 e_J15_charAt (Nat.le_of_ble_eq_true rfl) (fun κ hκ _ C => ?_)
  have hn : ∀ r, Φ r → ((rI st0 Φ, noX) : Ph).1 st0 (some (.int r)) := fun r q => ⟨r, rfl, rfl, q⟩
  change X _ _ _ _ _ [(0, .ref (ad θ p1)), (1, .int p2)] _
  unfold w_J15_charAt at h
  refine X_iload_n C dJ15_charAt_0 rfl 1 rfl ?_
  refine X_aload_n C dJ15_charAt_1 rfl 0 rfl (isRV_r _) ?_
  refine X_alen C 2 rfl hs_p1 (by decide) (v := (Int32.ofNat (ln st0 p1))) rfl dJ15_charAt_2 ?_
  refine X_callS (As := [_, _]) (rest := []) C q1619 q1081 q144 q1082 nm_J6_checkIndex rfl dJ15_charAt_3 (m_J6_checkIndex (Cx_l C) (d := d - 1) (by omega) st0 p2 (Int32.ofNat (ln st0 p1)) h) (by omega) (by decide) (Nat.le_of_ble_eq_true rfl) (fun s7 w2 hE3 hP4 => ?_) (fun s8 E5 q6 hE3 hP4 => ?_)
  rotate_left
  · exact False.elim hP4
  obtain ⟨rfl, rfl, h⟩ := hP4
  refine X_tln ?_
  refine X_aload_n C dJ15_charAt_6 rfl 0 rfl (isRV_r _) ?_
  refine X_iload_n C dJ15_charAt_7 rfl 1 rfl ?_
  have g9 := h.1
  have h := h.2
  refine X_baldD C hs_p1 rfl g9 rfl dJ15_charAt_8 ?_
  refine X_sipush (v := 255) C dJ15_charAt_9 rfl ?_
  refine X_iand C dJ15_charAt_12 ?_
  refine X_i2c C dJ15_charAt_13 ?_
  have g10 := h.1
  have h := h.2
  exact X_zret C rfl (nc_in g10).1 dJ15_charAt_14 (hn _ h)

theorem nm_J6_charAt : yJ6_charAt.cls ≠ "java/lang/invoke/MethodHandle" ∧ yJ6_charAt.cls ≠ "java/lang/invoke/VarHandle" ∧ (parseMethodDescriptor yJ6_charAt.desc).map (fun d => d.parameters.length) = some 1 := by decide +kernel
def w_J6_charAt (st0 : St) (a0 : Nat) (p1 : Int32) (Φ : Int32 → Prop) : Prop := w_J6_isLatin1 st0 a0 (fun (r1 : Int32) => ((r1 = 0) → False) ∧ ((¬ r1 = 0) → ∃ r13, (sR st0 a0 0) = some r13 ∧ sh st0 r13 = 103 ∧ w_J15_charAt st0 r13 p1 (fun (r16 : Int32) => (0 ≤ r16.toInt ∧ r16.toInt < 65536) ∧ Φ r16)))
theorem e_J6_charAt : plainFor yJ6_charAt = true := plainFor_of_name (by decide +kernel)
theorem m_J6_charAt {θ : Th} {l : Launch} (hl0 : l.stackTraces = false) (hX : LX θ) {d : Nat} (hd : 3 ≤ d) (st0 : St) (a0 : Nat) (p1 : Int32) (hs_a0 : sh st0 a0 = 10) {Φ : Int32 → Prop} (h : w_J6_charAt st0 a0 p1 Φ) : Ct θ l yJ6_charAt (ws_ yJ6_charAt cJ6_charAt 2 (some Jvm.ClassFile.FieldType.char)) d [.ref (ad θ a0), .int p1] st0 (rI st0 Φ, noX) := by
  refine Ct_entry hl0 e_J6_charAt (Nat.le_of_ble_eq_true rfl) (fun κ hκ _ C => ?_)
  have hn : ∀ r, Φ r → ((rI st0 Φ, noX) : Ph).1 st0 (some (.int r)) := fun r q => ⟨r, rfl, rfl, q⟩
  change X _ _ _ _ _ [(0, .ref (ad θ a0)), (1, .int p1)] _
  unfold w_J6_charAt at h
  refine X_aload_n C dJ6_charAt_0 rfl 0 rfl (isRV_r _) ?_
  refine X_callV (ci := 9) (q := (RJ6, TJ6, 4)) (As := []) (rest := []) C rfl hs_a0 q1177 q1178 q1179 q144 q1180 ⟨rfl, nm_J6_isLatin1⟩ rfl dJ6_charAt_1 (m_J6_isLatin1 (Cx_l C) hX (d := d - 1) (by omega) st0 a0 hs_a0 h) (by omega) (by decide) (Nat.le_of_ble_eq_true rfl) (fun s7 w2 hE3 hP4 => ?_) (fun s8 E5 q6 hE3 hP4 => ?_)
  rotate_left
  · exact False.elim hP4
  obtain ⟨r1, rfl, rfl, h⟩ := hP4
  refine X_tls ?_
  refine X_if_eq (tgt := 16) C dJ6_charAt_4 (by decide) (fun c9 => ?_) (fun c9 => ?_)
  · have h := h.1 c9
    exact h.elim
  · have h := h.2 c9
    refine X_aload_n C dJ6_charAt_7 rfl 0 rfl (isRV_r _) ?_
    refine X_get (ci := 9) (j := 0) (q := (RJ6, TJ6, 4)) C rfl (by decide) q1135 rfl dJ6_charAt_8 hs_a0 (v := rv θ (sR st0 a0 0)) rfl ?_
    obtain ⟨r13, q14, hs15, h⟩ := h
    rw [q14]
    refine X_tor ?_
    refine X_iload_n C dJ6_charAt_11 rfl 1 rfl ?_
    refine X_callS (As := [_, _]) (rest := []) C q1616 q1617 q155 q1618 nm_J15_charAt rfl dJ6_charAt_12 (m_J15_charAt (Cx_l C) hX (d := d - 1) (by omega) st0 r13 p1 hs15 h) (by omega) (by decide) (Nat.le_of_ble_eq_true rfl) (fun s22 w17 hE18 hP19 => ?_) (fun s23 E20 q21 hE18 hP19 => ?_)
    rotate_left
    · exact False.elim hP19
    obtain ⟨r16, rfl, rfl, h⟩ := hP19
    refine X_tls ?_
    have g24 := h.1
    have h := h.2
    exact X_zret C rfl (nc_in g24).1 dJ6_charAt_15 (hn _ h)

theorem nm_J15_equals : yJ15_equals.cls ≠ "java/lang/invoke/MethodHandle" ∧ yJ15_equals.cls ≠ "java/lang/invoke/VarHandle" ∧ (parseMethodDescriptor yJ15_equals.desc).map (fun d => d.parameters.length) = some 2 := by decide +kernel
def w_J15_equals_l9 (Φ : Int32 → Prop) (E24 : St → Prop) (E32 : St → Prop) : Nat → St → Nat → Nat → Int32 → Prop
  | 0, _, _, _, _ => False
  | n + 1, st0, x0, x1, x2 => (((Int32.ofNat (ln st0 x0)) ≤ x2) → E32 st0) ∧ ((¬ (Int32.ofNat (ln st0 x0)) ≤ x2) → vp_in x2 (ln st0 x0) ∧ vp_in x2 (ln st0 x1) ∧ (((sI st0 x0 (x2).toNatClampNeg) = (sI st0 x1 (x2).toNatClampNeg)) → w_J15_equals_l9 Φ E24 E32 n st0 x0 x1 (x2 + 1)) ∧ ((¬ (sI st0 x0 (x2).toNatClampNeg) = (sI st0 x1 (x2).toNatClampNeg)) → E24 st0))
theorem t_J15_equals_l9 {θ : Th} {κ : Kx} {Ph : Ph} (hX : LX θ) {st0 : St} {d : Nat} (hd : 0 ≤ d) (C : Cx θ κ yJ15_equals cJ15_equals 3 (some Jvm.ClassFile.FieldType.boolean) [] d) {Φ : Int32 → Prop} (hn : ∀ r, Φ r → Ph.1 st0 (some (.int r))) {E24 : St → Prop} {E32 : St → Prop} (hE24 : E24 st0 → X θ κ Ph st0 24 [] []) (hE32 : E32 st0 → X θ κ Ph st0 32 [] []) : ∀ (n : Nat) (x0 : Nat) (x1 : Nat) (x2 : Int32), sh st0 x0 = 103 → sh st0 x1 = 103 → w_J15_equals_l9 Φ E24 E32 n st0 x0 x1 x2 → X θ κ Ph st0 9 [(0, .ref (ad θ x0)), (1, .ref (ad θ x1)), (2, .int x2)] [] := by
  intro n
  induction n with
  | zero => intro x0 x1 x2 hs_x0 hs_x1 h; exact h.elim
  | succ n hK9 =>
    intro x0 x1 x2 hs_x0 hs_x1 h
    rw [w_J15_equals_l9] at h
    refine X_iload_n C dJ15_equals_9 rfl 2 rfl ?_
    refine X_aload_n C dJ15_equals_10 rfl 0 rfl (isRV_r _) ?_
    refine X_alen C 2 rfl hs_x0 (by decide) (v := (Int32.ofNat (ln st0 x0))) rfl dJ15_equals_11 ?_
    refine X_icmp_ge (tgt := 32) C dJ15_equals_12 (by decide) (fun c2 => ?_) (fun c2 => ?_)
    · have h := h.1 c2
      refine X_sub [] (lo2 := []) rfl ?_
      exact hE32 h
    · have h := h.2 c2
      refine X_aload_n C dJ15_equals_15 rfl 0 rfl (isRV_r _) ?_
      refine X_iload_n C dJ15_equals_16 rfl 2 rfl ?_
      have g3 := h.1
      have h := h.2
      refine X_baldD C hs_x0 rfl g3 rfl dJ15_equals_17 ?_
      refine X_aload_n C dJ15_equals_18 rfl 1 rfl (isRV_r _) ?_
      refine X_iload_n C dJ15_equals_19 rfl 2 rfl ?_
      have g4 := h.1
      have h := h.2
      refine X_baldD C hs_x1 rfl g4 rfl dJ15_equals_20 ?_
      refine X_icmp_eq (tgt := 26) C dJ15_equals_21 (by decide) (fun c5 => ?_) (fun c5 => ?_)
      · have h := h.1 c5
        refine X_iinc (v := (x2 + 1)) C (j := 2) dJ15_equals_26 rfl rfl (lo2 := [(2, _), (0, _), (1, _)]) (by decide) rfl ?_
        refine X_goto (tgt := 9) C dJ15_equals_29 (by decide) ?_
        refine X_sub [1, 2, 0] (lo2 := [(0, _), (1, _), (2, _)]) rfl ?_
        exact hK9 x0 x1 (x2 + 1) hs_x0 hs_x1 h
      · have h := h.2 c5
        refine X_sub [] (lo2 := []) rfl ?_
        exact hE24 h
def w_J15_equals_b24 (Φ : Int32 → Prop) (st0 : St) : Prop := Φ 0
theorem t_J15_equals_b24 {θ : Th} {κ : Kx} {Ph : Ph} (hX : LX θ) {st0 : St} {d : Nat} (hd : 0 ≤ d) (C : Cx θ κ yJ15_equals cJ15_equals 3 (some Jvm.ClassFile.FieldType.boolean) [] d) {Φ : Int32 → Prop} (hn : ∀ r, Φ r → Ph.1 st0 (some (.int r))) (h : w_J15_equals_b24 Φ st0) : X θ κ Ph st0 24 [] [] := by
  unfold w_J15_equals_b24 at h
  refine X_iconst (v := 0) C dJ15_equals_24 rfl ?_
  exact X_zret C rfl rfl dJ15_equals_25 (hn _ h)
def w_J15_equals_b32 (Φ : Int32 → Prop) (st0 : St) : Prop := Φ 1
theorem t_J15_equals_b32 {θ : Th} {κ : Kx} {Ph : Ph} (hX : LX θ) {st0 : St} {d : Nat} (hd : 0 ≤ d) (C : Cx θ κ yJ15_equals cJ15_equals 3 (some Jvm.ClassFile.FieldType.boolean) [] d) {Φ : Int32 → Prop} (hn : ∀ r, Φ r → Ph.1 st0 (some (.int r))) (h : w_J15_equals_b32 Φ st0) : X θ κ Ph st0 32 [] [] := by
  unfold w_J15_equals_b32 at h
  refine X_iconst (v := 1) C dJ15_equals_32 rfl ?_
  exact X_zret C rfl rfl dJ15_equals_33 (hn _ h)
def w_J15_equals (st0 : St) (p1 : Nat) (p2 : Nat) (Φ : Int32 → Prop) : Prop := (((Int32.ofNat (ln st0 p1)) ≠ (Int32.ofNat (ln st0 p2))) → Φ 0) ∧ (((Int32.ofNat (ln st0 p1)) = (Int32.ofNat (ln st0 p2))) → w_J15_equals_l9 Φ (fun (_ : St) => w_J15_equals_b24 Φ st0) (fun (_ : St) => w_J15_equals_b32 Φ st0) gFU st0 p1 p2 0)
theorem e_J15_equals : plainFor yJ15_equals = true := plainFor_of_name (by decide +kernel)
theorem m_J15_equals {θ : Th} {l : Launch} (hl0 : l.stackTraces = false) (hX : LX θ) {d : Nat} (hd : 0 ≤ d) (st0 : St) (p1 : Nat) (p2 : Nat) (hs_p1 : sh st0 p1 = 103) (hs_p2 : sh st0 p2 = 103) {Φ : Int32 → Prop} (h : w_J15_equals st0 p1 p2 Φ) : Ct θ l yJ15_equals (ws_ yJ15_equals cJ15_equals 3 (some Jvm.ClassFile.FieldType.boolean)) d [.ref (ad θ p1), .ref (ad θ p2)] st0 (rI st0 Φ, noX) := by
  refine Ct_entry hl0 e_J15_equals (Nat.le_of_ble_eq_true rfl) (fun κ hκ _ C => ?_)
  have hn : ∀ r, Φ r → ((rI st0 Φ, noX) : Ph).1 st0 (some (.int r)) := fun r q => ⟨r, rfl, rfl, q⟩
  change X _ _ _ _ _ [(0, .ref (ad θ p1)), (1, .ref (ad θ p2))] _
  unfold w_J15_equals at h
  refine X_aload_n C dJ15_equals_0 rfl 0 rfl (isRV_r _) ?_
  refine X_alen C 2 rfl hs_p1 (by decide) (v := (Int32.ofNat (ln st0 p1))) rfl dJ15_equals_1 ?_
  refine X_aload_n C dJ15_equals_2 rfl 1 rfl (isRV_r _) ?_
  refine X_alen C 2 rfl hs_p2 (by decide) (v := (Int32.ofNat (ln st0 p2))) rfl dJ15_equals_3 ?_
  refine X_icmp_ne (tgt := 34) C dJ15_equals_4 (by decide) (fun c1 => ?_) (fun c1 => ?_)
  · have h := h.1 c1
    refine X_iconst (v := 0) C dJ15_equals_34 rfl ?_
    exact X_zret C rfl rfl dJ15_equals_35 (hn _ h)
  · have h := h.2 c1
    refine X_iconst (v := 0) C dJ15_equals_7 rfl ?_
    refine X_istore_n C dJ15_equals_8 rfl (lo2 := [(2, _), (0, _), (1, _)]) (by decide) rfl ?_
    refine X_sub [1, 2, 0] (lo2 := [(0, _), (1, _), (2, _)]) rfl ?_
    refine t_J15_equals_l9 hX hd C hn ?_ ?_ gFU p1 p2 0 hs_p1 hs_p2 h
    · intro h
      exact t_J15_equals_b24 hX hd C hn h
    · intro h
      exact t_J15_equals_b32 hX hd C hn h

theorem nm_J6_equals : yJ6_equals.cls ≠ "java/lang/invoke/MethodHandle" ∧ yJ6_equals.cls ≠ "java/lang/invoke/VarHandle" ∧ (parseMethodDescriptor yJ6_equals.desc).map (fun d => d.parameters.length) = some 1 := by decide +kernel
def w_J6_equals_b36 (Φ : Int32 → Prop) (st0 : St) (x0 : Nat) (x2 : Nat) : Prop := ∃ r3, (sR st0 x0 0) = some r3 ∧ sh st0 r3 = 103 ∧ ∃ r6, (sR st0 x2 0) = some r6 ∧ sh st0 r6 = 103 ∧ w_J15_equals st0 r3 r6 (fun (r9 : Int32) => ((r9 = 0) → Φ 0) ∧ ((¬ r9 = 0) → Φ 1))
theorem t_J6_equals_b36 {θ : Th} {κ : Kx} {Ph : Ph} (hX : LX θ) {st0 : St} {d : Nat} (hd : 1 ≤ d) (C : Cx θ κ yJ6_equals cJ6_equals 3 (some Jvm.ClassFile.FieldType.boolean) [] d) {Φ : Int32 → Prop} (hn : ∀ r, Φ r → Ph.1 st0 (some (.int r))) (x0 : Nat) (x2 : Nat) (hs_x0 : sh st0 x0 = 10) (hs_x2 : sh st0 x2 = 10) (h : w_J6_equals_b36 Φ st0 x0 x2) : X θ κ Ph st0 36 [(0, .ref (ad θ x0)), (2, .ref (ad θ x2))] [] := by
  unfold w_J6_equals_b36 at h
  refine X_aload_n C dJ6_equals_36 rfl 0 rfl (isRV_r _) ?_
  refine X_get (ci := 9) (j := 0) (q := (RJ6, TJ6, 4)) C rfl (by decide) q1135 rfl dJ6_equals_37 hs_x0 (v := rv θ (sR st0 x0 0)) rfl ?_
  obtain ⟨r3, q4, hs5, h⟩ := h
  rw [q4]
  refine X_tor ?_
  refine X_aload_n C dJ6_equals_40 rfl 1 rfl (isRV_r _) ?_
  refine X_get (ci := 9) (j := 0) (q := (RJ6, TJ6, 4)) C rfl (by decide) q1135 rfl dJ6_equals_41 hs_x2 (v := rv θ (sR st0 x2 0)) rfl ?_
  obtain ⟨r6, q7, hs8, h⟩ := h
  rw [q7]
  refine X_tor ?_
  refine X_callS (As := [_, _]) (rest := []) C q1232 q1233 q155 q1234 nm_J15_equals rfl dJ6_equals_44 (m_J15_equals (Cx_l C) hX (d := d - 1) (by omega) st0 r3 r6 hs5 hs8 h) (by omega) (by decide) (Nat.le_of_ble_eq_true rfl) (fun s15 w10 hE11 hP12 => ?_) (fun s16 E13 q14 hE11 hP12 => ?_)
  rotate_left
  · exact False.elim hP12
  obtain ⟨r9, rfl, rfl, h⟩ := hP12
  refine X_tls ?_
  refine X_if_eq (tgt := 54) C dJ6_equals_47 (by decide) (fun c17 => ?_) (fun c17 => ?_)
  · have h := h.1 c17
    refine X_iconst (v := 0) C dJ6_equals_54 rfl ?_
    exact X_zret C rfl rfl dJ6_equals_55 (hn _ h)
  · have h := h.2 c17
    refine X_iconst (v := 1) C dJ6_equals_50 rfl ?_
    refine X_goto (tgt := 55) C dJ6_equals_51 (by decide) ?_
    exact X_zret C rfl rfl dJ6_equals_55 (hn _ h)
def w_J6_equals (st0 : St) (a0 : Nat) (p1 : Nat) (Φ : Int32 → Prop) : Prop := (a0 ≠ p1 → (((sI st0 a0 1) ≠ (sI st0 p1 1)) → Φ 0) ∧ (((sI st0 a0 1) = (sI st0 p1 1)) → w_J6_equals_b36 Φ st0 a0 p1)) ∧ (SameS st0 a0 p1 → Φ 1)
theorem e_J6_equals : plainFor yJ6_equals = true := plainFor_of_name (by decide +kernel)
theorem m_J6_equals {θ : Th} {l : Launch} (hl0 : l.stackTraces = false) (hX : LX θ) {d : Nat} (hd : 1 ≤ d) (st0 : St) (a0 : Nat) (p1 : Nat) (hs_a0 : sh st0 a0 = 10) (hs_p1 : sh st0 p1 = 10) {Φ : Int32 → Prop} (h : w_J6_equals st0 a0 p1 Φ) : Ct θ l yJ6_equals (ws_ yJ6_equals cJ6_equals 3 (some Jvm.ClassFile.FieldType.boolean)) d [.ref (ad θ a0), .ref (ad θ p1)] st0 (rI st0 Φ, noX) := by
  refine Ct_entry hl0 e_J6_equals (Nat.le_of_ble_eq_true rfl) (fun κ hκ _ C => ?_)
  have hn : ∀ r, Φ r → ((rI st0 Φ, noX) : Ph).1 st0 (some (.int r)) := fun r q => ⟨r, rfl, rfl, q⟩
  change X _ _ _ _ _ [(0, .ref (ad θ a0)), (1, .ref (ad θ p1))] _
  unfold w_J6_equals at h
  refine X_aload_n C dJ6_equals_0 rfl 0 rfl (isRV_r _) ?_
  refine X_aload_n C dJ6_equals_1 rfl 1 rfl (isRV_r _) ?_
  refine X_acmpS (tgt := 7) C hs_a0 hs_p1 dJ6_equals_2 (by decide) (fun c1 => ?_) (fun c1 => ?_)
  · have h := h.1 c1
    refine X_aload_n C dJ6_equals_7 rfl 1 rfl (isRV_r _) ?_
    refine X_instO (ci := 9) (q := (RJ6, TJ6, 4)) C rfl hs_p1 rfl q1231 dJ6_equals_8 ?_
    refine X_if_eq (tgt := 54) C dJ6_equals_11 (by decide) (fun c19 => ?_) (fun c19 => ?_)
    · exact absurd c19 (by decide)
    · refine X_aload_n C dJ6_equals_14 rfl 1 rfl (isRV_r _) ?_
      refine X_castO (ci := 9) (q := (RJ6, TJ6, 4)) C rfl hs_p1 rfl q1231 dJ6_equals_15 ?_
      refine X_astore_n C dJ6_equals_18 rfl (isRV_r _) (lo2 := [(2, _), (0, _), (1, _)]) (by decide) rfl ?_
      refine X_getsZ (v := .int 1) C (fun s h => h.2.2.2.2.2.1) q1121 rfl dJ6_equals_19 ?_
      refine X_if_eq (tgt := 36) C dJ6_equals_22 (by decide) (fun c18 => ?_) (fun c18 => ?_)
      · exact absurd c18 (by decide)
      · refine X_aload_n C dJ6_equals_25 rfl 1 rfl (isRV_r _) ?_
        refine X_get (ci := 9) (j := 1) (q := (RJ6, TJ6, 4)) C rfl (by decide) q1136 rfl dJ6_equals_26 hs_a0 (v := .int (sI st0 a0 1)) rfl ?_
        refine X_aload_n C dJ6_equals_29 rfl 0 rfl (isRV_r _) ?_
        refine X_get (ci := 9) (j := 1) (q := (RJ6, TJ6, 4)) C rfl (by decide) q1136 rfl dJ6_equals_30 hs_p1 (v := .int (sI st0 p1 1)) rfl ?_
        refine X_icmp_ne (tgt := 54) C dJ6_equals_33 (by decide) (fun c2 => ?_) (fun c2 => ?_)
        · have h := h.1 c2
          refine X_iconst (v := 0) C dJ6_equals_54 rfl ?_
          exact X_zret C rfl rfl dJ6_equals_55 (hn _ h)
        · have h := h.2 c2
          refine X_sub [1, 0] (lo2 := [(0, _), (2, _)]) rfl ?_
          exact t_J6_equals_b36 hX hd C hn a0 p1 hs_a0 hs_p1 h
  · have h := h.2 c1
    refine X_iconst (v := 1) C dJ6_equals_5 rfl ?_
    exact X_zret C rfl rfl dJ6_equals_6 (hn _ h)

theorem nm_J13_signedHashCode : yJ13_signedHashCode.cls ≠ "java/lang/invoke/MethodHandle" ∧ yJ13_signedHashCode.cls ≠ "java/lang/invoke/VarHandle" ∧ (parseMethodDescriptor yJ13_signedHashCode.desc).map (fun d => d.parameters.length) = some 4 := by decide +kernel
def w_J13_signedHashCode_l8 (Φ : Int32 → Prop) (E35 : St → Int32 → Prop) : Nat → St → Int32 → Nat → Int32 → Int32 → Prop
  | 0, _, _, _, _, _ => False
  | n + 1, st0, x0, x1, x4, x5 => ((x4 ≤ x5) → E35 st0 x0) ∧ ((¬ x4 ≤ x5) → vp_in x5 (ln st0 x1) ∧ ∀ v5 : Int32, v5 = ((31 * x0) + ((sI st0 x1 (x5).toNatClampNeg) &&& 255)) → w_J13_signedHashCode_l8 Φ E35 n st0 v5 x1 x4 (x5 + 1))
theorem t_J13_signedHashCode_l8 {θ : Th} {κ : Kx} {Ph : Ph} (hX : LX θ) {st0 : St} {d : Nat} (hd : 0 ≤ d) (C : Cx θ κ yJ13_signedHashCode cJ13_signedHashCode 6 (some Jvm.ClassFile.FieldType.int) [] d) {Φ : Int32 → Prop} (hn : ∀ r, Φ r → Ph.1 st0 (some (.int r))) {E35 : St → Int32 → Prop} (hE35 : ∀ (x0 : Int32), E35 st0 x0 → X θ κ Ph st0 35 [(0, .int x0)] []) : ∀ (n : Nat) (x0 : Int32) (x1 : Nat) (x4 : Int32) (x5 : Int32), sh st0 x1 = 103 → w_J13_signedHashCode_l8 Φ E35 n st0 x0 x1 x4 x5 → X θ κ Ph st0 8 [(0, .int x0), (1, .ref (ad θ x1)), (4, .int x4), (5, .int x5)] [] := by
  intro n
  induction n with
  | zero => intro x0 x1 x4 x5 hs_x1 h; exact h.elim
  | succ n hK8 =>
    intro x0 x1 x4 x5 hs_x1 h
    rw [w_J13_signedHashCode_l8] at h
    refine X_iload C dJ13_signedHashCode_8 3 rfl ?_
    refine X_iload C dJ13_signedHashCode_10 2 rfl ?_
    refine X_icmp_ge (tgt := 35) C dJ13_signedHashCode_12 (by decide) (fun c3 => ?_) (fun c3 => ?_)
    · have h := h.1 c3
      refine X_sub [0] (lo2 := [(0, _)]) rfl ?_
      exact hE35 x0 h
    · have h := h.2 c3
      refine X_bipush (v := 31) C dJ13_signedHashCode_15 rfl ?_
      refine X_iload_n C dJ13_signedHashCode_17 rfl 0 rfl ?_
      refine X_imul C dJ13_signedHashCode_18 ?_
      refine X_aload_n C dJ13_signedHashCode_19 rfl 1 rfl (isRV_r _) ?_
      refine X_iload C dJ13_signedHashCode_20 3 rfl ?_
      have g4 := h.1
      have h := h.2
      refine X_baldD C hs_x1 rfl g4 rfl dJ13_signedHashCode_22 ?_
      refine X_sipush (v := 255) C dJ13_signedHashCode_23 rfl ?_
      refine X_iand C dJ13_signedHashCode_26 ?_
      refine X_iadd C dJ13_signedHashCode_27 ?_
      refine X_topi (fun v5 e6 => ?_)
      have h := h v5 e6
      refine X_istore_n C dJ13_signedHashCode_28 rfl (lo2 := [(0, _), (1, _), (4, _), (5, _)]) (by decide) rfl ?_
      refine X_iinc (v := (x5 + 1)) C (j := 3) dJ13_signedHashCode_29 rfl rfl (lo2 := [(5, _), (0, _), (1, _), (4, _)]) (by decide) rfl ?_
      refine X_goto (tgt := 8) C dJ13_signedHashCode_32 (by decide) ?_
      refine X_sub [1, 2, 3, 0] (lo2 := [(0, _), (1, _), (4, _), (5, _)]) rfl ?_
      exact hK8 v5 x1 x4 (x5 + 1) hs_x1 h
def w_J13_signedHashCode_b35 (Φ : Int32 → Prop) (st0 : St) (x0 : Int32) : Prop := Φ x0
theorem t_J13_signedHashCode_b35 {θ : Th} {κ : Kx} {Ph : Ph} (hX : LX θ) {st0 : St} {d : Nat} (hd : 0 ≤ d) (C : Cx θ κ yJ13_signedHashCode cJ13_signedHashCode 6 (some Jvm.ClassFile.FieldType.int) [] d) {Φ : Int32 → Prop} (hn : ∀ r, Φ r → Ph.1 st0 (some (.int r))) (x0 : Int32) (h : w_J13_signedHashCode_b35 Φ st0 x0) : X θ κ Ph st0 35 [(0, .int x0)] [] := by
  unfold w_J13_signedHashCode_b35 at h
  refine X_iload_n C dJ13_signedHashCode_35 rfl 0 rfl ?_
  exact X_iret C rfl dJ13_signedHashCode_36 (hn _ h)
def w_J13_signedHashCode (st0 : St) (p1 : Int32) (p2 : Nat) (p3 : Int32) (p4 : Int32) (Φ : Int32 → Prop) : Prop := ∀ v1 : Int32, v1 = (p3 + p4) → w_J13_signedHashCode_l8 Φ (fun (_ : St) (x0 : Int32) => w_J13_signedHashCode_b35 Φ st0 x0) gFU st0 p1 p2 v1 p3
theorem e_J13_signedHashCode : plainFor yJ13_signedHashCode = true := plainFor_of_name (by decide +kernel)
theorem m_J13_signedHashCode {θ : Th} {l : Launch} (hl0 : l.stackTraces = false) (hX : LX θ) {d : Nat} (hd : 0 ≤ d) (st0 : St) (p1 : Int32) (p2 : Nat) (p3 : Int32) (p4 : Int32) (hs_p2 : sh st0 p2 = 103) {Φ : Int32 → Prop} (h : w_J13_signedHashCode st0 p1 p2 p3 p4 Φ) : Ct θ l yJ13_signedHashCode (ws_ yJ13_signedHashCode cJ13_signedHashCode 6 (some Jvm.ClassFile.FieldType.int)) d [.int p1, .ref (ad θ p2), .int p3, .int p4] st0 (rI st0 Φ, noX) := by
  refine Ct_entry hl0 e_J13_signedHashCode (Nat.le_of_ble_eq_true rfl) (fun κ hκ _ C => ?_)
  have hn : ∀ r, Φ r → ((rI st0 Φ, noX) : Ph).1 st0 (some (.int r)) := fun r q => ⟨r, rfl, rfl, q⟩
  change X _ _ _ _ _ [(0, .int p1), (1, .ref (ad θ p2)), (2, .int p3), (3, .int p4)] _
  unfold w_J13_signedHashCode at h
  refine X_iload_n C dJ13_signedHashCode_0 rfl 2 rfl ?_
  refine X_iload_n C dJ13_signedHashCode_1 rfl 3 rfl ?_
  refine X_iadd C dJ13_signedHashCode_2 ?_
  refine X_topi (fun v1 e2 => ?_)
  have h := h v1 e2
  refine X_istore C dJ13_signedHashCode_3 (lo2 := [(4, _), (0, _), (1, _), (2, _), (3, _)]) (by decide) rfl ?_
  refine X_iload_n C dJ13_signedHashCode_5 rfl 3 rfl ?_
  refine X_istore C dJ13_signedHashCode_6 (lo2 := [(5, _), (4, _), (0, _), (1, _), (2, _), (3, _)]) (by decide) rfl ?_
  refine X_sub [2, 3, 1, 0] (lo2 := [(0, _), (1, _), (4, _), (5, _)]) rfl ?_
  refine t_J13_signedHashCode_l8 hX hd C hn ?_ gFU p1 p2 v1 p3 hs_p2 h
  · intro x0 h
    exact t_J13_signedHashCode_b35 hX hd C hn x0 h

theorem nm_J13_vectorizedHashCode : yJ13_vectorizedHashCode.cls ≠ "java/lang/invoke/MethodHandle" ∧ yJ13_vectorizedHashCode.cls ≠ "java/lang/invoke/VarHandle" ∧ (parseMethodDescriptor yJ13_vectorizedHashCode.desc).map (fun d => d.parameters.length) = some 5 := by decide +kernel
def w_J13_vectorizedHashCode (st0 : St) (p1 : Nat) (p2 : Int32) (p3 : Int32) (p4 : Int32) (Φ : Int32 → Prop) : Prop := w_J13_signedHashCode st0 p4 p1 p2 p3 (fun (r1 : Int32) => Φ r1)
theorem e_J13_vectorizedHashCode : plainFor yJ13_vectorizedHashCode = true := plainFor_of_name (by decide +kernel)
theorem m_J13_vectorizedHashCode {θ : Th} {l : Launch} (hl0 : l.stackTraces = false) (hX : LX θ) {d : Nat} (hd : 1 ≤ d) (st0 : St) (p1 : Nat) (p2 : Int32) (p3 : Int32) (p4 : Int32) (hs_p1 : sh st0 p1 = 103) {Φ : Int32 → Prop} (h : w_J13_vectorizedHashCode st0 p1 p2 p3 p4 Φ) : Ct θ l yJ13_vectorizedHashCode (ws_ yJ13_vectorizedHashCode cJ13_vectorizedHashCode 5 (some Jvm.ClassFile.FieldType.int)) d [.ref (ad θ p1), .int p2, .int p3, .int p4, .int 4] st0 (rI st0 Φ, noX) := by
  refine Ct_entry hl0 e_J13_vectorizedHashCode (Nat.le_of_ble_eq_true rfl) (fun κ hκ _ C => ?_)
  have hn : ∀ r, Φ r → ((rI st0 Φ, noX) : Ph).1 st0 (some (.int r)) := fun r q => ⟨r, rfl, rfl, q⟩
  change X _ _ _ _ _ [(0, .ref (ad θ p1)), (1, .int p2), (2, .int p3), (3, .int p4), (4, .int 4)] _
  unfold w_J13_vectorizedHashCode at h
  refine X_iload C dJ13_vectorizedHashCode_0 4 rfl ?_
  refine X_tableIn (tgt := 44) C dJ13_vectorizedHashCode_2 (by decide) (by decide) (off := 42) rfl (by decide) ?_
  refine X_iload_n C dJ13_vectorizedHashCode_44 rfl 3 rfl ?_
  refine X_aload_n C dJ13_vectorizedHashCode_45 rfl 0 rfl (isRV_r _) ?_
  refine X_castT C (by decide) hs_p1 (fun _ h => nm_arrB h) q1187 dJ13_vectorizedHashCode_46 ?_
  refine X_iload_n C dJ13_vectorizedHashCode_49 rfl 1 rfl ?_
  refine X_iload_n C dJ13_vectorizedHashCode_50 rfl 2 rfl ?_
  refine X_callS (As := [_, _, _, _]) (rest := []) C q1188 q1189 q153 q1190 nm_J13_signedHashCode rfl dJ13_vectorizedHashCode_51 (m_J13_signedHashCode (Cx_l C) hX (d := d - 1) (by omega) st0 p4 p1 p2 p3 hs_p1 h) (by omega) (by decide) (Nat.le_of_ble_eq_true rfl) (fun s7 w2 hE3 hP4 => ?_) (fun s8 E5 q6 hE3 hP4 => ?_)
  rotate_left
  · exact False.elim hP4
  obtain ⟨r1, rfl, rfl, h⟩ := hP4
  refine X_tls ?_
  refine X_goto (tgt := 157) C dJ13_vectorizedHashCode_54 (by decide) ?_
  exact X_iret C rfl dJ13_vectorizedHashCode_157 (hn _ h)

theorem nm_J15_hashCode : yJ15_hashCode.cls ≠ "java/lang/invoke/MethodHandle" ∧ yJ15_hashCode.cls ≠ "java/lang/invoke/VarHandle" ∧ (parseMethodDescriptor yJ15_hashCode.desc).map (fun d => d.parameters.length) = some 1 := by decide +kernel
def w_J15_hashCode (st0 : St) (p1 : Nat) (Φ : Int32 → Prop) : Prop := ((Int32.ofNat (ln st0 p1)) = 0 → Φ 0) ∧ ((Int32.ofNat (ln st0 p1)) = 1 → vp_in (0 : Int32) (ln st0 p1) ∧ Φ ((sI st0 p1 (0 : Int32).toNatClampNeg) &&& 255)) ∧ (¬ (Int32.ofNat (ln st0 p1)) = 0 → ¬ (Int32.ofNat (ln st0 p1)) = 1 → w_J13_vectorizedHashCode st0 p1 0 (Int32.ofNat (ln st0 p1)) 0 (fun (r4 : Int32) => Φ r4))
theorem e_J15_hashCode : plainFor yJ15_hashCode = true := plainFor_of_name (by decide +kernel)
theorem m_J15_hashCode {θ : Th} {l : Launch} (hl0 : l.stackTraces = false) (hX : LX θ) {d : Nat} (hd : 2 ≤ d) (st0 : St) (p1 : Nat) (hs_p1 : sh st0 p1 = 103) {Φ : Int32 → Prop} (h : w_J15_hashCode st0 p1 Φ) : Ct θ l yJ15_hashCode (ws_ yJ15_hashCode cJ15_hashCode 1 (some Jvm.ClassFile.FieldType.int)) d [.ref (ad θ p1)] st0 (rI st0 Φ, noX) := by
  refine Ct_entry hl0 e_J15_hashCode (Nat.le_of_ble_eq_true rfl) (fun κ hκ _ C => ?_)
  have hn : ∀ r, Φ r → ((rI st0 Φ, noX) : Ph).1 st0 (some (.int r)) := fun r q => ⟨r, rfl, rfl, q⟩
  change X _ _ _ _ _ [(0, .ref (ad θ p1))] _
  unfold w_J15_hashCode at h
  refine X_aload_n C dJ15_hashCode_0 rfl 0 rfl (isRV_r _) ?_
  refine X_alen C 2 rfl hs_p1 (by decide) (v := (Int32.ofNat (ln st0 p1))) rfl dJ15_hashCode_1 ?_
  by_cases c1 : (Int32.ofNat (ln st0 p1)) = 0
  · have h := h.1 c1
    refine X_lookup (tgt := 28) C dJ15_hashCode_2 (by decide) (off := 26) (by rw [c1]; rfl) (by decide) ?_
    refine X_iconst (v := 0) C dJ15_hashCode_28 rfl ?_
    refine X_goto (tgt := 51) C dJ15_hashCode_29 (by decide) ?_
    exact X_iret C rfl dJ15_hashCode_51 (hn _ h)
  have h := h.2
  by_cases c3 : (Int32.ofNat (ln st0 p1)) = 1
  · have h := h.1 c3
    refine X_lookup (tgt := 32) C dJ15_hashCode_2 (by decide) (off := 30) (by rw [c3]; rfl) (by decide) ?_
    refine X_aload_n C dJ15_hashCode_32 rfl 0 rfl (isRV_r _) ?_
    refine X_iconst (v := 0) C dJ15_hashCode_33 rfl ?_
    have g2 := h.1
    have h := h.2
    refine X_baldD C hs_p1 rfl g2 rfl dJ15_hashCode_34 ?_
    refine X_sipush (v := 255) C dJ15_hashCode_35 rfl ?_
    refine X_iand C dJ15_hashCode_38 ?_
    refine X_goto (tgt := 51) C dJ15_hashCode_39 (by decide) ?_
    exact X_iret C rfl dJ15_hashCode_51 (hn _ h)
  have h := h.2
  have h := h c1 c3
  refine X_lookup (tgt := 42) C dJ15_hashCode_2 (by decide) (off := 40) (lookup_d (fun q_ hq_ => ?_)) (by decide) ?_
  · simp only [List.mem_cons, List.not_mem_nil, or_false] at hq_
    rcases hq_ with rfl | rfl
    · have e_ := ne_toInt c1
      simp only [Int32.reduceToInt] at e_
      exact fun z_ => e_ z_.symm
    · have e_ := ne_toInt c3
      simp only [Int32.reduceToInt] at e_
      exact fun z_ => e_ z_.symm
  · refine X_aload_n C dJ15_hashCode_42 rfl 0 rfl (isRV_r _) ?_
    refine X_iconst (v := 0) C dJ15_hashCode_43 rfl ?_
    refine X_aload_n C dJ15_hashCode_44 rfl 0 rfl (isRV_r _) ?_
    refine X_alen C 2 rfl hs_p1 (by decide) (v := (Int32.ofNat (ln st0 p1))) rfl dJ15_hashCode_45 ?_
    refine X_iconst (v := 0) C dJ15_hashCode_46 rfl ?_
    refine X_iconst (v := 4) C dJ15_hashCode_47 rfl ?_
    refine X_callS (As := [_, _, _, _, _]) (rest := []) C q1184 q1185 q153 q1186 nm_J13_vectorizedHashCode rfl dJ15_hashCode_48 (m_J13_vectorizedHashCode (Cx_l C) hX (d := d - 1) (by omega) st0 p1 0 (Int32.ofNat (ln st0 p1)) 0 hs_p1 h) (by omega) (by decide) (Nat.le_of_ble_eq_true rfl) (fun s10 w5 hE6 hP7 => ?_) (fun s11 E8 q9 hE6 hP7 => ?_)
    rotate_left
    · exact False.elim hP7
    obtain ⟨r4, rfl, rfl, h⟩ := hP7
    refine X_tls ?_
    exact X_iret C rfl dJ15_hashCode_51 (hn _ h)

theorem nm_J6_hashCode : yJ6_hashCode.cls ≠ "java/lang/invoke/MethodHandle" ∧ yJ6_hashCode.cls ≠ "java/lang/invoke/VarHandle" ∧ (parseMethodDescriptor yJ6_hashCode.desc).map (fun d => d.parameters.length) = some 0 := by decide +kernel
def w_J6_hashCode_b40 (Φ : St → Int32 → Prop) (st : St) (x0 : Nat) (z0 : Int32) : Prop := ((z0 ≠ 0) → x0 < gBIG ∧ ∀ s30, s30 = putI st x0 2 z0 → Φ s30 z0) ∧ ((z0 = 0) → x0 < gBIG ∧ ∀ s33, s33 = putI st x0 3 1 → Φ s33 z0)
theorem t_J6_hashCode_b40 {θ : Th} {κ : Kx} {Ph : Ph} (hX : LX θ) {d : Nat} (hd : 3 ≤ d) (C : Cx θ κ yJ6_hashCode cJ6_hashCode 2 (some Jvm.ClassFile.FieldType.int) [] d) {Φ : St → Int32 → Prop} (hn : ∀ st r, Φ st r → Ph.1 st (some (.int r))) (st : St) (x0 : Nat) (z0 : Int32) (hs_x0 : sh st x0 = 10) (h : w_J6_hashCode_b40 Φ st x0 z0) : X θ κ Ph st 40 [(0, .ref (ad θ x0))] [.int z0] := by
  unfold w_J6_hashCode_b40 at h
  refine X_istore_n C dJ6_hashCode_40 rfl (lo2 := [(1, _), (0, _)]) (by decide) rfl ?_
  refine X_iload_n C dJ6_hashCode_41 rfl 0 rfl ?_
  refine X_if_ne (tgt := 53) C dJ6_hashCode_42 (by decide) (fun c28 => ?_) (fun c28 => ?_)
  · have h := h.1 c28
    refine X_aload_n C dJ6_hashCode_53 rfl 1 rfl (isRV_r _) ?_
    refine X_iload_n C dJ6_hashCode_54 rfl 0 rfl ?_
    have g29 := h.1
    have h := h.2
    refine X_putI (ci := 9) (j := 2) (q := (RJ6, TJ6, 4)) C rfl (by decide) q1137 rfl rfl dJ6_hashCode_55 g29 hs_x0 rfl rfl rfl ?_
    refine X_nm (fun s30 e31 => ?_)
    have h := h s30 e31
    have hs_x0 : sh s30 x0 = 10 := by rw [e31]; exact hs_x0
    refine X_iload_n C dJ6_hashCode_58 rfl 0 rfl ?_
    exact X_iret C rfl dJ6_hashCode_59 (hn s30 _ h)
  · have h := h.2 c28
    refine X_aload_n C dJ6_hashCode_45 rfl 1 rfl (isRV_r _) ?_
    refine X_iconst (v := 1) C dJ6_hashCode_46 rfl ?_
    have g32 := h.1
    have h := h.2
    refine X_putI (ci := 9) (j := 3) (q := (RJ6, TJ6, 4)) C rfl (by decide) q1138 rfl rfl dJ6_hashCode_47 g32 hs_x0 rfl rfl rfl ?_
    refine X_nm (fun s33 e34 => ?_)
    have h := h s33 e34
    have hs_x0 : sh s33 x0 = 10 := by rw [e34]; exact hs_x0
    refine X_goto (tgt := 58) C dJ6_hashCode_50 (by decide) ?_
    refine X_iload_n C dJ6_hashCode_58 rfl 0 rfl ?_
    exact X_iret C rfl dJ6_hashCode_59 (hn s33 _ h)
def w_J6_hashCode (st : St) (a0 : Nat) (Φ : St → Int32 → Prop) : Prop := ∀ v1 : Int32, v1 = (sI st a0 2) → ((v1 ≠ 0) → Φ st v1) ∧ ((v1 = 0) → (((sI st a0 3) ≠ 0) → Φ st v1) ∧ (((sI st a0 3) = 0) → w_J6_isLatin1 st a0 (fun (r5 : Int32) => ((r5 = 0) → False) ∧ ((¬ r5 = 0) → ∃ r17, (sR st a0 0) = some r17 ∧ sh st r17 = 103 ∧ w_J15_hashCode st r17 (fun (r20 : Int32) => w_J6_hashCode_b40 Φ st a0 r20)))))
theorem e_J6_hashCode : plainFor yJ6_hashCode = true := plainFor_of_name (by decide +kernel)
theorem m_J6_hashCode {θ : Th} {l : Launch} (hl0 : l.stackTraces = false) (hX : LX θ) {d : Nat} (hd : 3 ≤ d) (st : St) (a0 : Nat) (hs_a0 : sh st a0 = 10) {Φ : St → Int32 → Prop} (h : w_J6_hashCode st a0 Φ) : Ct θ l yJ6_hashCode (ws_ yJ6_hashCode cJ6_hashCode 2 (some Jvm.ClassFile.FieldType.int)) d [.ref (ad θ a0)] st (pI Φ, noX) := by
  refine Ct_entry hl0 e_J6_hashCode (Nat.le_of_ble_eq_true rfl) (fun κ hκ _ C => ?_)
  have hn : ∀ st r, Φ st r → ((pI Φ, noX) : Ph).1 st (some (.int r)) := fun st r q => ⟨r, rfl, q⟩
  change X _ _ _ _ _ [(0, .ref (ad θ a0))] _
  unfold w_J6_hashCode at h
  refine X_aload_n C dJ6_hashCode_0 rfl 0 rfl (isRV_r _) ?_
  refine X_get (ci := 9) (j := 2) (q := (RJ6, TJ6, 4)) C rfl (by decide) q1137 rfl dJ6_hashCode_1 hs_a0 (v := .int (sI st a0 2)) rfl ?_
  refine X_topi (fun v1 e2 => ?_)
  have h := h v1 e2
  refine X_istore_n C dJ6_hashCode_4 rfl (lo2 := [(1, _), (0, _)]) (by decide) rfl ?_
  refine X_iload_n C dJ6_hashCode_5 rfl 0 rfl ?_
  refine X_if_ne (tgt := 58) C dJ6_hashCode_6 (by decide) (fun c3 => ?_) (fun c3 => ?_)
  · have h := h.1 c3
    refine X_iload_n C dJ6_hashCode_58 rfl 0 rfl ?_
    exact X_iret C rfl dJ6_hashCode_59 (hn st _ h)
  · have h := h.2 c3
    refine X_aload_n C dJ6_hashCode_9 rfl 1 rfl (isRV_r _) ?_
    refine X_get (ci := 9) (j := 3) (q := (RJ6, TJ6, 4)) C rfl (by decide) q1138 rfl dJ6_hashCode_10 hs_a0 (v := .int (sI st a0 3)) rfl ?_
    refine X_if_ne (tgt := 58) C dJ6_hashCode_13 (by decide) (fun c4 => ?_) (fun c4 => ?_)
    · have h := h.1 c4
      refine X_iload_n C dJ6_hashCode_58 rfl 0 rfl ?_
      exact X_iret C rfl dJ6_hashCode_59 (hn st _ h)
    · have h := h.2 c4
      refine X_aload_n C dJ6_hashCode_16 rfl 1 rfl (isRV_r _) ?_
      refine X_callV (ci := 9) (q := (RJ6, TJ6, 4)) (As := []) (rest := []) C rfl hs_a0 q1177 q1178 q1179 q144 q1180 ⟨rfl, nm_J6_isLatin1⟩ rfl dJ6_hashCode_17 (m_J6_isLatin1 (Cx_l C) hX (d := d - 1) (by omega) st a0 hs_a0 h) (by omega) (by decide) (Nat.le_of_ble_eq_true rfl) (fun s11 w6 hE7 hP8 => ?_) (fun s12 E9 q10 hE7 hP8 => ?_)
      rotate_left
      · exact False.elim hP8
      obtain ⟨r5, rfl, rfl, h⟩ := hP8
      refine X_tls ?_
      refine X_if_eq (tgt := 33) C dJ6_hashCode_20 (by decide) (fun c13 => ?_) (fun c13 => ?_)
      · have h := h.1 c13
        exact h.elim
      · have h := h.2 c13
        refine X_aload_n C dJ6_hashCode_23 rfl 1 rfl (isRV_r _) ?_
        refine X_get (ci := 9) (j := 0) (q := (RJ6, TJ6, 4)) C rfl (by decide) q1135 rfl dJ6_hashCode_24 hs_a0 (v := rv θ (sR st a0 0)) rfl ?_
        obtain ⟨r17, q18, hs19, h⟩ := h
        rw [q18]
        refine X_tor ?_
        refine X_callS (As := [_]) (rest := []) C q1181 q1182 q155 q1183 nm_J15_hashCode rfl dJ6_hashCode_27 (m_J15_hashCode (Cx_l C) hX (d := d - 1) (by omega) st r17 hs19 h) (by omega) (by decide) (Nat.le_of_ble_eq_true rfl) (fun s26 w21 hE22 hP23 => ?_) (fun s27 E24 q25 hE22 hP23 => ?_)
        rotate_left
        · exact False.elim hP23
        obtain ⟨r20, rfl, rfl, h⟩ := hP23
        refine X_tls ?_
        refine X_goto (tgt := 40) C dJ6_hashCode_30 (by decide) ?_
        refine X_sub [1] (lo2 := [(0, _)]) rfl ?_
        exact t_J6_hashCode_b40 hX hd C hn st a0 r20 hs_a0 h

theorem nm_J14_checkLength : yJ14_checkLength.cls ≠ "java/lang/invoke/MethodHandle" ∧ yJ14_checkLength.cls ≠ "java/lang/invoke/VarHandle" ∧ (parseMethodDescriptor yJ14_checkLength.desc).map (fun d => d.parameters.length) = some 2 := by decide +kernel
def w_J14_checkLength (st : St) (p1 : Int32) (p2 : Int32) (Φ : St → Prop) : Prop := ((p1 ≤ p2) → Φ st) ∧ ((¬ p1 ≤ p2) → False)
theorem e_J14_checkLength : plainFor yJ14_checkLength = true := plainFor_of_name (by decide +kernel)
theorem m_J14_checkLength {θ : Th} {l : Launch} (hl0 : l.stackTraces = false) (hX : LX θ) {d : Nat} (hd : 0 ≤ d) (st : St) (p1 : Int32) (p2 : Int32) {Φ : St → Prop} (h : w_J14_checkLength st p1 p2 Φ) : Ct θ l yJ14_checkLength (ws_ yJ14_checkLength cJ14_checkLength 2 (none : Option Jvm.ClassFile.FieldType)) d [.int p1, .int p2] st (pV Φ, noX) := by
  refine Ct_entry hl0 e_J14_checkLength (Nat.le_of_ble_eq_true rfl) (fun κ hκ _ C => ?_)
  have hn : ∀ st, Φ st → ((pV Φ, noX) : Ph).1 st none := fun st q => ⟨rfl, q⟩
  change X _ _ _ _ _ [(0, .int p1), (1, .int p2)] _
  unfold w_J14_checkLength at h
  refine X_iload_n C dJ14_checkLength_0 rfl 1 rfl ?_
  refine X_iload_n C dJ14_checkLength_1 rfl 0 rfl ?_
  refine X_icmp_ge (tgt := 37) C dJ14_checkLength_2 (by decide) (fun c1 => ?_) (fun c1 => ?_)
  · have h := h.1 c1
    exact X_vret C rfl dJ14_checkLength_37 (hn st h)
  · have h := h.2 c1
    exact h.elim

theorem nm_J14_copyOf : yJ14_copyOf.cls ≠ "java/lang/invoke/MethodHandle" ∧ yJ14_copyOf.cls ≠ "java/lang/invoke/VarHandle" ∧ (parseMethodDescriptor yJ14_copyOf.desc).map (fun d => d.parameters.length) = some 2 := by decide +kernel
def w_J14_copyOf (st : St) (p1 : Nat) (p2 : Int32) (Φ : St → Nat → Prop) : Prop := ((p2 ≠ (Int32.ofNat (ln st p1))) → ¬ p2 < 0 ∧ p2.toNatClampNeg * 8 ≤ 536870912 ∧ sN st + 1 ≤ gCAP ∧ sS st + p2.toNatClampNeg ≤ gCAPS ∧ ∀ s6, s6 = mk st 103 (p2.toNatClampNeg) → w_J8_min (Int32.ofNat (ln s6 p1)) p2 (fun (r12 : Int32) => ¬ r12 < 0 ∧ 0 + r12.toNatClampNeg ≤ ln s6 p1 ∧ 0 + r12.toNatClampNeg ≤ ln s6 (sN st) ∧ (∀ i, i < r12.toNatClampNeg → (sI s6 p1 (0 + i)).toInt8.toInt32 = sI s6 p1 (0 + i)) ∧ ∀ s24, s24 = cpI s6 p1 0 (sN st) 0 (r12.toNatClampNeg) → Φ s24 (sN st))) ∧ ((p2 = (Int32.ofNat (ln st p1))) → (∀ i, i < ln st p1 → (sI st p1 i).toInt8.toInt32 = sI st p1 i) ∧ sN st + 1 ≤ gCAP ∧ sS st + ln st p1 ≤ gCAPS ∧ ∀ s29, s29 = clB st p1 → Φ s29 (sN st))
theorem e_J14_copyOf : plainFor yJ14_copyOf = true := plainFor_of_name (by decide +kernel)
theorem m_J14_copyOf {θ : Th} {l : Launch} (hl0 : l.stackTraces = false) (hX : LX θ) {d : Nat} (hd : 1 ≤ d) (st : St) (p1 : Nat) (p2 : Int32) (hs_p1 : sh st p1 = 103) (hb_p1 : p1 < gBIG) {Φ : St → Nat → Prop} (h : w_J14_copyOf st p1 p2 Φ) : Ct θ l yJ14_copyOf (ws_ yJ14_copyOf cJ14_copyOf 3 (some (Jvm.ClassFile.FieldType.array Jvm.ClassFile.FieldType.byte))) d [.ref (ad θ p1), .int p2] st (pN θ 103 Φ, noX) := by
  refine Ct_entry hl0 e_J14_copyOf (Nat.le_of_ble_eq_true rfl) (fun κ hκ _ C => ?_)
  have hn : ∀ st r, r < gBIG → sh st r = 103 → Φ st r → ((pN θ 103 Φ, noX) : Ph).1 st (some (.ref (ad θ r))) := fun st r q1 q2 q => ⟨r, rfl, q1, q2, q⟩
  change X _ _ _ _ _ [(0, .ref (ad θ p1)), (1, .int p2)] _
  unfold w_J14_copyOf at h
  refine X_iload_n C dJ14_copyOf_0 rfl 1 rfl ?_
  refine X_aload_n C dJ14_copyOf_1 rfl 0 rfl (isRV_r _) ?_
  refine X_alen C 2 rfl hs_p1 (by decide) (v := (Int32.ofNat (ln st p1))) rfl dJ14_copyOf_2 ?_
  refine X_icmp_ne (tgt := 14) C dJ14_copyOf_3 (by decide) (fun c1 => ?_) (fun c1 => ?_)
  · have h := h.1 c1
    refine X_iload_n C dJ14_copyOf_14 rfl 1 rfl ?_
    have g2 := h.1
    have h := h.2
    have g3 := h.1
    have h := h.2
    have g4 := h.1
    have h := h.2
    have g5 := h.1
    have h := h.2
    refine X_newarray (t := 103) (aty := .byte) C 2 rfl (by decide) rfl q259 (fun _ _ h => h) g2 rfl g3 (by decide) g4 g5 dJ14_copyOf_15 (fun hE8 => ?_)
    refine X_nm (fun s6 e7 => ?_)
    have h := h s6 e7
    rw [← e7] at hE8
    have hs_p1 := Ext_sh hE8 hs_p1 (by decide)
    have hs9 : sh s6 (sN st) = 103 := by rw [e7]; exact sh_mk
    have hl11 : ln s6 (sN st) = p2.toNatClampNeg := by rw [e7]; exact ln_mk
    have hb10 := nb_N g4
    refine X_astore_n C dJ14_copyOf_17 rfl (isRV_r _) (lo2 := [(2, _), (0, _), (1, _)]) (by decide) rfl ?_
    refine X_aload_n C dJ14_copyOf_18 rfl 1 rfl (isRV_r _) ?_
    refine X_iconst (v := 0) C dJ14_copyOf_19 rfl ?_
    refine X_aload_n C dJ14_copyOf_20 rfl 0 rfl (isRV_r _) ?_
    refine X_iconst (v := 0) C dJ14_copyOf_21 rfl ?_
    refine X_aload_n C dJ14_copyOf_22 rfl 1 rfl (isRV_r _) ?_
    refine X_alen C 2 rfl hs_p1 (by decide) (v := (Int32.ofNat (ln s6 p1))) rfl dJ14_copyOf_23 ?_
    refine X_iload_n C dJ14_copyOf_24 rfl 2 rfl ?_
    refine X_callS (As := [_, _]) (rest := [_, _, _, _]) C q1029 q1030 q147 q1031 nm_J8_min rfl dJ14_copyOf_25 (m_J8_min (Cx_l C) (d := d - 1) (by omega) s6 (Int32.ofNat (ln s6 p1)) p2 h) (by omega) (by decide) (Nat.le_of_ble_eq_true rfl) (fun s18 w13 hE14 hP15 => ?_) (fun s19 E16 q17 hE14 hP15 => ?_)
    rotate_left
    · exact False.elim hP15
    obtain ⟨r12, rfl, rfl, h⟩ := hP15
    refine X_tls ?_
    have g20 := h.1
    have h := h.2
    have g21 := h.1
    have h := h.2
    have g22 := h.1
    have h := h.2
    have g23 := h.1
    have h := h.2
    refine X_copy (t := 103) C 2 rfl (by decide) rfl (fun _ _ _ => rfl) hb10 hs_p1 rfl hs9 rfl (by decide) (by decide) g20 g21 g22 (fun i hi => (ny_in (g23 i hi)).2) q1032 q945 q944 q149 (Nat.le_of_ble_eq_true rfl) dJ14_copyOf_28 ?_
    refine X_nm (fun s24 e25 => ?_)
    have h := h s24 e25
    have hs_p1 : sh s24 p1 = 103 := by rw [e25]; exact hs_p1
    have hs9 : sh s24 (sN st) = 103 := by rw [e25]; exact hs9
    refine X_aload_n C dJ14_copyOf_31 rfl 0 rfl (isRV_r _) ?_
    exact X_aret C rfl (Or.inr ⟨_, rfl⟩) (isRV_r _) dJ14_copyOf_32 (hn s24 _ hb10 hs9 h)
  · have h := h.2 c1
    refine X_aload_n C dJ14_copyOf_6 rfl 0 rfl (isRV_r _) ?_
    have g26 := h.1
    have h := h.2
    have g27 := h.1
    have h := h.2
    have g28 := h.1
    have h := h.2
    refine X_clone C hs_p1 q1022 q1023 q1024 q1025 q1026 q1027 (fun i hi => (ny_in (g26 i hi)).2) g27 g28 (Nat.le_of_ble_eq_true rfl) dJ14_copyOf_7 (fun hE31 => ?_)
    refine X_nm (fun s29 e30 => ?_)
    have h := h s29 e30
    rw [← e30] at hE31
    have hs_p1 := Ext_sh hE31 hs_p1 (by decide)
    have hs32 : sh s29 (sN st) = 103 := by rw [e30]; simp [clB, sh]
    have hb33 := nb_N g27
    refine X_castT C (by decide) hs32 (fun _ h => nm_arrB h) q1028 dJ14_copyOf_10 ?_
    exact X_aret C rfl (Or.inr ⟨_, rfl⟩) (isRV_r _) dJ14_copyOf_13 (hn s29 _ hb33 hs32 h)

theorem nm_J14_copyOfRangeByte : yJ14_copyOfRangeByte.cls ≠ "java/lang/invoke/MethodHandle" ∧ yJ14_copyOfRangeByte.cls ≠ "java/lang/invoke/VarHandle" ∧ (parseMethodDescriptor yJ14_copyOfRangeByte.desc).map (fun d => d.parameters.length) = some 3 := by decide +kernel
def w_J14_copyOfRangeByte (st : St) (p1 : Nat) (p2 : Int32) (p3 : Int32) (Φ : St → Nat → Prop) : Prop := w_J14_checkLength st p2 p3 (fun (s2 : St) => ∀ v9 : Int32, v9 = (p3 - p2) → ¬ v9 < 0 ∧ v9.toNatClampNeg * 8 ≤ 536870912 ∧ sN s2 + 1 ≤ gCAP ∧ sS s2 + v9.toNatClampNeg ≤ gCAPS ∧ ∀ s15, s15 = mk s2 103 (v9.toNatClampNeg) → w_J8_min ((Int32.ofNat (ln s15 p1)) - p2) v9 (fun (r21 : Int32) => ¬ p2 < 0 ∧ ¬ r21 < 0 ∧ p2.toNatClampNeg + r21.toNatClampNeg ≤ ln s15 p1 ∧ 0 + r21.toNatClampNeg ≤ ln s15 (sN s2) ∧ (∀ i, i < r21.toNatClampNeg → (sI s15 p1 (p2.toNatClampNeg + i)).toInt8.toInt32 = sI s15 p1 (p2.toNatClampNeg + i)) ∧ ∀ s34, s34 = cpI s15 p1 (p2.toNatClampNeg) (sN s2) 0 (r21.toNatClampNeg) → Φ s34 (sN s2)))
theorem e_J14_copyOfRangeByte : plainFor yJ14_copyOfRangeByte = true := plainFor_of_name (by decide +kernel)
theorem m_J14_copyOfRangeByte {θ : Th} {l : Launch} (hl0 : l.stackTraces = false) (hX : LX θ) {d : Nat} (hd : 1 ≤ d) (st : St) (p1 : Nat) (p2 : Int32) (p3 : Int32) (hs_p1 : sh st p1 = 103) (hb_p1 : p1 < gBIG) {Φ : St → Nat → Prop} (h : w_J14_copyOfRangeByte st p1 p2 p3 Φ) : Ct θ l yJ14_copyOfRangeByte (ws_ yJ14_copyOfRangeByte cJ14_copyOfRangeByte 5 (some (Jvm.ClassFile.FieldType.array Jvm.ClassFile.FieldType.byte))) d [.ref (ad θ p1), .int p2, .int p3] st (pN θ 103 Φ, noX) := by
  refine Ct_entry hl0 e_J14_copyOfRangeByte (Nat.le_of_ble_eq_true rfl) (fun κ hκ _ C => ?_)
  have hn : ∀ st r, r < gBIG → sh st r = 103 → Φ st r → ((pN θ 103 Φ, noX) : Ph).1 st (some (.ref (ad θ r))) := fun st r q1 q2 q => ⟨r, rfl, q1, q2, q⟩
  change X _ _ _ _ _ [(0, .ref (ad θ p1)), (1, .int p2), (2, .int p3)] _
  unfold w_J14_copyOfRangeByte at h
  refine X_iload_n C dJ14_copyOfRangeByte_0 rfl 1 rfl ?_
  refine X_iload_n C dJ14_copyOfRangeByte_1 rfl 2 rfl ?_
  refine X_callS (As := [_, _]) (rest := []) C q1118 q1119 q154 q1120 nm_J14_checkLength rfl dJ14_copyOfRangeByte_2 (m_J14_checkLength (Cx_l C) hX (d := d - 1) (by omega) st p2 p3 h) (by omega) (by decide) (Nat.le_of_ble_eq_true rfl) (fun s2 w3 hE4 hP5 => ?_) (fun s8 E6 q7 hE4 hP5 => ?_)
  rotate_left
  · exact False.elim hP5
  obtain ⟨rfl, h⟩ := hP5
  refine X_tln ?_
  have hs_p1 := Ext_sh hE4 hs_p1 (by decide)
  refine X_iload_n C dJ14_copyOfRangeByte_5 rfl 2 rfl ?_
  refine X_iload_n C dJ14_copyOfRangeByte_6 rfl 1 rfl ?_
  refine X_isub C dJ14_copyOfRangeByte_7 ?_
  refine X_topi (fun v9 e10 => ?_)
  have h := h v9 e10
  refine X_istore_n C dJ14_copyOfRangeByte_8 rfl (lo2 := [(3, _), (0, _), (1, _), (2, _)]) (by decide) rfl ?_
  refine X_iload_n C dJ14_copyOfRangeByte_9 rfl 0 rfl ?_
  have g11 := h.1
  have h := h.2
  have g12 := h.1
  have h := h.2
  have g13 := h.1
  have h := h.2
  have g14 := h.1
  have h := h.2
  refine X_newarray (t := 103) (aty := .byte) C 2 rfl (by decide) rfl q259 (fun _ _ h => h) g11 rfl g12 (by decide) g13 g14 dJ14_copyOfRangeByte_10 (fun hE17 => ?_)
  refine X_nm (fun s15 e16 => ?_)
  have h := h s15 e16
  rw [← e16] at hE17
  have hs_p1 := Ext_sh hE17 hs_p1 (by decide)
  have hs18 : sh s15 (sN s2) = 103 := by rw [e16]; exact sh_mk
  have hl20 : ln s15 (sN s2) = v9.toNatClampNeg := by rw [e16]; exact ln_mk
  have hb19 := nb_N g13
  refine X_astore C dJ14_copyOfRangeByte_12 (isRV_r _) (lo2 := [(4, _), (3, _), (0, _), (1, _), (2, _)]) (by decide) rfl ?_
  refine X_aload_n C dJ14_copyOfRangeByte_14 rfl 2 rfl (isRV_r _) ?_
  refine X_iload_n C dJ14_copyOfRangeByte_15 rfl 3 rfl ?_
  refine X_aload C dJ14_copyOfRangeByte_16 0 rfl (isRV_r _) ?_
  refine X_iconst (v := 0) C dJ14_copyOfRangeByte_18 rfl ?_
  refine X_aload_n C dJ14_copyOfRangeByte_19 rfl 2 rfl (isRV_r _) ?_
  refine X_alen C 2 rfl hs_p1 (by decide) (v := (Int32.ofNat (ln s15 p1))) rfl dJ14_copyOfRangeByte_20 ?_
  refine X_iload_n C dJ14_copyOfRangeByte_21 rfl 3 rfl ?_
  refine X_isub C dJ14_copyOfRangeByte_22 ?_
  refine X_iload_n C dJ14_copyOfRangeByte_23 rfl 1 rfl ?_
  refine X_callS (As := [_, _]) (rest := [_, _, _, _]) C q1029 q1030 q147 q1031 nm_J8_min rfl dJ14_copyOfRangeByte_24 (m_J8_min (Cx_l C) (d := d - 1) (by omega) s15 ((Int32.ofNat (ln s15 p1)) - p2) v9 h) (by omega) (by decide) (Nat.le_of_ble_eq_true rfl) (fun s27 w22 hE23 hP24 => ?_) (fun s28 E25 q26 hE23 hP24 => ?_)
  rotate_left
  · exact False.elim hP24
  obtain ⟨r21, rfl, rfl, h⟩ := hP24
  refine X_tls ?_
  have g29 := h.1
  have h := h.2
  have g30 := h.1
  have h := h.2
  have g31 := h.1
  have h := h.2
  have g32 := h.1
  have h := h.2
  have g33 := h.1
  have h := h.2
  refine X_copy (t := 103) C 2 rfl (by decide) rfl (fun _ _ _ => rfl) hb19 hs_p1 rfl hs18 rfl g29 (by decide) g30 g31 g32 (fun i hi => (ny_in (g33 i hi)).2) q1032 q945 q944 q149 (Nat.le_of_ble_eq_true rfl) dJ14_copyOfRangeByte_27 ?_
  refine X_nm (fun s34 e35 => ?_)
  have h := h s34 e35
  have hs_p1 : sh s34 p1 = 103 := by rw [e35]; exact hs_p1
  have hs18 : sh s34 (sN s2) = 103 := by rw [e35]; exact hs18
  refine X_aload C dJ14_copyOfRangeByte_30 0 rfl (isRV_r _) ?_
  exact X_aret C rfl (Or.inr ⟨_, rfl⟩) (isRV_r _) dJ14_copyOfRangeByte_32 (hn s34 _ hb19 hs18 h)

theorem nm_J14_copyOfRange : yJ14_copyOfRange.cls ≠ "java/lang/invoke/MethodHandle" ∧ yJ14_copyOfRange.cls ≠ "java/lang/invoke/VarHandle" ∧ (parseMethodDescriptor yJ14_copyOfRange.desc).map (fun d => d.parameters.length) = some 3 := by decide +kernel
def w_J14_copyOfRange_b10 (Φ : St → Nat → Prop) (st : St) (x0 : Nat) (x1 : Int32) (x2 : Int32) : Prop := w_J14_copyOfRangeByte st x0 x1 x2 (fun (s3 : St) (r2 : Nat) => Φ s3 r2)
theorem t_J14_copyOfRange_b10 {θ : Th} {κ : Kx} {Ph : Ph} (hX : LX θ) {d : Nat} (hd : 2 ≤ d) (C : Cx θ κ yJ14_copyOfRange cJ14_copyOfRange 3 (some (Jvm.ClassFile.FieldType.array Jvm.ClassFile.FieldType.byte)) [] d) {Φ : St → Nat → Prop} (hn : ∀ st r, r < gBIG → sh st r = 103 → Φ st r → Ph.1 st (some (.ref (ad θ r)))) (st : St) (x0 : Nat) (x1 : Int32) (x2 : Int32) (hs_x0 : sh st x0 = 103) (hb_x0 : x0 < gBIG) (h : w_J14_copyOfRange_b10 Φ st x0 x1 x2) : X θ κ Ph st 10 [(0, .ref (ad θ x0)), (1, .int x1), (2, .int x2)] [] := by
  unfold w_J14_copyOfRange_b10 at h
  refine X_aload_n C dJ14_copyOfRange_10 rfl 0 rfl (isRV_r _) ?_
  refine X_iload_n C dJ14_copyOfRange_11 rfl 1 rfl ?_
  refine X_iload_n C dJ14_copyOfRange_12 rfl 2 rfl ?_
  refine X_callS (As := [_, _, _]) (rest := []) C q1115 q1116 q154 q1117 nm_J14_copyOfRangeByte rfl dJ14_copyOfRange_13 (m_J14_copyOfRangeByte (Cx_l C) hX (d := d - 1) (by omega) st x0 x1 x2 hs_x0 hb_x0 h) (by omega) (by decide) (Nat.le_of_ble_eq_true rfl) (fun s3 w4 hE5 hP6 => ?_) (fun s9 E7 q8 hE5 hP6 => ?_)
  rotate_left
  · exact False.elim hP6
  obtain ⟨r2, rfl, hb10, hs11, h⟩ := hP6
  refine X_tls ?_
  have hs_x0 := Ext_sh hE5 hs_x0 (by decide)
  exact X_aret C rfl (Or.inr ⟨_, rfl⟩) (isRV_r _) dJ14_copyOfRange_16 (hn s3 _ hb10 hs11 h)
def w_J14_copyOfRange (st : St) (p1 : Nat) (p2 : Int32) (p3 : Int32) (Φ : St → Nat → Prop) : Prop := ((p2 ≠ 0) → w_J14_copyOfRange_b10 Φ st p1 p2 p3) ∧ ((p2 = 0) → ((p3 = (Int32.ofNat (ln st p1))) → (∀ i, i < ln st p1 → (sI st p1 i).toInt8.toInt32 = sI st p1 i) ∧ sN st + 1 ≤ gCAP ∧ sS st + ln st p1 ≤ gCAPS ∧ ∀ s16, s16 = clB st p1 → Φ s16 (sN st)) ∧ ((¬ p3 = (Int32.ofNat (ln st p1))) → w_J14_copyOfRange_b10 Φ st p1 p2 p3))
theorem e_J14_copyOfRange : plainFor yJ14_copyOfRange = true := plainFor_of_name (by decide +kernel)
theorem m_J14_copyOfRange {θ : Th} {l : Launch} (hl0 : l.stackTraces = false) (hX : LX θ) {d : Nat} (hd : 2 ≤ d) (st : St) (p1 : Nat) (p2 : Int32) (p3 : Int32) (hs_p1 : sh st p1 = 103) (hb_p1 : p1 < gBIG) {Φ : St → Nat → Prop} (h : w_J14_copyOfRange st p1 p2 p3 Φ) : Ct θ l yJ14_copyOfRange (ws_ yJ14_copyOfRange cJ14_copyOfRange 3 (some (Jvm.ClassFile.FieldType.array Jvm.ClassFile.FieldType.byte))) d [.ref (ad θ p1), .int p2, .int p3] st (pN θ 103 Φ, noX) := by
  refine Ct_entry hl0 e_J14_copyOfRange (Nat.le_of_ble_eq_true rfl) (fun κ hκ _ C => ?_)
  have hn : ∀ st r, r < gBIG → sh st r = 103 → Φ st r → ((pN θ 103 Φ, noX) : Ph).1 st (some (.ref (ad θ r))) := fun st r q1 q2 q => ⟨r, rfl, q1, q2, q⟩
  change X _ _ _ _ _ [(0, .ref (ad θ p1)), (1, .int p2), (2, .int p3)] _
  unfold w_J14_copyOfRange at h
  refine X_iload_n C dJ14_copyOfRange_0 rfl 1 rfl ?_
  refine X_if_ne (tgt := 10) C dJ14_copyOfRange_1 (by decide) (fun c1 => ?_) (fun c1 => ?_)
  · have h := h.1 c1
    exact t_J14_copyOfRange_b10 hX hd C hn st p1 p2 p3 hs_p1 hb_p1 h
  · have h := h.2 c1
    refine X_iload_n C dJ14_copyOfRange_4 rfl 2 rfl ?_
    refine X_aload_n C dJ14_copyOfRange_5 rfl 0 rfl (isRV_r _) ?_
    refine X_alen C 2 rfl hs_p1 (by decide) (v := (Int32.ofNat (ln st p1))) rfl dJ14_copyOfRange_6 ?_
    refine X_icmp_eq (tgt := 17) C dJ14_copyOfRange_7 (by decide) (fun c12 => ?_) (fun c12 => ?_)
    · have h := h.1 c12
      refine X_aload_n C dJ14_copyOfRange_17 rfl 0 rfl (isRV_r _) ?_
      have g13 := h.1
      have h := h.2
      have g14 := h.1
      have h := h.2
      have g15 := h.1
      have h := h.2
      refine X_clone C hs_p1 q1022 q1023 q1024 q1025 q1026 q1027 (fun i hi => (ny_in (g13 i hi)).2) g14 g15 (Nat.le_of_ble_eq_true rfl) dJ14_copyOfRange_18 (fun hE18 => ?_)
      refine X_nm (fun s16 e17 => ?_)
      have h := h s16 e17
      rw [← e17] at hE18
      have hs_p1 := Ext_sh hE18 hs_p1 (by decide)
      have hs19 : sh s16 (sN st) = 103 := by rw [e17]; simp [clB, sh]
      have hb20 := nb_N g14
      refine X_castT C (by decide) hs19 (fun _ h => nm_arrB h) q1028 dJ14_copyOfRange_21 ?_
      exact X_aret C rfl (Or.inr ⟨_, rfl⟩) (isRV_r _) dJ14_copyOfRange_24 (hn s16 _ hb20 hs19 h)
    · have h := h.2 c12
      exact t_J14_copyOfRange_b10 hX hd C hn st p1 p2 p3 hs_p1 hb_p1 h

theorem nm_J13_hugeLength : yJ13_hugeLength.cls ≠ "java/lang/invoke/MethodHandle" ∧ yJ13_hugeLength.cls ≠ "java/lang/invoke/VarHandle" ∧ (parseMethodDescriptor yJ13_hugeLength.desc).map (fun d => d.parameters.length) = some 2 := by decide +kernel
def w_J13_hugeLength (p1 : Int32) (p2 : Int32) (Φ : Int32 → Prop) : Prop := ∀ v1 : Int32, v1 = (p1 + p2) → ((0 ≤ v1) → ((2147483639 < v1) → Φ v1) ∧ ((¬ 2147483639 < v1) → Φ 2147483639)) ∧ ((¬ 0 ≤ v1) → False)
theorem e_J13_hugeLength : plainFor yJ13_hugeLength = true := plainFor_of_name (by decide +kernel)
theorem m_J13_hugeLength {θ : Th} {l : Launch} (hl0 : l.stackTraces = false) (hX : LX θ) {d : Nat} (hd : 0 ≤ d) (st0 : St) (p1 : Int32) (p2 : Int32) {Φ : Int32 → Prop} (h : w_J13_hugeLength p1 p2 Φ) : Ct θ l yJ13_hugeLength (ws_ yJ13_hugeLength cJ13_hugeLength 3 (some Jvm.ClassFile.FieldType.int)) d [.int p1, .int p2] st0 (rI st0 Φ, noX) := by
  refine Ct_entry hl0 e_J13_hugeLength (Nat.le_of_ble_eq_true rfl) (fun κ hκ _ C => ?_)
  have hn : ∀ r, Φ r → ((rI st0 Φ, noX) : Ph).1 st0 (some (.int r)) := fun r q => ⟨r, rfl, rfl, q⟩
  change X _ _ _ _ _ [(0, .int p1), (1, .int p2)] _
  unfold w_J13_hugeLength at h
  refine X_iload_n C dJ13_hugeLength_0 rfl 0 rfl ?_
  refine X_iload_n C dJ13_hugeLength_1 rfl 1 rfl ?_
  refine X_iadd C dJ13_hugeLength_2 ?_
  refine X_topi (fun v1 e2 => ?_)
  have h := h v1 e2
  refine X_istore_n C dJ13_hugeLength_3 rfl (lo2 := [(2, _), (0, _), (1, _)]) (by decide) rfl ?_
  refine X_iload_n C dJ13_hugeLength_4 rfl 0 rfl ?_
  refine X_if_ge (tgt := 49) C dJ13_hugeLength_5 (by decide) (fun c3 => ?_) (fun c3 => ?_)
  · have h := h.1 c3
    refine X_iload_n C dJ13_hugeLength_49 rfl 0 rfl ?_
    refine X_ldc C q1014 dJ13_hugeLength_50 ?_
    refine X_icmp_gt (tgt := 58) C dJ13_hugeLength_52 (by decide) (fun c4 => ?_) (fun c4 => ?_)
    · have h := h.1 c4
      refine X_iload_n C dJ13_hugeLength_58 rfl 0 rfl ?_
      exact X_iret C rfl dJ13_hugeLength_59 (hn _ h)
    · have h := h.2 c4
      refine X_ldc C q1014 dJ13_hugeLength_55 ?_
      exact X_iret C rfl dJ13_hugeLength_57 (hn _ h)
  · have h := h.2 c3
    exact h.elim

theorem nm_J13_newLength : yJ13_newLength.cls ≠ "java/lang/invoke/MethodHandle" ∧ yJ13_newLength.cls ≠ "java/lang/invoke/VarHandle" ∧ (parseMethodDescriptor yJ13_newLength.desc).map (fun d => d.parameters.length) = some 3 := by decide +kernel
def w_J13_newLength_b21 (Φ : Int32 → Prop) (x0 : Int32) (x1 : Int32) : Prop := w_J13_hugeLength x0 x1 (fun (r12 : Int32) => Φ r12)
theorem t_J13_newLength_b21 {θ : Th} {κ : Kx} {Ph : Ph} (hX : LX θ) {st0 : St} {d : Nat} (hd : 1 ≤ d) (C : Cx θ κ yJ13_newLength cJ13_newLength 4 (some Jvm.ClassFile.FieldType.int) [] d) {Φ : Int32 → Prop} (hn : ∀ r, Φ r → Ph.1 st0 (some (.int r))) (x0 : Int32) (x1 : Int32) (h : w_J13_newLength_b21 Φ x0 x1) : X θ κ Ph st0 21 [(0, .int x0), (1, .int x1)] [] := by
  unfold w_J13_newLength_b21 at h
  refine X_iload_n C dJ13_newLength_21 rfl 0 rfl ?_
  refine X_iload_n C dJ13_newLength_22 rfl 1 rfl ?_
  refine X_callS (As := [_, _]) (rest := []) C q1015 q1016 q153 q1017 nm_J13_hugeLength rfl dJ13_newLength_23 (m_J13_hugeLength (Cx_l C) hX (d := d - 1) (by omega) st0 x0 x1 h) (by omega) (by decide) (Nat.le_of_ble_eq_true rfl) (fun s18 w13 hE14 hP15 => ?_) (fun s19 E16 q17 hE14 hP15 => ?_)
  rotate_left
  · exact False.elim hP15
  obtain ⟨r12, rfl, rfl, h⟩ := hP15
  refine X_tls ?_
  exact X_iret C rfl dJ13_newLength_26 (hn _ h)
def w_J13_newLength (p1 : Int32) (p2 : Int32) (p3 : Int32) (Φ : Int32 → Prop) : Prop := w_J8_max p2 p3 (fun (r1 : Int32) => ∀ v9 : Int32, v9 = (p1 + r1) → ((v9 ≤ 0) → w_J13_newLength_b21 Φ p1 p2) ∧ ((¬ v9 ≤ 0) → ((2147483639 < v9) → w_J13_newLength_b21 Φ p1 p2) ∧ ((¬ 2147483639 < v9) → Φ v9)))
theorem e_J13_newLength : plainFor yJ13_newLength = true := plainFor_of_name (by decide +kernel)
theorem m_J13_newLength {θ : Th} {l : Launch} (hl0 : l.stackTraces = false) (hX : LX θ) {d : Nat} (hd : 1 ≤ d) (st0 : St) (p1 : Int32) (p2 : Int32) (p3 : Int32) {Φ : Int32 → Prop} (h : w_J13_newLength p1 p2 p3 Φ) : Ct θ l yJ13_newLength (ws_ yJ13_newLength cJ13_newLength 4 (some Jvm.ClassFile.FieldType.int)) d [.int p1, .int p2, .int p3] st0 (rI st0 Φ, noX) := by
  refine Ct_entry hl0 e_J13_newLength (Nat.le_of_ble_eq_true rfl) (fun κ hκ _ C => ?_)
  have hn : ∀ r, Φ r → ((rI st0 Φ, noX) : Ph).1 st0 (some (.int r)) := fun r q => ⟨r, rfl, rfl, q⟩
  change X _ _ _ _ _ [(0, .int p1), (1, .int p2), (2, .int p3)] _
  unfold w_J13_newLength at h
  refine X_iload_n C dJ13_newLength_0 rfl 0 rfl ?_
  refine X_iload_n C dJ13_newLength_1 rfl 1 rfl ?_
  refine X_iload_n C dJ13_newLength_2 rfl 2 rfl ?_
  refine X_callS (As := [_, _]) (rest := [_]) C q1011 q1012 q147 q1013 nm_J8_max rfl dJ13_newLength_3 (m_J8_max (Cx_l C) (d := d - 1) (by omega) st0 p2 p3 h) (by omega) (by decide) (Nat.le_of_ble_eq_true rfl) (fun s7 w2 hE3 hP4 => ?_) (fun s8 E5 q6 hE3 hP4 => ?_)
  rotate_left
  · exact False.elim hP4
  obtain ⟨r1, rfl, rfl, h⟩ := hP4
  refine X_tls ?_
  refine X_iadd C dJ13_newLength_6 ?_
  refine X_topi (fun v9 e10 => ?_)
  have h := h v9 e10
  refine X_istore_n C dJ13_newLength_7 rfl (lo2 := [(3, _), (0, _), (1, _), (2, _)]) (by decide) rfl ?_
  refine X_iconst (v := 0) C dJ13_newLength_8 rfl ?_
  refine X_iload_n C dJ13_newLength_9 rfl 0 rfl ?_
  refine X_icmp_ge (tgt := 21) C dJ13_newLength_10 (by decide) (fun c11 => ?_) (fun c11 => ?_)
  · have h := h.1 c11
    refine X_sub [1, 2] (lo2 := [(0, _), (1, _)]) rfl ?_
    exact t_J13_newLength_b21 hX hd C hn p1 p2 h
  · have h := h.2 c11
    refine X_iload_n C dJ13_newLength_13 rfl 0 rfl ?_
    refine X_ldc C q1014 dJ13_newLength_14 ?_
    refine X_icmp_gt (tgt := 21) C dJ13_newLength_16 (by decide) (fun c20 => ?_) (fun c20 => ?_)
    · have h := h.1 c20
      refine X_sub [1, 2] (lo2 := [(0, _), (1, _)]) rfl ?_
      exact t_J13_newLength_b21 hX hd C hn p1 p2 h
    · have h := h.2 c20
      refine X_iload_n C dJ13_newLength_19 rfl 0 rfl ?_
      exact X_iret C rfl dJ13_newLength_20 (hn _ h)

theorem nm_J10_isLatin1 : yJ10_isLatin1.cls ≠ "java/lang/invoke/MethodHandle" ∧ yJ10_isLatin1.cls ≠ "java/lang/invoke/VarHandle" ∧ (parseMethodDescriptor yJ10_isLatin1.desc).map (fun d => d.parameters.length) = some 0 := by decide +kernel
def w_J10_isLatin1 (st0 : St) (a0 : Nat) (Φ : Int32 → Prop) : Prop := (((sI st0 a0 1) ≠ 0) → Φ 0) ∧ (((sI st0 a0 1) = 0) → Φ 1)
theorem e_J10_isLatin1 : plainFor yJ10_isLatin1 = true := plainFor_of_name (by decide +kernel)
theorem m_J10_isLatin1 {θ : Th} {l : Launch} (hl0 : l.stackTraces = false) (hX : LX θ) {d : Nat} (hd : 0 ≤ d) (st0 : St) (a0 : Nat) (hs_a0 : sh st0 a0 = 11) (hb_a0 : a0 < gBIG) {Φ : Int32 → Prop} (h : w_J10_isLatin1 st0 a0 Φ) : Ct θ l yJ10_isLatin1 (ws_ yJ10_isLatin1 cJ10_isLatin1 1 (some Jvm.ClassFile.FieldType.boolean)) d [.ref (ad θ a0)] st0 (rI st0 Φ, noX) := by
  refine Ct_entry hl0 e_J10_isLatin1 (Nat.le_of_ble_eq_true rfl) (fun κ hκ _ C => ?_)
  have hn : ∀ r, Φ r → ((rI st0 Φ, noX) : Ph).1 st0 (some (.int r)) := fun r q => ⟨r, rfl, rfl, q⟩
  change X _ _ _ _ _ [(0, .ref (ad θ a0))] _
  unfold w_J10_isLatin1 at h
  refine X_getsZ (v := .int 1) C (fun s h => h.2.2.2.2.2.1) q971 rfl dJ10_isLatin1_0 ?_
  refine X_if_eq (tgt := 17) C dJ10_isLatin1_3 (by decide) (fun c2 => ?_) (fun c2 => ?_)
  · exact absurd c2 (by decide)
  · refine X_aload_n C dJ10_isLatin1_6 rfl 0 rfl (isRV_r _) ?_
    refine X_get (ci := 10) (j := 1) (q := (RJ11, TJ11, 4)) C rfl (by decide) q981 rfl dJ10_isLatin1_7 hs_a0 (v := .int (sI st0 a0 1)) rfl ?_
    refine X_if_ne (tgt := 17) C dJ10_isLatin1_10 (by decide) (fun c1 => ?_) (fun c1 => ?_)
    · have h := h.1 c1
      refine X_iconst (v := 0) C dJ10_isLatin1_17 rfl ?_
      exact X_zret C rfl rfl dJ10_isLatin1_18 (hn _ h)
    · have h := h.2 c1
      refine X_iconst (v := 1) C dJ10_isLatin1_13 rfl ?_
      refine X_goto (tgt := 18) C dJ10_isLatin1_14 (by decide) ?_
      exact X_zret C rfl rfl dJ10_isLatin1_18 (hn _ h)

theorem nm_J10_getValue : yJ10_getValue.cls ≠ "java/lang/invoke/MethodHandle" ∧ yJ10_getValue.cls ≠ "java/lang/invoke/VarHandle" ∧ (parseMethodDescriptor yJ10_getValue.desc).map (fun d => d.parameters.length) = some 0 := by decide +kernel
def w_J10_getValue (st0 : St) (a0 : Nat) (Φ : Nat → Prop) : Prop := ∃ r1, (sR st0 a0 0) = some r1 ∧ r1 < gBIG ∧ sh st0 r1 = 103 ∧ Φ r1
theorem e_J10_getValue : plainFor yJ10_getValue = true := plainFor_of_name (by decide +kernel)
theorem m_J10_getValue {θ : Th} {l : Launch} (hl0 : l.stackTraces = false) (hX : LX θ) {d : Nat} (hd : 0 ≤ d) (st0 : St) (a0 : Nat) (hs_a0 : sh st0 a0 = 11) (hb_a0 : a0 < gBIG) {Φ : Nat → Prop} (h : w_J10_getValue st0 a0 Φ) : Ct θ l yJ10_getValue (ws_ yJ10_getValue cJ10_getValue 1 (some (Jvm.ClassFile.FieldType.array Jvm.ClassFile.FieldType.byte))) d [.ref (ad θ a0)] st0 (rN θ st0 103 Φ, noX) := by
  refine Ct_entry hl0 e_J10_getValue (Nat.le_of_ble_eq_true rfl) (fun κ hκ _ C => ?_)
  have hn : ∀ r, r < gBIG → sh st0 r = 103 → Φ r → ((rN θ st0 103 Φ, noX) : Ph).1 st0 (some (.ref (ad θ r))) := fun r q1 q2 q => ⟨r, rfl, rfl, q1, q2, q⟩
  change X _ _ _ _ _ [(0, .ref (ad θ a0))] _
  unfold w_J10_getValue at h
  refine X_aload_n C dJ10_getValue_0 rfl 0 rfl (isRV_r _) ?_
  refine X_get (ci := 10) (j := 0) (q := (RJ11, TJ11, 4)) C rfl (by decide) q980 rfl dJ10_getValue_1 hs_a0 (v := rv θ (sR st0 a0 0)) rfl ?_
  obtain ⟨r1, q2, hb4, hs3, h⟩ := h
  rw [q2]
  refine X_tor ?_
  exact X_aret C rfl (Or.inr ⟨_, rfl⟩) (isRV_r _) dJ10_getValue_4 (hn _ hb4 hs3 h)

theorem nm_J10_length : yJ10_length.cls ≠ "java/lang/invoke/MethodHandle" ∧ yJ10_length.cls ≠ "java/lang/invoke/VarHandle" ∧ (parseMethodDescriptor yJ10_length.desc).map (fun d => d.parameters.length) = some 0 := by decide +kernel
def w_J10_length (st0 : St) (a0 : Nat) (Φ : Int32 → Prop) : Prop := Φ (sI st0 a0 3)
theorem e_J10_length : plainFor yJ10_length = true := plainFor_of_name (by decide +kernel)
theorem m_J10_length {θ : Th} {l : Launch} (hl0 : l.stackTraces = false) (hX : LX θ) {d : Nat} (hd : 0 ≤ d) (st0 : St) (a0 : Nat) (hs_a0 : sh st0 a0 = 11) (hb_a0 : a0 < gBIG) {Φ : Int32 → Prop} (h : w_J10_length st0 a0 Φ) : Ct θ l yJ10_length (ws_ yJ10_length cJ10_length 1 (some Jvm.ClassFile.FieldType.int)) d [.ref (ad θ a0)] st0 (rI st0 Φ, noX) := by
  refine Ct_entry hl0 e_J10_length (Nat.le_of_ble_eq_true rfl) (fun κ hκ _ C => ?_)
  have hn : ∀ r, Φ r → ((rI st0 Φ, noX) : Ph).1 st0 (some (.int r)) := fun r q => ⟨r, rfl, rfl, q⟩
  change X _ _ _ _ _ [(0, .ref (ad θ a0))] _
  unfold w_J10_length at h
  refine X_aload_n C dJ10_length_0 rfl 0 rfl (isRV_r _) ?_
  refine X_get (ci := 10) (j := 3) (q := (RJ11, TJ11, 4)) C rfl (by decide) q983 rfl dJ10_length_1 hs_a0 (v := .int (sI st0 a0 3)) rfl ?_
  exact X_iret C rfl dJ10_length_4 (hn _ h)

theorem nm_J11_length : yJ11_length.cls ≠ "java/lang/invoke/MethodHandle" ∧ yJ11_length.cls ≠ "java/lang/invoke/VarHandle" ∧ (parseMethodDescriptor yJ11_length.desc).map (fun d => d.parameters.length) = some 0 := by decide +kernel
def w_J11_length (st0 : St) (a0 : Nat) (Φ : Int32 → Prop) : Prop := w_J10_length st0 a0 (fun (r1 : Int32) => Φ r1)
theorem e_J11_length : plainFor yJ11_length = true := plainFor_of_name (by decide +kernel)
theorem m_J11_length {θ : Th} {l : Launch} (hl0 : l.stackTraces = false) (hX : LX θ) {d : Nat} (hd : 1 ≤ d) (st0 : St) (a0 : Nat) (hs_a0 : sh st0 a0 = 11) (hb_a0 : a0 < gBIG) {Φ : Int32 → Prop} (h : w_J11_length st0 a0 Φ) : Ct θ l yJ11_length (ws_ yJ11_length cJ11_length 1 (some Jvm.ClassFile.FieldType.int)) d [.ref (ad θ a0)] st0 (rI st0 Φ, noX) := by
  refine Ct_entry hl0 e_J11_length (Nat.le_of_ble_eq_true rfl) (fun κ hκ _ C => ?_)
  have hn : ∀ r, Φ r → ((rI st0 Φ, noX) : Ph).1 st0 (some (.int r)) := fun r q => ⟨r, rfl, rfl, q⟩
  change X _ _ _ _ _ [(0, .ref (ad θ a0))] _
  unfold w_J11_length at h
  refine X_aload_n C dJ11_length_0 rfl 0 rfl (isRV_r _) ?_
  refine X_callSU (ci := 10) (q := (RJ11, TJ11, 4)) (As := []) (rest := []) C rfl hs_a0 q1109 q1105 q992 q1104 q150 q1110 (by decide) nm_J10_length rfl dJ11_length_1 (m_J10_length (Cx_l C) hX (d := d - 1) (by omega) st0 a0 hs_a0 hb_a0 h) (by omega) (by decide) (Nat.le_of_ble_eq_true rfl) (fun s7 w2 hE3 hP4 => ?_) (fun s8 E5 q6 hE3 hP4 => ?_)
  rotate_left
  · exact False.elim hP4
  obtain ⟨r1, rfl, rfl, h⟩ := hP4
  refine X_tls ?_
  exact X_iret C rfl dJ11_length_4 (hn _ h)

theorem nm_J10_charAt : yJ10_charAt.cls ≠ "java/lang/invoke/MethodHandle" ∧ yJ10_charAt.cls ≠ "java/lang/invoke/VarHandle" ∧ (parseMethodDescriptor yJ10_charAt.desc).map (fun d => d.parameters.length) = some 1 := by decide +kernel
def w_J10_charAt (st0 : St) (a0 : Nat) (p1 : Int32) (Φ : Int32 → Prop) : Prop := ∀ v1 : Int32, v1 = (sI st0 a0 1) → ∃ r3, (sR st0 a0 0) = some r3 ∧ r3 < gBIG ∧ sh st0 r3 = 103 ∧ w_J8_min (sI st0 a0 3) ((Int32.ofNat (ln st0 r3)) >>> (v1 &&& 31)) (fun (r7 : Int32) => w_J6_checkIndex st0 p1 r7 (((v1 ≠ 0) → False) ∧ ((v1 = 0) → vp_in p1 (ln st0 r3) ∧ (0 ≤ ((((sI st0 r3 (p1).toNatClampNeg) &&& 255).toUInt32 % 65536).toInt32).toInt ∧ ((((sI st0 r3 (p1).toNatClampNeg) &&& 255).toUInt32 % 65536).toInt32).toInt < 65536) ∧ Φ (((sI st0 r3 (p1).toNatClampNeg) &&& 255).toUInt32 % 65536).toInt32)))
theorem e_J10_charAt : plainFor yJ10_charAt = true := plainFor_of_name (by decide +kernel)
theorem m_J10_charAt {θ : Th} {l : Launch} (hl0 : l.stackTraces = false) (hX : LX θ) {d : Nat} (hd : 2 ≤ d) (st0 : St) (a0 : Nat) (p1 : Int32) (hs_a0 : sh st0 a0 = 11) (hb_a0 : a0 < gBIG) {Φ : Int32 → Prop} (h : w_J10_charAt st0 a0 p1 Φ) : Ct θ l yJ10_charAt (ws_ yJ10_charAt cJ10_charAt 5 (some Jvm.ClassFile.FieldType.char)) d [.ref (ad θ a0), .int p1] st0 (rI st0 Φ, noX) := by
  refine Ct_entry hl0 e_J10_charAt (Nat.le_of_ble_eq_true rfl) (fun κ hκ _ C => ?_)
  have hn : ∀ r, Φ r → ((rI st0 Φ, noX) : Ph).1 st0 (some (.int r)) := fun r q => ⟨r, rfl, rfl, q⟩
  change X _ _ _ _ _ [(0, .ref (ad θ a0)), (1, .int p1)] _
  unfold w_J10_charAt at h
  refine X_aload_n C dJ10_charAt_0 rfl 0 rfl (isRV_r _) ?_
  refine X_get (ci := 10) (j := 1) (q := (RJ11, TJ11, 4)) C rfl (by decide) q981 rfl dJ10_charAt_1 hs_a0 (v := .int (sI st0 a0 1)) rfl ?_
  refine X_topi (fun v1 e2 => ?_)
  have h := h v1 e2
  refine X_istore_n C dJ10_charAt_4 rfl (lo2 := [(2, _), (0, _), (1, _)]) (by decide) rfl ?_
  refine X_aload_n C dJ10_charAt_5 rfl 1 rfl (isRV_r _) ?_
  refine X_get (ci := 10) (j := 0) (q := (RJ11, TJ11, 4)) C rfl (by decide) q980 rfl dJ10_charAt_6 hs_a0 (v := rv θ (sR st0 a0 0)) rfl ?_
  obtain ⟨r3, q4, hb6, hs5, h⟩ := h
  rw [q4]
  refine X_tor ?_
  refine X_astore_n C dJ10_charAt_9 rfl (isRV_r _) (lo2 := [(3, _), (2, _), (0, _), (1, _)]) (by decide) rfl ?_
  refine X_aload_n C dJ10_charAt_10 rfl 2 rfl (isRV_r _) ?_
  refine X_get (ci := 10) (j := 3) (q := (RJ11, TJ11, 4)) C rfl (by decide) q983 rfl dJ10_charAt_11 hs_a0 (v := .int (sI st0 a0 3)) rfl ?_
  refine X_aload_n C dJ10_charAt_14 rfl 0 rfl (isRV_r _) ?_
  refine X_alen C 2 rfl hs5 (by decide) (v := (Int32.ofNat (ln st0 r3))) rfl dJ10_charAt_15 ?_
  refine X_iload_n C dJ10_charAt_16 rfl 1 rfl ?_
  refine X_ishr C dJ10_charAt_17 ?_
  refine X_callS (As := [_, _]) (rest := []) C q1631 q1030 q147 q1031 nm_J8_min rfl dJ10_charAt_18 (m_J8_min (Cx_l C) (d := d - 1) (by omega) st0 (sI st0 a0 3) ((Int32.ofNat (ln st0 r3)) >>> (v1 &&& 31)) h) (by omega) (by decide) (Nat.le_of_ble_eq_true rfl) (fun s13 w8 hE9 hP10 => ?_) (fun s14 E11 q12 hE9 hP10 => ?_)
  rotate_left
  · exact False.elim hP10
  obtain ⟨r7, rfl, rfl, h⟩ := hP10
  refine X_tls ?_
  refine X_istore C dJ10_charAt_21 (lo2 := [(4, _), (3, _), (2, _), (0, _), (1, _)]) (by decide) rfl ?_
  refine X_iload_n C dJ10_charAt_23 rfl 4 rfl ?_
  refine X_iload C dJ10_charAt_24 0 rfl ?_
  refine X_callS (As := [_, _]) (rest := []) C q1632 q1081 q144 q1082 nm_J6_checkIndex rfl dJ10_charAt_26 (m_J6_checkIndex (Cx_l C) (d := d - 1) (by omega) st0 p1 r7 h) (by omega) (by decide) (Nat.le_of_ble_eq_true rfl) (fun s21 w16 hE17 hP18 => ?_) (fun s22 E19 q20 hE17 hP18 => ?_)
  rotate_left
  · exact False.elim hP18
  obtain ⟨rfl, rfl, h⟩ := hP18
  refine X_tln ?_
  refine X_iload_n C dJ10_charAt_29 rfl 2 rfl ?_
  refine X_if_ne (tgt := 42) C dJ10_charAt_30 (by decide) (fun c23 => ?_) (fun c23 => ?_)
  · have h := h.1 c23
    exact h.elim
  · have h := h.2 c23
    refine X_aload_n C dJ10_charAt_33 rfl 1 rfl (isRV_r _) ?_
    refine X_iload_n C dJ10_charAt_34 rfl 4 rfl ?_
    have g24 := h.1
    have h := h.2
    refine X_baldD C hs5 rfl g24 rfl dJ10_charAt_35 ?_
    refine X_sipush (v := 255) C dJ10_charAt_36 rfl ?_
    refine X_iand C dJ10_charAt_39 ?_
    refine X_i2c C dJ10_charAt_40 ?_
    have g25 := h.1
    have h := h.2
    exact X_zret C rfl (nc_in g25).1 dJ10_charAt_41 (hn _ h)

theorem nm_J11_charAt : yJ11_charAt.cls ≠ "java/lang/invoke/MethodHandle" ∧ yJ11_charAt.cls ≠ "java/lang/invoke/VarHandle" ∧ (parseMethodDescriptor yJ11_charAt.desc).map (fun d => d.parameters.length) = some 1 := by decide +kernel
def w_J11_charAt (st0 : St) (a0 : Nat) (p1 : Int32) (Φ : Int32 → Prop) : Prop := w_J10_charAt st0 a0 p1 (fun (r1 : Int32) => (0 ≤ r1.toInt ∧ r1.toInt < 65536) ∧ Φ r1)
theorem e_J11_charAt : plainFor yJ11_charAt = true := plainFor_of_name (by decide +kernel)
theorem m_J11_charAt {θ : Th} {l : Launch} (hl0 : l.stackTraces = false) (hX : LX θ) {d : Nat} (hd : 3 ≤ d) (st0 : St) (a0 : Nat) (p1 : Int32) (hs_a0 : sh st0 a0 = 11) (hb_a0 : a0 < gBIG) {Φ : Int32 → Prop} (h : w_J11_charAt st0 a0 p1 Φ) : Ct θ l yJ11_charAt (ws_ yJ11_charAt cJ11_charAt 2 (some Jvm.ClassFile.FieldType.char)) d [.ref (ad θ a0), .int p1] st0 (rI st0 Φ, noX) := by
  refine Ct_entry hl0 e_J11_charAt (Nat.le_of_ble_eq_true rfl) (fun κ hκ _ C => ?_)
  have hn : ∀ r, Φ r → ((rI st0 Φ, noX) : Ph).1 st0 (some (.int r)) := fun r q => ⟨r, rfl, rfl, q⟩
  change X _ _ _ _ _ [(0, .ref (ad θ a0)), (1, .int p1)] _
  unfold w_J11_charAt at h
  refine X_aload_n C dJ11_charAt_0 rfl 0 rfl (isRV_r _) ?_
  refine X_iload_n C dJ11_charAt_1 rfl 1 rfl ?_
  refine X_callSU (ci := 10) (q := (RJ11, TJ11, 4)) (As := [_]) (rest := []) C rfl hs_a0 q1628 q2440 q992 q1629 q150 q1630 (by decide) nm_J10_charAt rfl dJ11_charAt_2 (m_J10_charAt (Cx_l C) hX (d := d - 1) (by omega) st0 a0 p1 hs_a0 hb_a0 h) (by omega) (by decide) (Nat.le_of_ble_eq_true rfl) (fun s7 w2 hE3 hP4 => ?_) (fun s8 E5 q6 hE3 hP4 => ?_)
  rotate_left
  · exact False.elim hP4
  obtain ⟨r1, rfl, rfl, h⟩ := hP4
  refine X_tls ?_
  have g9 := h.1
  have h := h.2
  exact X_zret C rfl (nc_in g9).1 dJ11_charAt_5 (hn _ h)

theorem nm_J10_newCapacity : yJ10_newCapacity.cls ≠ "java/lang/invoke/MethodHandle" ∧ yJ10_newCapacity.cls ≠ "java/lang/invoke/VarHandle" ∧ (parseMethodDescriptor yJ10_newCapacity.desc).map (fun d => d.parameters.length) = some 1 := by decide +kernel
def w_J10_newCapacity (st0 : St) (a0 : Nat) (p1 : Int32) (Φ : Int32 → Prop) : Prop := ∃ r1, (sR st0 a0 0) = some r1 ∧ r1 < gBIG ∧ sh st0 r1 = 103 ∧ ∀ v5 : Int32, v5 = (Int32.ofNat (ln st0 r1)) → ∀ v7 : Int32, v7 = (p1 <<< ((sI st0 a0 1) &&& 31)) → ∀ v9 : Int32, v9 = (v7 - v5) → w_J13_newLength v5 v9 (v5 + ((2 : Int32) <<< ((sI st0 a0 1) &&& 31))) (fun (r11 : Int32) => ((r11 ≠ 2147483647) → Φ (r11 >>> ((sI st0 a0 1) &&& 31))) ∧ ((r11 = 2147483647) → False))
theorem e_J10_newCapacity : plainFor yJ10_newCapacity = true := plainFor_of_name (by decide +kernel)
theorem m_J10_newCapacity {θ : Th} {l : Launch} (hl0 : l.stackTraces = false) (hX : LX θ) {d : Nat} (hd : 2 ≤ d) (st0 : St) (a0 : Nat) (p1 : Int32) (hs_a0 : sh st0 a0 = 11) (hb_a0 : a0 < gBIG) {Φ : Int32 → Prop} (h : w_J10_newCapacity st0 a0 p1 Φ) : Ct θ l yJ10_newCapacity (ws_ yJ10_newCapacity cJ10_newCapacity 6 (some Jvm.ClassFile.FieldType.int)) d [.ref (ad θ a0), .int p1] st0 (rI st0 Φ, noX) := by
  refine Ct_entry hl0 e_J10_newCapacity (Nat.le_of_ble_eq_true rfl) (fun κ hκ _ C => ?_)
  have hn : ∀ r, Φ r → ((rI st0 Φ, noX) : Ph).1 st0 (some (.int r)) := fun r q => ⟨r, rfl, rfl, q⟩
  change X _ _ _ _ _ [(0, .ref (ad θ a0)), (1, .int p1)] _
  unfold w_J10_newCapacity at h
  refine X_aload_n C dJ10_newCapacity_0 rfl 0 rfl (isRV_r _) ?_
  refine X_get (ci := 10) (j := 0) (q := (RJ11, TJ11, 4)) C rfl (by decide) q980 rfl dJ10_newCapacity_1 hs_a0 (v := rv θ (sR st0 a0 0)) rfl ?_
  obtain ⟨r1, q2, hb4, hs3, h⟩ := h
  rw [q2]
  refine X_tor ?_
  refine X_alen C 2 rfl hs3 (by decide) (v := (Int32.ofNat (ln st0 r1))) rfl dJ10_newCapacity_4 ?_
  refine X_topi (fun v5 e6 => ?_)
  have h := h v5 e6
  refine X_istore_n C dJ10_newCapacity_5 rfl (lo2 := [(2, _), (0, _), (1, _)]) (by decide) rfl ?_
  refine X_iload_n C dJ10_newCapacity_6 rfl 2 rfl ?_
  refine X_aload_n C dJ10_newCapacity_7 rfl 1 rfl (isRV_r _) ?_
  refine X_get (ci := 10) (j := 1) (q := (RJ11, TJ11, 4)) C rfl (by decide) q981 rfl dJ10_newCapacity_8 hs_a0 (v := .int (sI st0 a0 1)) rfl ?_
  refine X_ishl C dJ10_newCapacity_11 ?_
  refine X_topi (fun v7 e8 => ?_)
  have h := h v7 e8
  refine X_istore_n C dJ10_newCapacity_12 rfl (lo2 := [(3, _), (2, _), (0, _), (1, _)]) (by decide) rfl ?_
  refine X_iload_n C dJ10_newCapacity_13 rfl 0 rfl ?_
  refine X_iload_n C dJ10_newCapacity_14 rfl 1 rfl ?_
  refine X_isub C dJ10_newCapacity_15 ?_
  refine X_topi (fun v9 e10 => ?_)
  have h := h v9 e10
  refine X_istore C dJ10_newCapacity_16 (lo2 := [(4, _), (3, _), (2, _), (0, _), (1, _)]) (by decide) rfl ?_
  refine X_iload_n C dJ10_newCapacity_18 rfl 2 rfl ?_
  refine X_iload C dJ10_newCapacity_19 0 rfl ?_
  refine X_iload_n C dJ10_newCapacity_21 rfl 2 rfl ?_
  refine X_iconst (v := 2) C dJ10_newCapacity_22 rfl ?_
  refine X_aload_n C dJ10_newCapacity_23 rfl 3 rfl (isRV_r _) ?_
  refine X_get (ci := 10) (j := 1) (q := (RJ11, TJ11, 4)) C rfl (by decide) q981 rfl dJ10_newCapacity_24 hs_a0 (v := .int (sI st0 a0 1)) rfl ?_
  refine X_ishl C dJ10_newCapacity_27 ?_
  refine X_iadd C dJ10_newCapacity_28 ?_
  refine X_callS (As := [_, _, _]) (rest := []) C q1008 q1009 q153 q1010 nm_J13_newLength rfl dJ10_newCapacity_29 (m_J13_newLength (Cx_l C) hX (d := d - 1) (by omega) st0 v5 v9 (v5 + ((2 : Int32) <<< ((sI st0 a0 1) &&& 31))) h) (by omega) (by decide) (Nat.le_of_ble_eq_true rfl) (fun s17 w12 hE13 hP14 => ?_) (fun s18 E15 q16 hE13 hP14 => ?_)
  rotate_left
  · exact False.elim hP14
  obtain ⟨r11, rfl, rfl, h⟩ := hP14
  refine X_tls ?_
  refine X_istore C dJ10_newCapacity_32 (lo2 := [(5, _), (4, _), (3, _), (2, _), (0, _), (1, _)]) (by decide) rfl ?_
  refine X_iload C dJ10_newCapacity_34 0 rfl ?_
  refine X_ldc C q1018 dJ10_newCapacity_36 ?_
  refine X_icmp_ne (tgt := 51) C dJ10_newCapacity_38 (by decide) (fun c19 => ?_) (fun c19 => ?_)
  · have h := h.1 c19
    refine X_iload C dJ10_newCapacity_51 0 rfl ?_
    refine X_aload_n C dJ10_newCapacity_53 rfl 4 rfl (isRV_r _) ?_
    refine X_get (ci := 10) (j := 1) (q := (RJ11, TJ11, 4)) C rfl (by decide) q981 rfl dJ10_newCapacity_54 hs_a0 (v := .int (sI st0 a0 1)) rfl ?_
    refine X_ishr C dJ10_newCapacity_57 ?_
    exact X_iret C rfl dJ10_newCapacity_58 (hn _ h)
  · have h := h.2 c19
    exact h.elim

theorem nm_J10_ensureCapacityInternal : yJ10_ensureCapacityInternal.cls ≠ "java/lang/invoke/MethodHandle" ∧ yJ10_ensureCapacityInternal.cls ≠ "java/lang/invoke/VarHandle" ∧ (parseMethodDescriptor yJ10_ensureCapacityInternal.desc).map (fun d => d.parameters.length) = some 1 := by decide +kernel
def w_J10_ensureCapacityInternal (st : St) (a0 : Nat) (p1 : Int32) (Φ : St → Prop) : Prop := ∃ r1, (sR st a0 0) = some r1 ∧ r1 < gBIG ∧ sh st r1 = 103 ∧ ∀ v5 : Int32, v5 = ((Int32.ofNat (ln st r1)) >>> ((sI st a0 1) &&& 31)) → (((p1 - v5) ≤ 0) → Φ st) ∧ ((¬ (p1 - v5) ≤ 0) → w_J10_newCapacity st a0 p1 (fun (r8 : Int32) => w_J14_copyOf st r1 (r8 <<< ((sI st a0 1) &&& 31)) (fun (s17 : St) (r16 : Nat) => ∀ s26, s26 = putR s17 a0 0 (some r16) → Φ s26)))
theorem e_J10_ensureCapacityInternal : plainFor yJ10_ensureCapacityInternal = true := plainFor_of_name (by decide +kernel)
theorem m_J10_ensureCapacityInternal {θ : Th} {l : Launch} (hl0 : l.stackTraces = false) (hX : LX θ) {d : Nat} (hd : 3 ≤ d) (st : St) (a0 : Nat) (p1 : Int32) (hs_a0 : sh st a0 = 11) (hb_a0 : a0 < gBIG) {Φ : St → Prop} (h : w_J10_ensureCapacityInternal st a0 p1 Φ) : Ct θ l yJ10_ensureCapacityInternal (ws_ yJ10_ensureCapacityInternal cJ10_ensureCapacityInternal 3 (none : Option Jvm.ClassFile.FieldType)) d [.ref (ad θ a0), .int p1] st (pV Φ, noX) := by
  refine Ct_entry hl0 e_J10_ensureCapacityInternal (Nat.le_of_ble_eq_true rfl) (fun κ hκ _ C => ?_)
  have hn : ∀ st, Φ st → ((pV Φ, noX) : Ph).1 st none := fun st q => ⟨rfl, q⟩
  change X _ _ _ _ _ [(0, .ref (ad θ a0)), (1, .int p1)] _
  unfold w_J10_ensureCapacityInternal at h
  refine X_aload_n C dJ10_ensureCapacityInternal_0 rfl 0 rfl (isRV_r _) ?_
  refine X_get (ci := 10) (j := 0) (q := (RJ11, TJ11, 4)) C rfl (by decide) q980 rfl dJ10_ensureCapacityInternal_1 hs_a0 (v := rv θ (sR st a0 0)) rfl ?_
  obtain ⟨r1, q2, hb4, hs3, h⟩ := h
  rw [q2]
  refine X_tor ?_
  refine X_alen C 2 rfl hs3 (by decide) (v := (Int32.ofNat (ln st r1))) rfl dJ10_ensureCapacityInternal_4 ?_
  refine X_aload_n C dJ10_ensureCapacityInternal_5 rfl 0 rfl (isRV_r _) ?_
  refine X_get (ci := 10) (j := 1) (q := (RJ11, TJ11, 4)) C rfl (by decide) q981 rfl dJ10_ensureCapacityInternal_6 hs_a0 (v := .int (sI st a0 1)) rfl ?_
  refine X_ishr C dJ10_ensureCapacityInternal_9 ?_
  refine X_topi (fun v5 e6 => ?_)
  have h := h v5 e6
  refine X_istore_n C dJ10_ensureCapacityInternal_10 rfl (lo2 := [(2, _), (0, _), (1, _)]) (by decide) rfl ?_
  refine X_iload_n C dJ10_ensureCapacityInternal_11 rfl 2 rfl ?_
  refine X_iload_n C dJ10_ensureCapacityInternal_12 rfl 0 rfl ?_
  refine X_isub C dJ10_ensureCapacityInternal_13 ?_
  refine X_if_le (tgt := 38) C dJ10_ensureCapacityInternal_14 (by decide) (fun c7 => ?_) (fun c7 => ?_)
  · have h := h.1 c7
    exact X_vret C rfl dJ10_ensureCapacityInternal_38 (hn st h)
  · have h := h.2 c7
    refine X_aload_n C dJ10_ensureCapacityInternal_17 rfl 1 rfl (isRV_r _) ?_
    refine X_aload_n C dJ10_ensureCapacityInternal_18 rfl 1 rfl (isRV_r _) ?_
    refine X_get (ci := 10) (j := 0) (q := (RJ11, TJ11, 4)) C rfl (by decide) q980 rfl dJ10_ensureCapacityInternal_19 hs_a0 (v := rv θ (sR st a0 0)) rfl ?_
    rw [q2]
    refine X_tor ?_
    refine X_aload_n C dJ10_ensureCapacityInternal_22 rfl 1 rfl (isRV_r _) ?_
    refine X_iload_n C dJ10_ensureCapacityInternal_23 rfl 2 rfl ?_
    refine X_callU (ci := 10) (q := (RJ11, TJ11, 4)) (owner := "java/lang/AbstractStringBuilder") (As := [_]) (rest := [_, _]) C rfl hs_a0 q1004 q2431 (fun _ _ h _ => va_Decl.of (h _ q1006) (h _ q1007)) (fun _ _ _ h => KS_PS h (by simp [gPS])) q1006 q150 q1007 nmF_16 rfl dJ10_ensureCapacityInternal_24 (m_J10_newCapacity (Cx_l C) hX (d := d - 1) (by omega) st a0 p1 hs_a0 hb_a0 h) (by omega) (by decide) (Nat.le_of_ble_eq_true rfl) (fun s14 w9 hE10 hP11 => ?_) (fun s15 E12 q13 hE10 hP11 => ?_)
    rotate_left
    · exact False.elim hP11
    obtain ⟨r8, rfl, rfl, h⟩ := hP11
    refine X_tls ?_
    refine X_aload_n C dJ10_ensureCapacityInternal_27 rfl 1 rfl (isRV_r _) ?_
    refine X_get (ci := 10) (j := 1) (q := (RJ11, TJ11, 4)) C rfl (by decide) q981 rfl dJ10_ensureCapacityInternal_28 hs_a0 (v := .int (sI st a0 1)) rfl ?_
    refine X_ishl C dJ10_ensureCapacityInternal_31 ?_
    refine X_callS (As := [_, _]) (rest := [_]) C q1019 q1020 q154 q1021 nm_J14_copyOf rfl dJ10_ensureCapacityInternal_32 (m_J14_copyOf (Cx_l C) hX (d := d - 1) (by omega) st r1 (r8 <<< ((sI st a0 1) &&& 31)) hs3 hb4 h) (by omega) (by decide) (Nat.le_of_ble_eq_true rfl) (fun s17 w18 hE19 hP20 => ?_) (fun s23 E21 q22 hE19 hP20 => ?_)
    rotate_left
    · exact False.elim hP20
    obtain ⟨r16, rfl, hb24, hs25, h⟩ := hP20
    refine X_tls ?_
    have hs_a0 := Ext_sh hE19 hs_a0 (by decide)
    have hs3 := Ext_sh hE19 hs3 (by decide)
    refine X_putR (v := (some r16)) (ci := 10) (j := 0) (q := (RJ11, TJ11, 4)) C hX rfl (by decide) q980 rfl rfl dJ10_ensureCapacityInternal_35 hb_a0 hs_a0 (by decide) (Or.inr ⟨_, rfl⟩) ?_
    refine X_nm (fun s26 e27 => ?_)
    have h := h s26 e27
    have hs_a0 : sh s26 a0 = 11 := by rw [e27]; exact hs_a0
    have hs3 : sh s26 r1 = 103 := by rw [e27]; exact hs3
    have hs25 : sh s26 r16 = 103 := by rw [e27]; exact hs25
    exact X_vret C rfl dJ10_ensureCapacityInternal_38 (hn s26 h)

theorem nm_J10_init : yJ10_init.cls ≠ "java/lang/invoke/MethodHandle" ∧ yJ10_init.cls ≠ "java/lang/invoke/VarHandle" ∧ (parseMethodDescriptor yJ10_init.desc).map (fun d => d.parameters.length) = some 1 := by decide +kernel
def w_J10_init (st : St) (a0 : Nat) (p1 : Int32) (Φ : St → Prop) : Prop := ¬ p1 < 0 ∧ p1.toNatClampNeg * 8 ≤ 536870912 ∧ sN st + 1 ≤ gCAP ∧ sS st + p1.toNatClampNeg ≤ gCAPS ∧ ∀ s5, s5 = mk st 103 (p1.toNatClampNeg) → ∀ s11, s11 = putR s5 a0 0 (some (sN st)) → ∀ s13, s13 = putI s11 a0 1 0 → Φ s13
theorem e_J10_init : plainFor yJ10_init = true := plainFor_of_name (by decide +kernel)
theorem m_J10_init {θ : Th} {l : Launch} (hl0 : l.stackTraces = false) (hX : LX θ) {d : Nat} (hd : 0 ≤ d) (st : St) (a0 : Nat) (p1 : Int32) (hs_a0 : sh st a0 = 11) (hb_a0 : a0 < gBIG) {Φ : St → Prop} (h : w_J10_init st a0 p1 Φ) : Ct θ l yJ10_init (ws_ yJ10_init cJ10_init 2 (none : Option Jvm.ClassFile.FieldType)) d [.ref (ad θ a0), .int p1] st (pV Φ, noX) := by
  refine Ct_entry hl0 e_J10_init (Nat.le_of_ble_eq_true rfl) (fun κ hκ _ C => ?_)
  have hn : ∀ st, Φ st → ((pV Φ, noX) : Ph).1 st none := fun st q => ⟨rfl, q⟩
  change X _ _ _ _ _ [(0, .ref (ad θ a0)), (1, .int p1)] _
  unfold w_J10_init at h
  refine X_aload_n C dJ10_init_0 rfl 0 rfl (isRV_r _) ?_
  refine X_objInit C ⟨_, rfl⟩ q970 q168 q169 (Nat.le_of_ble_eq_true rfl) dJ10_init_1 ?_
  refine X_getsZ (v := .int 1) C (fun s h => h.2.2.2.2.2.1) q971 rfl dJ10_init_4 ?_
  refine X_if_eq (tgt := 25) C dJ10_init_7 (by decide) (fun c15 => ?_) (fun c15 => ?_)
  · exact absurd c15 (by decide)
  · refine X_aload_n C dJ10_init_10 rfl 0 rfl (isRV_r _) ?_
    refine X_iload_n C dJ10_init_11 rfl 1 rfl ?_
    have g1 := h.1
    have h := h.2
    have g2 := h.1
    have h := h.2
    have g3 := h.1
    have h := h.2
    have g4 := h.1
    have h := h.2
    refine X_newarray (t := 103) (aty := .byte) C 2 rfl (by decide) rfl q259 (fun _ _ h => h) g1 rfl g2 (by decide) g3 g4 dJ10_init_12 (fun hE7 => ?_)
    refine X_nm (fun s5 e6 => ?_)
    have h := h s5 e6
    rw [← e6] at hE7
    have hs_a0 := Ext_sh hE7 hs_a0 (by decide)
    have hs8 : sh s5 (sN st) = 103 := by rw [e6]; exact sh_mk
    have hl10 : ln s5 (sN st) = p1.toNatClampNeg := by rw [e6]; exact ln_mk
    have hb9 := nb_N g3
    refine X_putR (v := (some (sN st))) (ci := 10) (j := 0) (q := (RJ11, TJ11, 4)) C hX rfl (by decide) q980 rfl rfl dJ10_init_14 hb_a0 hs_a0 (by decide) (Or.inr ⟨_, rfl⟩) ?_
    refine X_nm (fun s11 e12 => ?_)
    have h := h s11 e12
    have hs_a0 : sh s11 a0 = 11 := by rw [e12]; exact hs_a0
    have hs8 : sh s11 (sN st) = 103 := by rw [e12]; exact hs8
    refine X_aload_n C dJ10_init_17 rfl 0 rfl (isRV_r _) ?_
    refine X_iconst (v := 0) C dJ10_init_18 rfl ?_
    refine X_putI (ci := 10) (j := 1) (q := (RJ11, TJ11, 4)) C rfl (by decide) q981 rfl rfl dJ10_init_19 hb_a0 hs_a0 rfl rfl rfl ?_
    refine X_nm (fun s13 e14 => ?_)
    have h := h s13 e14
    have hs_a0 : sh s13 a0 = 11 := by rw [e14]; exact hs_a0
    have hs8 : sh s13 (sN st) = 103 := by rw [e14]; exact hs8
    refine X_goto (tgt := 38) C dJ10_init_22 (by decide) ?_
    exact X_vret C rfl dJ10_init_38 (hn s13 h)

theorem nm_J11_init : yJ11_init.cls ≠ "java/lang/invoke/MethodHandle" ∧ yJ11_init.cls ≠ "java/lang/invoke/VarHandle" ∧ (parseMethodDescriptor yJ11_init.desc).map (fun d => d.parameters.length) = some 0 := by decide +kernel
def w_J11_init (st : St) (a0 : Nat) (Φ : St → Prop) : Prop := w_J10_init st a0 16 (fun (s2 : St) => Φ s2)
theorem e_J11_init : plainFor yJ11_init = true := plainFor_of_name (by decide +kernel)
theorem m_J11_init {θ : Th} {l : Launch} (hl0 : l.stackTraces = false) (hX : LX θ) {d : Nat} (hd : 1 ≤ d) (st : St) (a0 : Nat) (hs_a0 : sh st a0 = 11) (hb_a0 : a0 < gBIG) {Φ : St → Prop} (h : w_J11_init st a0 Φ) : Ct θ l yJ11_init (ws_ yJ11_init cJ11_init 1 (none : Option Jvm.ClassFile.FieldType)) d [.ref (ad θ a0)] st (pV Φ, noX) := by
  refine Ct_entry hl0 e_J11_init (Nat.le_of_ble_eq_true rfl) (fun κ hκ _ C => ?_)
  have hn : ∀ st, Φ st → ((pV Φ, noX) : Ph).1 st none := fun st q => ⟨rfl, q⟩
  change X _ _ _ _ _ [(0, .ref (ad θ a0))] _
  unfold w_J11_init at h
  refine X_aload_n C dJ11_init_0 rfl 0 rfl (isRV_r _) ?_
  refine X_bipush (v := 16) C dJ11_init_1 rfl ?_
  refine X_callI (As := [_]) (rest := []) C q967 q968 q150 q969 rfl nm_J10_init rfl dJ11_init_3 (m_J10_init (Cx_l C) hX (d := d - 1) (by omega) st a0 16 hs_a0 hb_a0 h) (by omega) (by decide) (Nat.le_of_ble_eq_true rfl) (fun s2 w3 hE4 hP5 => ?_) (fun s8 E6 q7 hE4 hP5 => ?_)
  rotate_left
  · exact False.elim hP5
  obtain ⟨rfl, h⟩ := hP5
  refine X_tln ?_
  have hs_a0 := Ext_sh hE4 hs_a0 (by decide)
  exact X_vret C rfl dJ11_init_6 (hn s2 h)

theorem nm_J10_append : yJ10_append.cls ≠ "java/lang/invoke/MethodHandle" ∧ yJ10_append.cls ≠ "java/lang/invoke/VarHandle" ∧ (parseMethodDescriptor yJ10_append.desc).map (fun d => d.parameters.length) = some 1 := by decide +kernel
def w_J10_append_b45 (Φ : St → Nat → Prop) (st : St) (x0 : Nat) (x1 : Int32) : Prop := w_J10_isLatin1 st x0 (fun (r18 : Int32) => ((r18 = 0) → False) ∧ ((¬ r18 = 0) → False))
theorem t_J10_append_b45 {θ : Th} {κ : Kx} {Ph : Ph} (hX : LX θ) {d : Nat} (hd : 4 ≤ d) (C : Cx θ κ yJ10_append cJ10_append 2 (some (Jvm.ClassFile.FieldType.object "java/lang/AbstractStringBuilder")) [] d) {Φ : St → Nat → Prop} (hn : ∀ st r, r < gBIG → sh st r = 11 → Φ st r → Ph.1 st (some (.ref (ad θ r)))) (st : St) (x0 : Nat) (x1 : Int32) (hs_x0 : sh st x0 = 11) (hb_x0 : x0 < gBIG) (h : w_J10_append_b45 Φ st x0 x1) : X θ κ Ph st 45 [(0, .ref (ad θ x0)), (1, .int x1)] [] := by
  unfold w_J10_append_b45 at h
  refine X_aload_n C dJ10_append_45 rfl 0 rfl (isRV_r _) ?_
  refine X_callU (ci := 10) (q := (RJ11, TJ11, 4)) (owner := "java/lang/AbstractStringBuilder") (As := []) (rest := []) C rfl hs_x0 q1033 q1035 (fun _ _ h _ => va_Decl.of (h _ q1034) (h _ q1037)) (fun _ _ h _ => h _ q1036) q1034 q150 q1037 nmF_14 rfl dJ10_append_46 (m_J10_isLatin1 (Cx_l C) hX (d := d - 1) (by omega) st x0 hs_x0 hb_x0 h) (by omega) (by decide) (Nat.le_of_ble_eq_true rfl) (fun s24 w19 hE20 hP21 => ?_) (fun s25 E22 q23 hE20 hP21 => ?_)
  rotate_left
  · exact False.elim hP21
  obtain ⟨r18, rfl, rfl, h⟩ := hP21
  refine X_tls ?_
  refine X_if_eq (tgt := 56) C dJ10_append_49 (by decide) (fun c26 => ?_) (fun c26 => ?_)
  · have h := h.1 c26
    exact h.elim
  · have h := h.2 c26
    exact h.elim
def w_J10_append (st : St) (a0 : Nat) (p1 : Int32) (Φ : St → Nat → Prop) : Prop := w_J10_ensureCapacityInternal st a0 ((sI st a0 3) + 1) (fun (s2 : St) => w_J10_isLatin1 s2 a0 (fun (r9 : Int32) => ((r9 = 0) → w_J10_append_b45 Φ s2 a0 p1) ∧ ((¬ r9 = 0) → w_J15_canEncode p1 (fun (r33 : Int32) => ((r33 = 0) → w_J10_append_b45 Φ s2 a0 p1) ∧ ((¬ r33 = 0) → ∃ r42, (sR s2 a0 0) = some r42 ∧ r42 < gBIG ∧ sh s2 r42 = 103 ∧ ∀ s46, s46 = putI s2 a0 3 ((sI s2 a0 3) + 1) → vp_in (sI s2 a0 3) (ln s46 r42) ∧ ∀ s49, s49 = putI s46 r42 (((sI s2 a0 3)).toNatClampNeg) (p1.toInt8.toInt32.toInt8.toInt32) → Φ s49 a0)))))
theorem e_J10_append : plainFor yJ10_append = true := plainFor_of_name (by decide +kernel)
theorem m_J10_append {θ : Th} {l : Launch} (hl0 : l.stackTraces = false) (hX : LX θ) {d : Nat} (hd : 4 ≤ d) (st : St) (a0 : Nat) (p1 : Int32) (hs_a0 : sh st a0 = 11) (hb_a0 : a0 < gBIG) {Φ : St → Nat → Prop} (h : w_J10_append st a0 p1 Φ) : Ct θ l yJ10_append (ws_ yJ10_append cJ10_append 2 (some (Jvm.ClassFile.FieldType.object "java/lang/AbstractStringBuilder"))) d [.ref (ad θ a0), .int p1] st (pN θ 11 Φ, noX) := by
  refine Ct_entry hl0 e_J10_append (Nat.le_of_ble_eq_true rfl) (fun κ hκ _ C => ?_)
  have hn : ∀ st r, r < gBIG → sh st r = 11 → Φ st r → ((pN θ 11 Φ, noX) : Ph).1 st (some (.ref (ad θ r))) := fun st r q1 q2 q => ⟨r, rfl, q1, q2, q⟩
  change X _ _ _ _ _ [(0, .ref (ad θ a0)), (1, .int p1)] _
  unfold w_J10_append at h
  refine X_aload_n C dJ10_append_0 rfl 0 rfl (isRV_r _) ?_
  refine X_aload_n C dJ10_append_1 rfl 0 rfl (isRV_r _) ?_
  refine X_get (ci := 10) (j := 3) (q := (RJ11, TJ11, 4)) C rfl (by decide) q983 rfl dJ10_append_2 hs_a0 (v := .int (sI st a0 3)) rfl ?_
  refine X_iconst (v := 1) C dJ10_append_5 rfl ?_
  refine X_iadd C dJ10_append_6 ?_
  refine X_callU (ci := 10) (q := (RJ11, TJ11, 4)) (owner := "java/lang/AbstractStringBuilder") (As := [_]) (rest := []) C rfl hs_a0 q1000 q2430 (fun _ _ h _ => va_Decl.of (h _ q1002) (h _ q1003)) (fun _ _ _ h => KS_PS h (by simp [gPS])) q1002 q150 q1003 nmF_10 rfl dJ10_append_7 (m_J10_ensureCapacityInternal (Cx_l C) hX (d := d - 1) (by omega) st a0 ((sI st a0 3) + 1) hs_a0 hb_a0 h) (by omega) (by decide) (Nat.le_of_ble_eq_true rfl) (fun s2 w3 hE4 hP5 => ?_) (fun s8 E6 q7 hE4 hP5 => ?_)
  rotate_left
  · exact False.elim hP5
  obtain ⟨rfl, h⟩ := hP5
  refine X_tln ?_
  have hs_a0 := Ext_sh hE4 hs_a0 (by decide)
  refine X_aload_n C dJ10_append_10 rfl 0 rfl (isRV_r _) ?_
  refine X_callU (ci := 10) (q := (RJ11, TJ11, 4)) (owner := "java/lang/AbstractStringBuilder") (As := []) (rest := []) C rfl hs_a0 q1033 q1035 (fun _ _ h _ => va_Decl.of (h _ q1034) (h _ q1037)) (fun _ _ h _ => h _ q1036) q1034 q150 q1037 nmF_14 rfl dJ10_append_11 (m_J10_isLatin1 (Cx_l C) hX (d := d - 1) (by omega) s2 a0 hs_a0 hb_a0 h) (by omega) (by decide) (Nat.le_of_ble_eq_true rfl) (fun s15 w10 hE11 hP12 => ?_) (fun s16 E13 q14 hE11 hP12 => ?_)
  rotate_left
  · exact False.elim hP12
  obtain ⟨r9, rfl, rfl, h⟩ := hP12
  refine X_tls ?_
  refine X_if_eq (tgt := 45) C dJ10_append_14 (by decide) (fun c17 => ?_) (fun c17 => ?_)
  · have h := h.1 c17
    exact t_J10_append_b45 hX hd C hn s2 a0 p1 hs_a0 hb_a0 h
  · have h := h.2 c17
    refine X_iload_n C dJ10_append_17 rfl 1 rfl ?_
    refine X_callS (As := [_]) (rest := []) C q1038 q1039 q155 q1040 nm_J15_canEncode rfl dJ10_append_18 (m_J15_canEncode (Cx_l C) hX (d := d - 1) (by omega) s2 p1 h) (by omega) (by decide) (Nat.le_of_ble_eq_true rfl) (fun s39 w34 hE35 hP36 => ?_) (fun s40 E37 q38 hE35 hP36 => ?_)
    rotate_left
    · exact False.elim hP36
    obtain ⟨r33, rfl, rfl, h⟩ := hP36
    refine X_tls ?_
    refine X_if_eq (tgt := 45) C dJ10_append_21 (by decide) (fun c41 => ?_) (fun c41 => ?_)
    · have h := h.1 c41
      exact t_J10_append_b45 hX hd C hn s2 a0 p1 hs_a0 hb_a0 h
    · have h := h.2 c41
      refine X_aload_n C dJ10_append_24 rfl 0 rfl (isRV_r _) ?_
      refine X_get (ci := 10) (j := 0) (q := (RJ11, TJ11, 4)) C rfl (by decide) q980 rfl dJ10_append_25 hs_a0 (v := rv θ (sR s2 a0 0)) rfl ?_
      obtain ⟨r42, q43, hb45, hs44, h⟩ := h
      rw [q43]
      refine X_tor ?_
      refine X_aload_n C dJ10_append_28 rfl 0 rfl (isRV_r _) ?_
      refine X_dup C dJ10_append_29 rfl ?_
      refine X_get (ci := 10) (j := 3) (q := (RJ11, TJ11, 4)) C rfl (by decide) q983 rfl dJ10_append_30 hs_a0 (v := .int (sI s2 a0 3)) rfl ?_
      refine X_dup_x1 C dJ10_append_33 rfl rfl ?_
      refine X_iconst (v := 1) C dJ10_append_34 rfl ?_
      refine X_iadd C dJ10_append_35 ?_
      refine X_putI (ci := 10) (j := 3) (q := (RJ11, TJ11, 4)) C rfl (by decide) q983 rfl rfl dJ10_append_36 hb_a0 hs_a0 rfl rfl rfl ?_
      refine X_nm (fun s46 e47 => ?_)
      have h := h s46 e47
      have hs_a0 : sh s46 a0 = 11 := by rw [e47]; exact hs_a0
      have hs44 : sh s46 r42 = 103 := by rw [e47]; exact hs44
      refine X_iload_n C dJ10_append_39 rfl 1 rfl ?_
      refine X_i2b C dJ10_append_40 ?_
      have g48 := h.1
      have h := h.2
      refine X_bastD C hb45 hs44 rfl g48 rfl dJ10_append_41 ?_
      refine X_nm (fun s49 e50 => ?_)
      have h := h s49 e50
      have hs_a0 : sh s49 a0 = 11 := by rw [e50]; exact hs_a0
      have hs44 : sh s49 r42 = 103 := by rw [e50]; exact hs44
      refine X_goto (tgt := 75) C dJ10_append_42 (by decide) ?_
      refine X_aload_n C dJ10_append_75 rfl 0 rfl (isRV_r _) ?_
      exact X_aret C rfl (Or.inl ⟨_, rfl⟩) (isRV_r _) dJ10_append_76 (hn s49 _ hb_a0 hs_a0 h)

theorem nm_J11_append : yJ11_append.cls ≠ "java/lang/invoke/MethodHandle" ∧ yJ11_append.cls ≠ "java/lang/invoke/VarHandle" ∧ (parseMethodDescriptor yJ11_append.desc).map (fun d => d.parameters.length) = some 1 := by decide +kernel
def w_J11_append (st : St) (a0 : Nat) (p1 : Int32) (Φ : St → Nat → Prop) : Prop := w_J10_append st a0 p1 (fun (s2 : St) (r1 : Nat) => Φ s2 a0)
theorem e_J11_append : plainFor yJ11_append = true := plainFor_of_name (by decide +kernel)
theorem m_J11_append {θ : Th} {l : Launch} (hl0 : l.stackTraces = false) (hX : LX θ) {d : Nat} (hd : 5 ≤ d) (st : St) (a0 : Nat) (p1 : Int32) (hs_a0 : sh st a0 = 11) (hb_a0 : a0 < gBIG) {Φ : St → Nat → Prop} (h : w_J11_append st a0 p1 Φ) : Ct θ l yJ11_append (ws_ yJ11_append cJ11_append 2 (some (Jvm.ClassFile.FieldType.object "java/lang/StringBuilder"))) d [.ref (ad θ a0), .int p1] st (pN θ 11 Φ, noX) := by
  refine Ct_entry hl0 e_J11_append (Nat.le_of_ble_eq_true rfl) (fun κ hκ _ C => ?_)
  have hn : ∀ st r, r < gBIG → sh st r = 11 → Φ st r → ((pN θ 11 Φ, noX) : Ph).1 st (some (.ref (ad θ r))) := fun st r q1 q2 q => ⟨r, rfl, q1, q2, q⟩
  change X _ _ _ _ _ [(0, .ref (ad θ a0)), (1, .int p1)] _
  unfold w_J11_append at h
  refine X_aload_n C dJ11_append_0 rfl 0 rfl (isRV_r _) ?_
  refine X_iload_n C dJ11_append_1 rfl 1 rfl ?_
  refine X_callSU (ci := 10) (q := (RJ11, TJ11, 4)) (As := [_]) (rest := []) C rfl hs_a0 q997 q2429 q992 q998 q150 q999 (by decide) nm_J10_append rfl dJ11_append_2 (m_J10_append (Cx_l C) hX (d := d - 1) (by omega) st a0 p1 hs_a0 hb_a0 h) (by omega) (by decide) (Nat.le_of_ble_eq_true rfl) (fun s2 w3 hE4 hP5 => ?_) (fun s8 E6 q7 hE4 hP5 => ?_)
  rotate_left
  · exact False.elim hP5
  obtain ⟨r1, rfl, hb9, hs10, h⟩ := hP5
  refine X_tls ?_
  have hs_a0 := Ext_sh hE4 hs_a0 (by decide)
  refine X_pop C dJ11_append_5 rfl ?_
  refine X_aload_n C dJ11_append_6 rfl 0 rfl (isRV_r _) ?_
  exact X_aret C rfl (Or.inl ⟨_, rfl⟩) (isRV_r _) dJ11_append_7 (hn s2 _ hb_a0 hs_a0 h)

theorem nm_J6_getBytes : yJ6_getBytes.cls ≠ "java/lang/invoke/MethodHandle" ∧ yJ6_getBytes.cls ≠ "java/lang/invoke/VarHandle" ∧ (parseMethodDescriptor yJ6_getBytes.desc).map (fun d => d.parameters.length) = some 3 := by decide +kernel
def w_J6_getBytes (st : St) (a0 : Nat) (p1 : Nat) (p2 : Int32) (p3 : Int32) (Φ : St → Prop) : Prop := w_J6_coder st a0 (fun (r1 : Int32) => ((r1 ≠ p3) → False) ∧ ((r1 = p3) → ∃ r13, (sR st a0 0) = some r13 ∧ sh st r13 = 103 ∧ ¬ (p2 <<< (p3 &&& 31)) < 0 ∧ ¬ (Int32.ofNat (ln st r13)) < 0 ∧ 0 + (Int32.ofNat (ln st r13)).toNatClampNeg ≤ ln st r13 ∧ (p2 <<< (p3 &&& 31)).toNatClampNeg + (Int32.ofNat (ln st r13)).toNatClampNeg ≤ ln st p1 ∧ (∀ i, i < (Int32.ofNat (ln st r13)).toNatClampNeg → (sI st r13 (0 + i)).toInt8.toInt32 = sI st r13 (0 + i)) ∧ ∀ s21, s21 = cpI st r13 0 p1 ((p2 <<< (p3 &&& 31)).toNatClampNeg) ((Int32.ofNat (ln st r13)).toNatClampNeg) → Φ s21))
theorem e_J6_getBytes : plainFor yJ6_getBytes = true := plainFor_of_name (by decide +kernel)
theorem m_J6_getBytes {θ : Th} {l : Launch} (hl0 : l.stackTraces = false) (hX : LX θ) {d : Nat} (hd : 1 ≤ d) (st : St) (a0 : Nat) (p1 : Nat) (p2 : Int32) (p3 : Int32) (hs_a0 : sh st a0 = 10) (hs_p1 : sh st p1 = 103) (hb_p1 : p1 < gBIG) {Φ : St → Prop} (h : w_J6_getBytes st a0 p1 p2 p3 Φ) : Ct θ l yJ6_getBytes (ws_ yJ6_getBytes cJ6_getBytes 4 (none : Option Jvm.ClassFile.FieldType)) d [.ref (ad θ a0), .ref (ad θ p1), .int p2, .int p3] st (pV Φ, noX) := by
  refine Ct_entry hl0 e_J6_getBytes (Nat.le_of_ble_eq_true rfl) (fun κ hκ _ C => ?_)
  have hn : ∀ st, Φ st → ((pV Φ, noX) : Ph).1 st none := fun st q => ⟨rfl, q⟩
  change X _ _ _ _ _ [(0, .ref (ad θ a0)), (1, .ref (ad θ p1)), (2, .int p2), (3, .int p3)] _
  unfold w_J6_getBytes at h
  refine X_aload_n C dJ6_getBytes_0 rfl 0 rfl (isRV_r _) ?_
  refine X_callV (ci := 9) (q := (RJ6, TJ6, 4)) (As := []) (rest := []) C rfl hs_a0 q1383 q1384 q1385 q144 q1386 ⟨rfl, nm_J6_coder⟩ rfl dJ6_getBytes_1 (m_J6_coder (Cx_l C) hX (d := d - 1) (by omega) st a0 hs_a0 h) (by omega) (by decide) (Nat.le_of_ble_eq_true rfl) (fun s7 w2 hE3 hP4 => ?_) (fun s8 E5 q6 hE3 hP4 => ?_)
  rotate_left
  · exact False.elim hP4
  obtain ⟨r1, rfl, rfl, h⟩ := hP4
  refine X_tls ?_
  refine X_iload_n C dJ6_getBytes_4 rfl 3 rfl ?_
  refine X_icmp_ne (tgt := 28) C dJ6_getBytes_5 (by decide) (fun c9 => ?_) (fun c9 => ?_)
  · have h := h.1 c9
    exact h.elim
  · have h := h.2 c9
    refine X_aload_n C dJ6_getBytes_8 rfl 0 rfl (isRV_r _) ?_
    refine X_get (ci := 9) (j := 0) (q := (RJ6, TJ6, 4)) C rfl (by decide) q1135 rfl dJ6_getBytes_9 hs_a0 (v := rv θ (sR st a0 0)) rfl ?_
    obtain ⟨r13, q14, hs15, h⟩ := h
    rw [q14]
    refine X_tor ?_
    refine X_iconst (v := 0) C dJ6_getBytes_12 rfl ?_
    refine X_aload_n C dJ6_getBytes_13 rfl 1 rfl (isRV_r _) ?_
    refine X_iload_n C dJ6_getBytes_14 rfl 2 rfl ?_
    refine X_iload_n C dJ6_getBytes_15 rfl 3 rfl ?_
    refine X_ishl C dJ6_getBytes_16 ?_
    refine X_aload_n C dJ6_getBytes_17 rfl 0 rfl (isRV_r _) ?_
    refine X_get (ci := 9) (j := 0) (q := (RJ6, TJ6, 4)) C rfl (by decide) q1135 rfl dJ6_getBytes_18 hs_a0 (v := rv θ (sR st a0 0)) rfl ?_
    rw [q14]
    refine X_tor ?_
    refine X_alen C 2 rfl hs15 (by decide) (v := (Int32.ofNat (ln st r13))) rfl dJ6_getBytes_21 ?_
    have g16 := h.1
    have h := h.2
    have g17 := h.1
    have h := h.2
    have g18 := h.1
    have h := h.2
    have g19 := h.1
    have h := h.2
    have g20 := h.1
    have h := h.2
    refine X_copy (t := 103) C 2 rfl (by decide) rfl (fun _ _ _ => rfl) hb_p1 hs15 rfl hs_p1 rfl (by decide) g16 g17 g18 g19 (fun i hi => (ny_in (g20 i hi)).2) q1400 q945 q944 q149 (Nat.le_of_ble_eq_true rfl) dJ6_getBytes_22 ?_
    refine X_nm (fun s21 e22 => ?_)
    have h := h s21 e22
    have hs_a0 : sh s21 a0 = 10 := by rw [e22]; exact hs_a0
    have hs_p1 : sh s21 p1 = 103 := by rw [e22]; exact hs_p1
    have hs15 : sh s21 r13 = 103 := by rw [e22]; exact hs15
    refine X_goto (tgt := 43) C dJ6_getBytes_25 (by decide) ?_
    exact X_vret C rfl dJ6_getBytes_43 (hn s21 h)

theorem nm_J10_inflateIfNeededFor : yJ10_inflateIfNeededFor.cls ≠ "java/lang/invoke/MethodHandle" ∧ yJ10_inflateIfNeededFor.cls ≠ "java/lang/invoke/VarHandle" ∧ (parseMethodDescriptor yJ10_inflateIfNeededFor.desc).map (fun d => d.parameters.length) = some 1 := by decide +kernel
def w_J10_inflateIfNeededFor (st0 : St) (a0 : Nat) (p1 : Nat) (Φ : Prop) : Prop := w_J6_coder st0 p1 (fun (r1 : Int32) => (((sI st0 a0 1) = r1) → Φ) ∧ ((¬ (sI st0 a0 1) = r1) → False))
theorem e_J10_inflateIfNeededFor : plainFor yJ10_inflateIfNeededFor = true := plainFor_of_name (by decide +kernel)
theorem m_J10_inflateIfNeededFor {θ : Th} {l : Launch} (hl0 : l.stackTraces = false) (hX : LX θ) {d : Nat} (hd : 1 ≤ d) (st0 : St) (a0 : Nat) (p1 : Nat) (hs_a0 : sh st0 a0 = 11) (hb_a0 : a0 < gBIG) (hs_p1 : sh st0 p1 = 10) {Φ : Prop} (h : w_J10_inflateIfNeededFor st0 a0 p1 Φ) : Ct θ l yJ10_inflateIfNeededFor (ws_ yJ10_inflateIfNeededFor cJ10_inflateIfNeededFor 2 (none : Option Jvm.ClassFile.FieldType)) d [.ref (ad θ a0), .ref (ad θ p1)] st0 (rV st0 Φ, noX) := by
  refine Ct_entry hl0 e_J10_inflateIfNeededFor (Nat.le_of_ble_eq_true rfl) (fun κ hκ _ C => ?_)
  have hn : Φ → ((rV st0 Φ, noX) : Ph).1 st0 none := fun q => ⟨rfl, rfl, q⟩
  change X _ _ _ _ _ [(0, .ref (ad θ a0)), (1, .ref (ad θ p1))] _
  unfold w_J10_inflateIfNeededFor at h
  refine X_getsZ (v := .int 1) C (fun s h => h.2.2.2.2.2.1) q971 rfl dJ10_inflateIfNeededFor_0 ?_
  refine X_if_eq (tgt := 21) C dJ10_inflateIfNeededFor_3 (by decide) (fun c10 => ?_) (fun c10 => ?_)
  · exact absurd c10 (by decide)
  · refine X_aload_n C dJ10_inflateIfNeededFor_6 rfl 0 rfl (isRV_r _) ?_
    refine X_get (ci := 10) (j := 1) (q := (RJ11, TJ11, 4)) C rfl (by decide) q981 rfl dJ10_inflateIfNeededFor_7 hs_a0 (v := .int (sI st0 a0 1)) rfl ?_
    refine X_aload_n C dJ10_inflateIfNeededFor_10 rfl 1 rfl (isRV_r _) ?_
    refine X_callV (ci := 9) (q := (RJ6, TJ6, 4)) (As := []) (rest := [_]) C rfl hs_p1 q1395 q1384 q1385 q144 q1386 ⟨rfl, nm_J6_coder⟩ rfl dJ10_inflateIfNeededFor_11 (m_J6_coder (Cx_l C) hX (d := d - 1) (by omega) st0 p1 hs_p1 h) (by omega) (by decide) (Nat.le_of_ble_eq_true rfl) (fun s7 w2 hE3 hP4 => ?_) (fun s8 E5 q6 hE3 hP4 => ?_)
    rotate_left
    · exact False.elim hP4
    obtain ⟨r1, rfl, rfl, h⟩ := hP4
    refine X_tls ?_
    refine X_icmp_eq (tgt := 21) C dJ10_inflateIfNeededFor_14 (by decide) (fun c9 => ?_) (fun c9 => ?_)
    · have h := h.1 c9
      exact X_vret C rfl dJ10_inflateIfNeededFor_21 (hn h)
    · have h := h.2 c9
      exact h.elim

theorem nm_J10_putStringAt : yJ10_putStringAt.cls ≠ "java/lang/invoke/MethodHandle" ∧ yJ10_putStringAt.cls ≠ "java/lang/invoke/VarHandle" ∧ (parseMethodDescriptor yJ10_putStringAt.desc).map (fun d => d.parameters.length) = some 2 := by decide +kernel
def w_J10_putStringAt (st : St) (a0 : Nat) (p1 : Int32) (p2 : Nat) (Φ : St → Prop) : Prop := w_J10_inflateIfNeededFor st a0 p2 (∃ r9, (sR st a0 0) = some r9 ∧ r9 < gBIG ∧ sh st r9 = 103 ∧ w_J6_getBytes st p2 r9 p1 (sI st a0 1) (fun (s14 : St) => Φ s14))
theorem e_J10_putStringAt : plainFor yJ10_putStringAt = true := plainFor_of_name (by decide +kernel)
theorem m_J10_putStringAt {θ : Th} {l : Launch} (hl0 : l.stackTraces = false) (hX : LX θ) {d : Nat} (hd : 2 ≤ d) (st : St) (a0 : Nat) (p1 : Int32) (p2 : Nat) (hs_a0 : sh st a0 = 11) (hb_a0 : a0 < gBIG) (hs_p2 : sh st p2 = 10) {Φ : St → Prop} (h : w_J10_putStringAt st a0 p1 p2 Φ) : Ct θ l yJ10_putStringAt (ws_ yJ10_putStringAt cJ10_putStringAt 3 (none : Option Jvm.ClassFile.FieldType)) d [.ref (ad θ a0), .int p1, .ref (ad θ p2)] st (pV Φ, noX) := by
  refine Ct_entry hl0 e_J10_putStringAt (Nat.le_of_ble_eq_true rfl) (fun κ hκ _ C => ?_)
  have hn : ∀ st, Φ st → ((pV Φ, noX) : Ph).1 st none := fun st q => ⟨rfl, q⟩
  change X _ _ _ _ _ [(0, .ref (ad θ a0)), (1, .int p1), (2, .ref (ad θ p2))] _
  unfold w_J10_putStringAt at h
  refine X_aload_n C dJ10_putStringAt_0 rfl 0 rfl (isRV_r _) ?_
  refine X_aload_n C dJ10_putStringAt_1 rfl 2 rfl (isRV_r _) ?_
  refine X_callU (ci := 10) (q := (RJ11, TJ11, 4)) (owner := "java/lang/AbstractStringBuilder") (As := [_]) (rest := []) C rfl hs_a0 q1391 q2436 (fun _ _ h _ => va_Decl.of (h _ q1393) (h _ q1394)) (fun _ _ _ h => KS_PS h (by simp [gPS])) q1393 q150 q1394 nmF_13 rfl dJ10_putStringAt_2 (m_J10_inflateIfNeededFor (Cx_l C) hX (d := d - 1) (by omega) st a0 p2 hs_a0 hb_a0 hs_p2 h) (by omega) (by decide) (Nat.le_of_ble_eq_true rfl) (fun s7 w2 hE3 hP4 => ?_) (fun s8 E5 q6 hE3 hP4 => ?_)
  rotate_left
  · exact False.elim hP4
  obtain ⟨rfl, rfl, h⟩ := hP4
  refine X_tln ?_
  refine X_aload_n C dJ10_putStringAt_5 rfl 2 rfl (isRV_r _) ?_
  refine X_aload_n C dJ10_putStringAt_6 rfl 0 rfl (isRV_r _) ?_
  refine X_get (ci := 10) (j := 0) (q := (RJ11, TJ11, 4)) C rfl (by decide) q980 rfl dJ10_putStringAt_7 hs_a0 (v := rv θ (sR st a0 0)) rfl ?_
  obtain ⟨r9, q10, hb12, hs11, h⟩ := h
  rw [q10]
  refine X_tor ?_
  refine X_iload_n C dJ10_putStringAt_10 rfl 1 rfl ?_
  refine X_aload_n C dJ10_putStringAt_11 rfl 0 rfl (isRV_r _) ?_
  refine X_get (ci := 10) (j := 1) (q := (RJ11, TJ11, 4)) C rfl (by decide) q981 rfl dJ10_putStringAt_12 hs_a0 (v := .int (sI st a0 1)) rfl ?_
  refine X_callV (ci := 9) (q := (RJ6, TJ6, 4)) (As := [_, _, _]) (rest := []) C rfl hs_p2 q1396 q1397 q1398 q144 q1399 ⟨rfl, nm_J6_getBytes⟩ rfl dJ10_putStringAt_15 (m_J6_getBytes (Cx_l C) hX (d := d - 1) (by omega) st p2 r9 p1 (sI st a0 1) hs_p2 hs11 hb12 h) (by omega) (by decide) (Nat.le_of_ble_eq_true rfl) (fun s14 w15 hE16 hP17 => ?_) (fun s20 E18 q19 hE16 hP17 => ?_)
  rotate_left
  · exact False.elim hP17
  obtain ⟨rfl, h⟩ := hP17
  refine X_tln ?_
  have hs_a0 := Ext_sh hE16 hs_a0 (by decide)
  have hs_p2 := Ext_sh hE16 hs_p2 (by decide)
  have hs11 := Ext_sh hE16 hs11 (by decide)
  exact X_vret C rfl dJ10_putStringAt_18 (hn s14 h)

theorem nm_J10_append_2 : yJ10_append_2.cls ≠ "java/lang/invoke/MethodHandle" ∧ yJ10_append_2.cls ≠ "java/lang/invoke/VarHandle" ∧ (parseMethodDescriptor yJ10_append_2.desc).map (fun d => d.parameters.length) = some 1 := by decide +kernel
def w_J10_append_2 (st : St) (a0 : Nat) (p1 : Nat) (Φ : St → Nat → Prop) : Prop := w_J6_length st p1 (fun (r2 : Int32) => w_J10_ensureCapacityInternal st a0 ((sI st a0 3) + r2) (fun (s11 : St) => w_J10_putStringAt s11 a0 (sI s11 a0 3) p1 (fun (s19 : St) => ∀ s26, s26 = putI s19 a0 3 ((sI s19 a0 3) + r2) → Φ s26 a0)))
theorem e_J10_append_2 : plainFor yJ10_append_2 = true := plainFor_of_name (by decide +kernel)
theorem m_J10_append_2 {θ : Th} {l : Launch} (hl0 : l.stackTraces = false) (hX : LX θ) {d : Nat} (hd : 4 ≤ d) (st : St) (a0 : Nat) (p1 : Nat) (hs_a0 : sh st a0 = 11) (hb_a0 : a0 < gBIG) (hs_p1 : sh st p1 = 10) {Φ : St → Nat → Prop} (h : w_J10_append_2 st a0 p1 Φ) : Ct θ l yJ10_append_2 (ws_ yJ10_append_2 cJ10_append_2 3 (some (Jvm.ClassFile.FieldType.object "java/lang/AbstractStringBuilder"))) d [.ref (ad θ a0), .ref (ad θ p1)] st (pN θ 11 Φ, noX) := by
  refine Ct_entry hl0 e_J10_append_2 (Nat.le_of_ble_eq_true rfl) (fun κ hκ _ C => ?_)
  have hn : ∀ st r, r < gBIG → sh st r = 11 → Φ st r → ((pN θ 11 Φ, noX) : Ph).1 st (some (.ref (ad θ r))) := fun st r q1 q2 q => ⟨r, rfl, q1, q2, q⟩
  change X _ _ _ _ _ [(0, .ref (ad θ a0)), (1, .ref (ad θ p1))] _
  unfold w_J10_append_2 at h
  refine X_aload_n C dJ10_append_2_0 rfl 1 rfl (isRV_r _) ?_
  refine X_ifnonnull (tgt := 9) C (isRV_r _) dJ10_append_2_1 (by decide) (fun c1 => ?_) (fun c1 => ?_)
  · refine X_aload_n C dJ10_append_2_9 rfl 1 rfl (isRV_r _) ?_
    refine X_callV (ci := 9) (q := (RJ6, TJ6, 4)) (As := []) (rest := []) C rfl hs_p1 q1379 q1380 q1381 q144 q1382 ⟨rfl, nm_J6_length⟩ rfl dJ10_append_2_10 (m_J6_length (Cx_l C) hX (d := d - 1) (by omega) st p1 hs_p1 h) (by omega) (by decide) (Nat.le_of_ble_eq_true rfl) (fun s8 w3 hE4 hP5 => ?_) (fun s9 E6 q7 hE4 hP5 => ?_)
    rotate_left
    · exact False.elim hP5
    obtain ⟨r2, rfl, rfl, h⟩ := hP5
    refine X_tls ?_
    refine X_istore_n C dJ10_append_2_13 rfl (lo2 := [(2, _), (0, _), (1, _)]) (by decide) rfl ?_
    refine X_aload_n C dJ10_append_2_14 rfl 1 rfl (isRV_r _) ?_
    refine X_aload_n C dJ10_append_2_15 rfl 1 rfl (isRV_r _) ?_
    refine X_get (ci := 10) (j := 3) (q := (RJ11, TJ11, 4)) C rfl (by decide) q983 rfl dJ10_append_2_16 hs_a0 (v := .int (sI st a0 3)) rfl ?_
    refine X_iload_n C dJ10_append_2_19 rfl 0 rfl ?_
    refine X_iadd C dJ10_append_2_20 ?_
    refine X_callU (ci := 10) (q := (RJ11, TJ11, 4)) (owner := "java/lang/AbstractStringBuilder") (As := [_]) (rest := []) C rfl hs_a0 q1000 q2430 (fun _ _ h _ => va_Decl.of (h _ q1002) (h _ q1003)) (fun _ _ _ h => KS_PS h (by simp [gPS])) q1002 q150 q1003 nmF_10 rfl dJ10_append_2_21 (m_J10_ensureCapacityInternal (Cx_l C) hX (d := d - 1) (by omega) st a0 ((sI st a0 3) + r2) hs_a0 hb_a0 h) (by omega) (by decide) (Nat.le_of_ble_eq_true rfl) (fun s11 w12 hE13 hP14 => ?_) (fun s17 E15 q16 hE13 hP14 => ?_)
    rotate_left
    · exact False.elim hP14
    obtain ⟨rfl, h⟩ := hP14
    refine X_tln ?_
    have hs_a0 := Ext_sh hE13 hs_a0 (by decide)
    have hs_p1 := Ext_sh hE13 hs_p1 (by decide)
    refine X_aload_n C dJ10_append_2_24 rfl 1 rfl (isRV_r _) ?_
    refine X_aload_n C dJ10_append_2_25 rfl 1 rfl (isRV_r _) ?_
    refine X_get (ci := 10) (j := 3) (q := (RJ11, TJ11, 4)) C rfl (by decide) q983 rfl dJ10_append_2_26 hs_a0 (v := .int (sI s11 a0 3)) rfl ?_
    refine X_aload_n C dJ10_append_2_29 rfl 2 rfl (isRV_r _) ?_
    refine X_callU (ci := 10) (q := (RJ11, TJ11, 4)) (owner := "java/lang/AbstractStringBuilder") (As := [_, _]) (rest := []) C rfl hs_a0 q1387 q2435 (fun _ _ h _ => va_Decl.of (h _ q1389) (h _ q1390)) (fun _ _ _ h => KS_PS h (by simp [gPS])) q1389 q150 q1390 nmF_17 rfl dJ10_append_2_30 (m_J10_putStringAt (Cx_l C) hX (d := d - 1) (by omega) s11 a0 (sI s11 a0 3) p1 hs_a0 hb_a0 hs_p1 h) (by omega) (by decide) (Nat.le_of_ble_eq_true rfl) (fun s19 w20 hE21 hP22 => ?_) (fun s25 E23 q24 hE21 hP22 => ?_)
    rotate_left
    · exact False.elim hP22
    obtain ⟨rfl, h⟩ := hP22
    refine X_tln ?_
    have hs_a0 := Ext_sh hE21 hs_a0 (by decide)
    have hs_p1 := Ext_sh hE21 hs_p1 (by decide)
    refine X_aload_n C dJ10_append_2_33 rfl 1 rfl (isRV_r _) ?_
    refine X_dup C dJ10_append_2_34 rfl ?_
    refine X_get (ci := 10) (j := 3) (q := (RJ11, TJ11, 4)) C rfl (by decide) q983 rfl dJ10_append_2_35 hs_a0 (v := .int (sI s19 a0 3)) rfl ?_
    refine X_iload_n C dJ10_append_2_38 rfl 0 rfl ?_
    refine X_iadd C dJ10_append_2_39 ?_
    refine X_putI (ci := 10) (j := 3) (q := (RJ11, TJ11, 4)) C rfl (by decide) q983 rfl rfl dJ10_append_2_40 hb_a0 hs_a0 rfl rfl rfl ?_
    refine X_nm (fun s26 e27 => ?_)
    have h := h s26 e27
    have hs_a0 : sh s26 a0 = 11 := by rw [e27]; exact hs_a0
    have hs_p1 : sh s26 p1 = 10 := by rw [e27]; exact hs_p1
    refine X_aload_n C dJ10_append_2_43 rfl 1 rfl (isRV_r _) ?_
    exact X_aret C rfl (Or.inl ⟨_, rfl⟩) (isRV_r _) dJ10_append_2_44 (hn s26 _ hb_a0 hs_a0 h)
  · exact absurd c1 (fun q => by cases q)

theorem nm_J11_append_2 : yJ11_append_2.cls ≠ "java/lang/invoke/MethodHandle" ∧ yJ11_append_2.cls ≠ "java/lang/invoke/VarHandle" ∧ (parseMethodDescriptor yJ11_append_2.desc).map (fun d => d.parameters.length) = some 1 := by decide +kernel
def w_J11_append_2 (st : St) (a0 : Nat) (p1 : Nat) (Φ : St → Nat → Prop) : Prop := w_J10_append_2 st a0 p1 (fun (s2 : St) (r1 : Nat) => Φ s2 a0)
theorem e_J11_append_2 : plainFor yJ11_append_2 = true := plainFor_of_name (by decide +kernel)
theorem m_J11_append_2 {θ : Th} {l : Launch} (hl0 : l.stackTraces = false) (hX : LX θ) {d : Nat} (hd : 5 ≤ d) (st : St) (a0 : Nat) (p1 : Nat) (hs_a0 : sh st a0 = 11) (hb_a0 : a0 < gBIG) (hs_p1 : sh st p1 = 10) {Φ : St → Nat → Prop} (h : w_J11_append_2 st a0 p1 Φ) : Ct θ l yJ11_append_2 (ws_ yJ11_append_2 cJ11_append_2 2 (some (Jvm.ClassFile.FieldType.object "java/lang/StringBuilder"))) d [.ref (ad θ a0), .ref (ad θ p1)] st (pN θ 11 Φ, noX) := by
  refine Ct_entry hl0 e_J11_append_2 (Nat.le_of_ble_eq_true rfl) (fun κ hκ _ C => ?_)
  have hn : ∀ st r, r < gBIG → sh st r = 11 → Φ st r → ((pN θ 11 Φ, noX) : Ph).1 st (some (.ref (ad θ r))) := fun st r q1 q2 q => ⟨r, rfl, q1, q2, q⟩
  change X _ _ _ _ _ [(0, .ref (ad θ a0)), (1, .ref (ad θ p1))] _
  unfold w_J11_append_2 at h
  refine X_aload_n C dJ11_append_2_0 rfl 0 rfl (isRV_r _) ?_
  refine X_aload_n C dJ11_append_2_1 rfl 1 rfl (isRV_r _) ?_
  refine X_callSU (ci := 10) (q := (RJ11, TJ11, 4)) (As := [_]) (rest := []) C rfl hs_a0 q1360 q2433 q992 q1361 q150 q1362 (by decide) nm_J10_append_2 rfl dJ11_append_2_2 (m_J10_append_2 (Cx_l C) hX (d := d - 1) (by omega) st a0 p1 hs_a0 hb_a0 hs_p1 h) (by omega) (by decide) (Nat.le_of_ble_eq_true rfl) (fun s2 w3 hE4 hP5 => ?_) (fun s8 E6 q7 hE4 hP5 => ?_)
  rotate_left
  · exact False.elim hP5
  obtain ⟨r1, rfl, hb9, hs10, h⟩ := hP5
  refine X_tls ?_
  have hs_a0 := Ext_sh hE4 hs_a0 (by decide)
  have hs_p1 := Ext_sh hE4 hs_p1 (by decide)
  refine X_pop C dJ11_append_2_5 rfl ?_
  refine X_aload_n C dJ11_append_2_6 rfl 0 rfl (isRV_r _) ?_
  exact X_aret C rfl (Or.inl ⟨_, rfl⟩) (isRV_r _) dJ11_append_2_7 (hn s2 _ hb_a0 hs_a0 h)

theorem nm_J7_getChars : yJ7_getChars.cls ≠ "java/lang/invoke/MethodHandle" ∧ yJ7_getChars.cls ≠ "java/lang/invoke/VarHandle" ∧ (parseMethodDescriptor yJ7_getChars.desc).map (fun d => d.parameters.length) = some 3 := by decide +kernel
def w_J7_getChars_l22 (Φ : St → Int32 → Prop) (E72 : St → Int32 → Nat → Int32 → Int32 → Prop) : Nat → St → Int32 → Nat → Int32 → Int32 → Prop
  | 0, _, _, _, _, _ => False
  | n + 1, st, x0, x2, x5, x6 => (((-100) < x0) → E72 st x0 x2 x5 x6) ∧ ((¬ (-100) < x0) → ∀ v4 : Int32, v4 = (x0 / 100) → ∀ v6 : Int32, v6 = ((v4 * 100) - x0) → vp_in v6 100 ∧ vp_in (x5 + (-1)) (ln st x2) ∧ ∀ s13, s13 = putI st x2 (((x5 + (-1))).toNatClampNeg) ((sI st (gBIG + 201) v6.toNatClampNeg).toInt8.toInt32) → vp_in ((x5 + (-1)) + (-1)) (ln s13 x2) ∧ ∀ s19, s19 = putI s13 x2 ((((x5 + (-1)) + (-1))).toNatClampNeg) ((sI s13 (gBIG + 200) v6.toNatClampNeg).toInt8.toInt32) → w_J7_getChars_l22 Φ E72 n s19 v4 x2 ((x5 + (-1)) + (-1)) x6)
theorem t_J7_getChars_l22 {θ : Th} {κ : Kx} {Ph : Ph} {d : Nat} (hd : 0 ≤ d) (C : Cx θ κ yJ7_getChars cJ7_getChars 7 (some Jvm.ClassFile.FieldType.int) [] d) {Φ : St → Int32 → Prop} (hn : ∀ st r, Φ st r → Ph.1 st (some (.int r))) {E72 : St → Int32 → Nat → Int32 → Int32 → Prop} (hE72 : ∀ (st : St) (x0 : Int32) (x2 : Nat) (x5 : Int32) (x6 : Int32), sh st x2 = 103 → x2 < gBIG → E72 st x0 x2 x5 x6 → X θ κ Ph st 72 [(0, .int x0), (2, .ref (ad θ x2)), (5, .int x5), (6, .int x6)] []) : ∀ (n : Nat) (st : St) (x0 : Int32) (x2 : Nat) (x5 : Int32) (x6 : Int32), sh st x2 = 103 → x2 < gBIG → w_J7_getChars_l22 Φ E72 n st x0 x2 x5 x6 → X θ κ Ph st 22 [(0, .int x0), (2, .ref (ad θ x2)), (5, .int x5), (6, .int x6)] [] := by
  intro n
  induction n with
  | zero => intro st x0 x2 x5 x6 hs_x2 hb_x2 h; exact h.elim
  | succ n hK22 =>
    intro st x0 x2 x5 x6 hs_x2 hb_x2 h
    rw [w_J7_getChars_l22] at h
    refine X_iload_n C dJ7_getChars_22 rfl 0 rfl ?_
    refine X_bipush (v := (-100)) C dJ7_getChars_23 rfl ?_
    refine X_icmp_gt (tgt := 72) C dJ7_getChars_25 (by decide) (fun c3 => ?_) (fun c3 => ?_)
    · have h := h.1 c3
      exact hE72 st x0 x2 x5 x6 hs_x2 hb_x2 h
    · have h := h.2 c3
      refine X_iload_n C dJ7_getChars_28 rfl 0 rfl ?_
      refine X_bipush (v := 100) C dJ7_getChars_29 rfl ?_
      refine X_idiv C dJ7_getChars_31 (by decide) ?_
      refine X_topi (fun v4 e5 => ?_)
      have h := h v4 e5
      refine X_istore_n C dJ7_getChars_32 rfl (lo2 := [(3, _), (0, _), (2, _), (5, _), (6, _)]) (by decide) rfl ?_
      refine X_iload_n C dJ7_getChars_33 rfl 0 rfl ?_
      refine X_bipush (v := 100) C dJ7_getChars_34 rfl ?_
      refine X_imul C dJ7_getChars_36 ?_
      refine X_iload_n C dJ7_getChars_37 rfl 1 rfl ?_
      refine X_isub C dJ7_getChars_38 ?_
      refine X_topi (fun v6 e7 => ?_)
      have h := h v6 e7
      refine X_istore C dJ7_getChars_39 (lo2 := [(4, _), (3, _), (0, _), (2, _), (5, _), (6, _)]) (by decide) rfl ?_
      refine X_iload_n C dJ7_getChars_41 rfl 1 rfl ?_
      refine X_istore_n C dJ7_getChars_42 rfl (lo2 := [(0, _), (4, _), (3, _), (2, _), (5, _), (6, _)]) (by decide) rfl ?_
      refine X_aload_n C dJ7_getChars_43 rfl 3 rfl (isRV_r _) ?_
      refine X_iinc (v := (x5 + (-1))) C (j := 4) dJ7_getChars_44 rfl rfl (lo2 := [(5, _), (0, _), (4, _), (3, _), (2, _), (6, _)]) (by decide) rfl ?_
      refine X_iload C dJ7_getChars_47 0 rfl ?_
      refine X_getsZ (v := .ref (ad θ (gBIG + 201))) C (fun s h => h.2.2.2.2.2.2.2.1) q1415 rfl dJ7_getChars_49 ?_
      refine X_con (fun hc10 => ?_)
      have hs8 : sh st (gBIG + 201) = 103 := con_dig_s hc10 (by simp)
      have hl9 : ln st (gBIG + 201) = 100 := con_dig_l hc10 (by simp)
      refine X_iload C dJ7_getChars_52 2 rfl ?_
      have g11 := h.1
      have h := h.2
      refine X_baldD C hs8 hl9 g11 rfl dJ7_getChars_54 ?_
      have g12 := h.1
      have h := h.2
      refine X_bastD C hb_x2 hs_x2 rfl g12 rfl dJ7_getChars_55 ?_
      refine X_nm (fun s13 e14 => ?_)
      have h := h s13 e14
      have hs_x2 : sh s13 x2 = 103 := by rw [e14]; exact hs_x2
      have hs8 : sh s13 (gBIG + 201) = 103 := by rw [e14]; exact hs8
      have hl9 : ln s13 (gBIG + 201) = 100 := by rw [e14]; exact hl9
      refine X_aload_n C dJ7_getChars_56 rfl 4 rfl (isRV_r _) ?_
      refine X_iinc (v := ((x5 + (-1)) + (-1))) C (j := 0) dJ7_getChars_57 rfl rfl (lo2 := [(5, _), (0, _), (4, _), (3, _), (2, _), (6, _)]) (by decide) rfl ?_
      refine X_iload C dJ7_getChars_60 0 rfl ?_
      refine X_getsZ (v := .ref (ad θ (gBIG + 200))) C (fun s h => h.2.2.2.2.2.2.1) q1417 rfl dJ7_getChars_62 ?_
      refine X_con (fun hc17 => ?_)
      have hs15 : sh s13 (gBIG + 200) = 103 := con_dig_s hc17 (by simp)
      have hl16 : ln s13 (gBIG + 200) = 100 := con_dig_l hc17 (by simp)
      refine X_iload C dJ7_getChars_65 2 rfl ?_
      refine X_baldD C hs15 hl16 g11 rfl dJ7_getChars_67 ?_
      have g18 := h.1
      have h := h.2
      refine X_bastD C hb_x2 hs_x2 rfl g18 rfl dJ7_getChars_68 ?_
      refine X_nm (fun s19 e20 => ?_)
      have h := h s19 e20
      have hs_x2 : sh s19 x2 = 103 := by rw [e20]; exact hs_x2
      have hs8 : sh s19 (gBIG + 201) = 103 := by rw [e20]; exact hs8
      have hl9 : ln s19 (gBIG + 201) = 100 := by rw [e20]; exact hl9
      have hs15 : sh s19 (gBIG + 200) = 103 := by rw [e20]; exact hs15
      have hl16 : ln s19 (gBIG + 200) = 100 := by rw [e20]; exact hl16
      refine X_goto (tgt := 22) C dJ7_getChars_69 (by decide) ?_
      refine X_sub [1, 4, 0, 5] (lo2 := [(0, _), (2, _), (5, _), (6, _)]) rfl ?_
      exact hK22 s19 v4 x2 ((x5 + (-1)) + (-1)) x6 hs_x2 hb_x2 h
def w_J7_getChars_b104 (Φ : St → Int32 → Prop) (st : St) (x2 : Nat) (x5 : Int32) (x6 : Int32) : Prop := ((x6 = 0) → Φ st x5) ∧ ((¬ x6 = 0) → vp_in (x5 + (-1)) (ln st x2) ∧ ∀ s32, s32 = putI st x2 (((x5 + (-1))).toNatClampNeg) ((45 : Int32).toInt8.toInt32) → Φ s32 (x5 + (-1)))
theorem t_J7_getChars_b104 {θ : Th} {κ : Kx} {Ph : Ph} {d : Nat} (hd : 0 ≤ d) (C : Cx θ κ yJ7_getChars cJ7_getChars 7 (some Jvm.ClassFile.FieldType.int) [] d) {Φ : St → Int32 → Prop} (hn : ∀ st r, Φ st r → Ph.1 st (some (.int r))) (st : St) (x2 : Nat) (x5 : Int32) (x6 : Int32) (hs_x2 : sh st x2 = 103) (hb_x2 : x2 < gBIG) (h : w_J7_getChars_b104 Φ st x2 x5 x6) : X θ κ Ph st 104 [(2, .ref (ad θ x2)), (5, .int x5), (6, .int x6)] [] := by
  unfold w_J7_getChars_b104 at h
  refine X_iload C dJ7_getChars_104 2 rfl ?_
  refine X_if_eq (tgt := 118) C dJ7_getChars_106 (by decide) (fun c30 => ?_) (fun c30 => ?_)
  · have h := h.1 c30
    refine X_iload C dJ7_getChars_118 1 rfl ?_
    exact X_iret C rfl dJ7_getChars_120 (hn st _ h)
  · have h := h.2 c30
    refine X_aload_n C dJ7_getChars_109 rfl 0 rfl (isRV_r _) ?_
    refine X_iinc (v := (x5 + (-1))) C (j := 1) dJ7_getChars_110 rfl rfl (lo2 := [(5, _), (2, _), (6, _)]) (by decide) rfl ?_
    refine X_iload C dJ7_getChars_113 0 rfl ?_
    refine X_bipush (v := 45) C dJ7_getChars_115 rfl ?_
    have g31 := h.1
    have h := h.2
    refine X_bastD C hb_x2 hs_x2 rfl g31 rfl dJ7_getChars_117 ?_
    refine X_nm (fun s32 e33 => ?_)
    have h := h s32 e33
    have hs_x2 : sh s32 x2 = 103 := by rw [e33]; exact hs_x2
    refine X_iload C dJ7_getChars_118 0 rfl ?_
    exact X_iret C rfl dJ7_getChars_120 (hn s32 _ h)
def w_J7_getChars_b72 (Φ : St → Int32 → Prop) (st : St) (x0 : Int32) (x2 : Nat) (x5 : Int32) (x6 : Int32) : Prop := vp_in (-x0) 100 ∧ vp_in (x5 + (-1)) (ln st x2) ∧ ∀ s27, s27 = putI st x2 (((x5 + (-1))).toNatClampNeg) ((sI st (gBIG + 201) (-x0).toNatClampNeg).toInt8.toInt32) → (((-9) ≤ x0) → w_J7_getChars_b104 Φ s27 x2 (x5 + (-1)) x6) ∧ ((¬ (-9) ≤ x0) → vp_in ((x5 + (-1)) + (-1)) (ln s27 x2) ∧ ∀ s38, s38 = putI s27 x2 ((((x5 + (-1)) + (-1))).toNatClampNeg) ((sI s27 (gBIG + 200) (-x0).toNatClampNeg).toInt8.toInt32) → w_J7_getChars_b104 Φ s38 x2 ((x5 + (-1)) + (-1)) x6)
theorem t_J7_getChars_b72 {θ : Th} {κ : Kx} {Ph : Ph} {d : Nat} (hd : 0 ≤ d) (C : Cx θ κ yJ7_getChars cJ7_getChars 7 (some Jvm.ClassFile.FieldType.int) [] d) {Φ : St → Int32 → Prop} (hn : ∀ st r, Φ st r → Ph.1 st (some (.int r))) (st : St) (x0 : Int32) (x2 : Nat) (x5 : Int32) (x6 : Int32) (hs_x2 : sh st x2 = 103) (hb_x2 : x2 < gBIG) (h : w_J7_getChars_b72 Φ st x0 x2 x5 x6) : X θ κ Ph st 72 [(0, .int x0), (2, .ref (ad θ x2)), (5, .int x5), (6, .int x6)] [] := by
  unfold w_J7_getChars_b72 at h
  refine X_aload_n C dJ7_getChars_72 rfl 1 rfl (isRV_r _) ?_
  refine X_iinc (v := (x5 + (-1))) C (j := 2) dJ7_getChars_73 rfl rfl (lo2 := [(5, _), (0, _), (2, _), (6, _)]) (by decide) rfl ?_
  refine X_iload C dJ7_getChars_76 0 rfl ?_
  refine X_getsZ (v := .ref (ad θ (gBIG + 201))) C (fun s h => h.2.2.2.2.2.2.2.1) q1415 rfl dJ7_getChars_78 ?_
  refine X_con (fun hc24 => ?_)
  have hs22 : sh st (gBIG + 201) = 103 := con_dig_s hc24 (by simp)
  have hl23 : ln st (gBIG + 201) = 100 := con_dig_l hc24 (by simp)
  refine X_iload_n C dJ7_getChars_81 rfl 1 rfl ?_
  refine X_ineg C dJ7_getChars_82 ?_
  have g25 := h.1
  have h := h.2
  refine X_baldD C hs22 hl23 g25 rfl dJ7_getChars_83 ?_
  have g26 := h.1
  have h := h.2
  refine X_bastD C hb_x2 hs_x2 rfl g26 rfl dJ7_getChars_84 ?_
  refine X_nm (fun s27 e28 => ?_)
  have h := h s27 e28
  have hs_x2 : sh s27 x2 = 103 := by rw [e28]; exact hs_x2
  have hs22 : sh s27 (gBIG + 201) = 103 := by rw [e28]; exact hs22
  have hl23 : ln s27 (gBIG + 201) = 100 := by rw [e28]; exact hl23
  refine X_iload_n C dJ7_getChars_85 rfl 1 rfl ?_
  refine X_bipush (v := (-9)) C dJ7_getChars_86 rfl ?_
  refine X_icmp_ge (tgt := 104) C dJ7_getChars_88 (by decide) (fun c29 => ?_) (fun c29 => ?_)
  · have h := h.1 c29
    refine X_sub [2, 0, 3] (lo2 := [(2, _), (5, _), (6, _)]) rfl ?_
    exact t_J7_getChars_b104 hd C hn s27 x2 (x5 + (-1)) x6 hs_x2 hb_x2 h
  · have h := h.2 c29
    refine X_aload_n C dJ7_getChars_91 rfl 2 rfl (isRV_r _) ?_
    refine X_iinc (v := ((x5 + (-1)) + (-1))) C (j := 0) dJ7_getChars_92 rfl rfl (lo2 := [(5, _), (0, _), (2, _), (6, _)]) (by decide) rfl ?_
    refine X_iload C dJ7_getChars_95 0 rfl ?_
    refine X_getsZ (v := .ref (ad θ (gBIG + 200))) C (fun s h => h.2.2.2.2.2.2.1) q1417 rfl dJ7_getChars_97 ?_
    refine X_con (fun hc36 => ?_)
    have hs34 : sh s27 (gBIG + 200) = 103 := con_dig_s hc36 (by simp)
    have hl35 : ln s27 (gBIG + 200) = 100 := con_dig_l hc36 (by simp)
    refine X_iload_n C dJ7_getChars_100 rfl 1 rfl ?_
    refine X_ineg C dJ7_getChars_101 ?_
    refine X_baldD C hs34 hl35 g25 rfl dJ7_getChars_102 ?_
    have g37 := h.1
    have h := h.2
    refine X_bastD C hb_x2 hs_x2 rfl g37 rfl dJ7_getChars_103 ?_
    refine X_nm (fun s38 e39 => ?_)
    have h := h s38 e39
    have hs_x2 : sh s38 x2 = 103 := by rw [e39]; exact hs_x2
    have hs22 : sh s38 (gBIG + 201) = 103 := by rw [e39]; exact hs22
    have hl23 : ln s38 (gBIG + 201) = 100 := by rw [e39]; exact hl23
    have hs34 : sh s38 (gBIG + 200) = 103 := by rw [e39]; exact hs34
    have hl35 : ln s38 (gBIG + 200) = 100 := by rw [e39]; exact hl35
    refine X_sub [2, 0, 3] (lo2 := [(2, _), (5, _), (6, _)]) rfl ?_
    exact t_J7_getChars_b104 hd C hn s38 x2 ((x5 + (-1)) + (-1)) x6 hs_x2 hb_x2 h
def w_J7_getChars_b12 (Φ : St → Int32 → Prop) (st : St) (x0 : Int32) (x2 : Nat) (x5 : Int32) (z0 : Int32) : Prop := ((z0 ≠ 0) → w_J7_getChars_l22 Φ (fun (s21 : St) (x0 : Int32) (x2 : Nat) (x5 : Int32) (x6 : Int32) => w_J7_getChars_b72 Φ s21 x0 x2 x5 x6) gFU st x0 x2 x5 z0) ∧ ((z0 = 0) → ∀ v40 : Int32, v40 = (-x0) → w_J7_getChars_l22 Φ (fun (s42 : St) (x0 : Int32) (x2 : Nat) (x5 : Int32) (x6 : Int32) => w_J7_getChars_b72 Φ s42 x0 x2 x5 x6) gFU st v40 x2 x5 z0)
theorem t_J7_getChars_b12 {θ : Th} {κ : Kx} {Ph : Ph} {d : Nat} (hd : 0 ≤ d) (C : Cx θ κ yJ7_getChars cJ7_getChars 7 (some Jvm.ClassFile.FieldType.int) [] d) {Φ : St → Int32 → Prop} (hn : ∀ st r, Φ st r → Ph.1 st (some (.int r))) (st : St) (x0 : Int32) (x2 : Nat) (x5 : Int32) (z0 : Int32) (hs_x2 : sh st x2 = 103) (hb_x2 : x2 < gBIG) (h : w_J7_getChars_b12 Φ st x0 x2 x5 z0) : X θ κ Ph st 12 [(0, .int x0), (2, .ref (ad θ x2)), (5, .int x5)] [.int z0] := by
  unfold w_J7_getChars_b12 at h
  refine X_istore C dJ7_getChars_12 (lo2 := [(6, _), (0, _), (2, _), (5, _)]) (by decide) rfl ?_
  refine X_iload C dJ7_getChars_14 0 rfl ?_
  refine X_if_ne (tgt := 22) C dJ7_getChars_16 (by decide) (fun c2 => ?_) (fun c2 => ?_)
  · have h := h.1 c2
    refine X_sub [1, 2, 3, 0] (lo2 := [(0, _), (2, _), (5, _), (6, _)]) rfl ?_
    refine t_J7_getChars_l22 hd C hn ?_ gFU st x0 x2 x5 z0 hs_x2 hb_x2 h
    · intro s21 x0 x2 x5 x6 hs_x2 hb_x2 h
      exact t_J7_getChars_b72 hd C hn s21 x0 x2 x5 x6 hs_x2 hb_x2 h
  · have h := h.2 c2
    refine X_iload_n C dJ7_getChars_19 rfl 1 rfl ?_
    refine X_ineg C dJ7_getChars_20 ?_
    refine X_topi (fun v40 e41 => ?_)
    have h := h v40 e41
    refine X_istore_n C dJ7_getChars_21 rfl (lo2 := [(0, _), (6, _), (2, _), (5, _)]) (by decide) rfl ?_
    refine X_sub [0, 2, 3, 1] (lo2 := [(0, _), (2, _), (5, _), (6, _)]) rfl ?_
    refine t_J7_getChars_l22 hd C hn ?_ gFU st v40 x2 x5 z0 hs_x2 hb_x2 h
    · intro s42 x0 x2 x5 x6 hs_x2 hb_x2 h
      exact t_J7_getChars_b72 hd C hn s42 x0 x2 x5 x6 hs_x2 hb_x2 h
def w_J7_getChars (st : St) (p1 : Int32) (p2 : Int32) (p3 : Nat) (Φ : St → Int32 → Prop) : Prop := ((0 ≤ p1) → w_J7_getChars_b12 Φ st p1 p3 p2 0) ∧ ((¬ 0 ≤ p1) → w_J7_getChars_b12 Φ st p1 p3 p2 1)
theorem e_J7_getChars : plainFor yJ7_getChars = true := plainFor_of_name (by decide +kernel)
theorem m_J7_getChars {θ : Th} {l : Launch} (hl0 : l.stackTraces = false) {d : Nat} (hd : 0 ≤ d) (st : St) (p1 : Int32) (p2 : Int32) (p3 : Nat) (hs_p3 : sh st p3 = 103) (hb_p3 : p3 < gBIG) {Φ : St → Int32 → Prop} (h : w_J7_getChars st p1 p2 p3 Φ) : Ct θ l yJ7_getChars (ws_ yJ7_getChars cJ7_getChars 7 (some Jvm.ClassFile.FieldType.int)) d [.int p1, .int p2, .ref (ad θ p3)] st (pI Φ, noX) := by
  refine Ct_entry hl0 e_J7_getChars (Nat.le_of_ble_eq_true rfl) (fun κ hκ _ C => ?_)
  have hn : ∀ st r, Φ st r → ((pI Φ, noX) : Ph).1 st (some (.int r)) := fun st r q => ⟨r, rfl, q⟩
  change X _ _ _ _ _ [(0, .int p1), (1, .int p2), (2, .ref (ad θ p3))] _
  unfold w_J7_getChars at h
  refine X_iload_n C dJ7_getChars_0 rfl 1 rfl ?_
  refine X_istore C dJ7_getChars_1 (lo2 := [(5, _), (0, _), (1, _), (2, _)]) (by decide) rfl ?_
  refine X_iload_n C dJ7_getChars_3 rfl 1 rfl ?_
  refine X_if_ge (tgt := 11) C dJ7_getChars_4 (by decide) (fun c1 => ?_) (fun c1 => ?_)
  · have h := h.1 c1
    refine X_iconst (v := 0) C dJ7_getChars_11 rfl ?_
    refine X_sub [1, 3, 0] (lo2 := [(0, _), (2, _), (5, _)]) rfl ?_
    exact t_J7_getChars_b12 hd C hn st p1 p3 p2 0 hs_p3 hb_p3 h
  · have h := h.2 c1
    refine X_iconst (v := 1) C dJ7_getChars_7 rfl ?_
    refine X_goto (tgt := 12) C dJ7_getChars_8 (by decide) ?_
    refine X_sub [1, 3, 0] (lo2 := [(0, _), (2, _), (5, _)]) rfl ?_
    exact t_J7_getChars_b12 hd C hn st p1 p3 p2 1 hs_p3 hb_p3 h

theorem nm_J17_getChars : yJ17_getChars.cls ≠ "java/lang/invoke/MethodHandle" ∧ yJ17_getChars.cls ≠ "java/lang/invoke/VarHandle" ∧ (parseMethodDescriptor yJ17_getChars.desc).map (fun d => d.parameters.length) = some 3 := by decide +kernel
def w_J17_getChars_l24 (Φ : St → Int32 → Prop) (E82 : St → Int64 → Nat → Int32 → Int32 → Prop) : Nat → St → Int64 → Nat → Int32 → Int32 → Prop
  | 0, _, _, _, _, _ => False
  | n + 1, st, x0, x3, x7, x8 => (((-2147483648) < x0) → E82 st x0 x3 x7 x8) ∧ ((¬ (-2147483648) < x0) → ∀ v4 : Int64, v4 = (x0 / 100) → ∀ v6 : Int32, v6 = ((v4 * 100) - x0).toInt32 → vp_in v6 100 ∧ vp_in (x7 + (-1)) (ln st x3) ∧ ∀ s13, s13 = putI st x3 (((x7 + (-1))).toNatClampNeg) ((sI st (gBIG + 201) v6.toNatClampNeg).toInt8.toInt32) → vp_in ((x7 + (-1)) + (-1)) (ln s13 x3) ∧ ∀ s19, s19 = putI s13 x3 ((((x7 + (-1)) + (-1))).toNatClampNeg) ((sI s13 (gBIG + 200) v6.toNatClampNeg).toInt8.toInt32) → w_J17_getChars_l24 Φ E82 n s19 v4 x3 ((x7 + (-1)) + (-1)) x8)
theorem t_J17_getChars_l24 {θ : Th} {κ : Kx} {Ph : Ph} {d : Nat} (hd : 0 ≤ d) (C : Cx θ κ yJ17_getChars cJ17_getChars 11 (some Jvm.ClassFile.FieldType.int) [] d) {Φ : St → Int32 → Prop} (hn : ∀ st r, Φ st r → Ph.1 st (some (.int r))) {E82 : St → Int64 → Nat → Int32 → Int32 → Prop} (hE82 : ∀ (st : St) (x0 : Int64) (x3 : Nat) (x7 : Int32) (x8 : Int32), sh st x3 = 103 → x3 < gBIG → E82 st x0 x3 x7 x8 → X θ κ Ph st 82 [(0, .long x0), (3, .ref (ad θ x3)), (7, .int x7), (8, .int x8)] []) : ∀ (n : Nat) (st : St) (x0 : Int64) (x3 : Nat) (x7 : Int32) (x8 : Int32), sh st x3 = 103 → x3 < gBIG → w_J17_getChars_l24 Φ E82 n st x0 x3 x7 x8 → X θ κ Ph st 24 [(0, .long x0), (3, .ref (ad θ x3)), (7, .int x7), (8, .int x8)] [] := by
  intro n
  induction n with
  | zero => intro st x0 x3 x7 x8 hs_x3 hb_x3 h; exact h.elim
  | succ n hK24 =>
    intro st x0 x3 x7 x8 hs_x3 hb_x3 h
    rw [w_J17_getChars_l24] at h
    refine X_lload_n C dJ17_getChars_24 rfl 0 rfl ?_
    refine X_ldc2 C q1566 dJ17_getChars_25 ?_
    refine X_lcmp_gt (tgt := 82) C dJ17_getChars_28 dJ17_getChars_29 (by decide) (fun c3 => ?_) (fun c3 => ?_)
    · have h := h.1 c3
      exact hE82 st x0 x3 x7 x8 hs_x3 hb_x3 h
    · have h := h.2 c3
      refine X_lload_n C dJ17_getChars_32 rfl 0 rfl ?_
      refine X_ldc2 C q1567 dJ17_getChars_33 ?_
      refine X_ldiv C dJ17_getChars_36 (by decide) ?_
      refine X_topl (fun v4 e5 => ?_)
      have h := h v4 e5
      refine X_lstore C dJ17_getChars_37 (lo2 := [(4, _), (0, _), (3, _), (7, _), (8, _)]) (by decide) rfl ?_
      refine X_lload C dJ17_getChars_39 0 rfl ?_
      refine X_ldc2 C q1567 dJ17_getChars_41 ?_
      refine X_lmul C dJ17_getChars_44 ?_
      refine X_lload_n C dJ17_getChars_45 rfl 1 rfl ?_
      refine X_lsub C dJ17_getChars_46 ?_
      refine X_l2i C dJ17_getChars_47 ?_
      refine X_topi (fun v6 e7 => ?_)
      have h := h v6 e7
      refine X_istore C dJ17_getChars_48 (lo2 := [(6, _), (4, _), (0, _), (3, _), (7, _), (8, _)]) (by decide) rfl ?_
      refine X_lload C dJ17_getChars_50 1 rfl ?_
      refine X_lstore_n C dJ17_getChars_52 rfl (lo2 := [(0, _), (6, _), (4, _), (3, _), (7, _), (8, _)]) (by decide) rfl ?_
      refine X_aload_n C dJ17_getChars_53 rfl 3 rfl (isRV_r _) ?_
      refine X_iinc (v := (x7 + (-1))) C (j := 4) dJ17_getChars_54 rfl rfl (lo2 := [(7, _), (0, _), (6, _), (4, _), (3, _), (8, _)]) (by decide) rfl ?_
      refine X_iload C dJ17_getChars_57 0 rfl ?_
      refine X_getsZ (v := .ref (ad θ (gBIG + 201))) C (fun s h => h.2.2.2.2.2.2.2.1) q1568 rfl dJ17_getChars_59 ?_
      refine X_con (fun hc10 => ?_)
      have hs8 : sh st (gBIG + 201) = 103 := con_dig_s hc10 (by simp)
      have hl9 : ln st (gBIG + 201) = 100 := con_dig_l hc10 (by simp)
      refine X_iload C dJ17_getChars_62 2 rfl ?_
      have g11 := h.1
      have h := h.2
      refine X_baldD C hs8 hl9 g11 rfl dJ17_getChars_64 ?_
      have g12 := h.1
      have h := h.2
      refine X_bastD C hb_x3 hs_x3 rfl g12 rfl dJ17_getChars_65 ?_
      refine X_nm (fun s13 e14 => ?_)
      have h := h s13 e14
      have hs_x3 : sh s13 x3 = 103 := by rw [e14]; exact hs_x3
      have hs8 : sh s13 (gBIG + 201) = 103 := by rw [e14]; exact hs8
      have hl9 : ln s13 (gBIG + 201) = 100 := by rw [e14]; exact hl9
      refine X_aload_n C dJ17_getChars_66 rfl 4 rfl (isRV_r _) ?_
      refine X_iinc (v := ((x7 + (-1)) + (-1))) C (j := 0) dJ17_getChars_67 rfl rfl (lo2 := [(7, _), (0, _), (6, _), (4, _), (3, _), (8, _)]) (by decide) rfl ?_
      refine X_iload C dJ17_getChars_70 0 rfl ?_
      refine X_getsZ (v := .ref (ad θ (gBIG + 200))) C (fun s h => h.2.2.2.2.2.2.1) q1569 rfl dJ17_getChars_72 ?_
      refine X_con (fun hc17 => ?_)
      have hs15 : sh s13 (gBIG + 200) = 103 := con_dig_s hc17 (by simp)
      have hl16 : ln s13 (gBIG + 200) = 100 := con_dig_l hc17 (by simp)
      refine X_iload C dJ17_getChars_75 2 rfl ?_
      refine X_baldD C hs15 hl16 g11 rfl dJ17_getChars_77 ?_
      have g18 := h.1
      have h := h.2
      refine X_bastD C hb_x3 hs_x3 rfl g18 rfl dJ17_getChars_78 ?_
      refine X_nm (fun s19 e20 => ?_)
      have h := h s19 e20
      have hs_x3 : sh s19 x3 = 103 := by rw [e20]; exact hs_x3
      have hs8 : sh s19 (gBIG + 201) = 103 := by rw [e20]; exact hs8
      have hl9 : ln s19 (gBIG + 201) = 100 := by rw [e20]; exact hl9
      have hs15 : sh s19 (gBIG + 200) = 103 := by rw [e20]; exact hs15
      have hl16 : ln s19 (gBIG + 200) = 100 := by rw [e20]; exact hl16
      refine X_goto (tgt := 24) C dJ17_getChars_79 (by decide) ?_
      refine X_sub [1, 4, 0, 5] (lo2 := [(0, _), (3, _), (7, _), (8, _)]) rfl ?_
      exact hK24 s19 v4 x3 ((x7 + (-1)) + (-1)) x8 hs_x3 hb_x3 h
def w_J17_getChars_l86 (Φ : St → Int32 → Prop) (E143 : St → Nat → Int32 → Int32 → Int32 → Prop) : Nat → St → Nat → Int32 → Int32 → Int32 → Prop
  | 0, _, _, _, _, _ => False
  | n + 1, st, x3, x7, x8, x10 => (((-100) < x10) → E143 st x3 x7 x8 x10) ∧ ((¬ (-100) < x10) → ∀ v25 : Int32, v25 = (x10 / 100) → ∀ v27 : Int32, v27 = ((v25 * 100) - x10) → vp_in v27 100 ∧ vp_in (x7 + (-1)) (ln st x3) ∧ ∀ s34, s34 = putI st x3 (((x7 + (-1))).toNatClampNeg) ((sI st (gBIG + 201) v27.toNatClampNeg).toInt8.toInt32) → vp_in ((x7 + (-1)) + (-1)) (ln s34 x3) ∧ ∀ s40, s40 = putI s34 x3 ((((x7 + (-1)) + (-1))).toNatClampNeg) ((sI s34 (gBIG + 200) v27.toNatClampNeg).toInt8.toInt32) → w_J17_getChars_l86 Φ E143 n s40 x3 ((x7 + (-1)) + (-1)) x8 v25)
theorem t_J17_getChars_l86 {θ : Th} {κ : Kx} {Ph : Ph} {d : Nat} (hd : 0 ≤ d) (C : Cx θ κ yJ17_getChars cJ17_getChars 11 (some Jvm.ClassFile.FieldType.int) [] d) {Φ : St → Int32 → Prop} (hn : ∀ st r, Φ st r → Ph.1 st (some (.int r))) {E143 : St → Nat → Int32 → Int32 → Int32 → Prop} (hE143 : ∀ (st : St) (x3 : Nat) (x7 : Int32) (x8 : Int32) (x10 : Int32), sh st x3 = 103 → x3 < gBIG → E143 st x3 x7 x8 x10 → X θ κ Ph st 143 [(3, .ref (ad θ x3)), (7, .int x7), (8, .int x8), (10, .int x10)] []) : ∀ (n : Nat) (st : St) (x3 : Nat) (x7 : Int32) (x8 : Int32) (x10 : Int32), sh st x3 = 103 → x3 < gBIG → w_J17_getChars_l86 Φ E143 n st x3 x7 x8 x10 → X θ κ Ph st 86 [(3, .ref (ad θ x3)), (7, .int x7), (8, .int x8), (10, .int x10)] [] := by
  intro n
  induction n with
  | zero => intro st x3 x7 x8 x10 hs_x3 hb_x3 h; exact h.elim
  | succ n hK86 =>
    intro st x3 x7 x8 x10 hs_x3 hb_x3 h
    rw [w_J17_getChars_l86] at h
    refine X_iload C dJ17_getChars_86 3 rfl ?_
    refine X_bipush (v := (-100)) C dJ17_getChars_88 rfl ?_
    refine X_icmp_gt (tgt := 143) C dJ17_getChars_90 (by decide) (fun c24 => ?_) (fun c24 => ?_)
    · have h := h.1 c24
      exact hE143 st x3 x7 x8 x10 hs_x3 hb_x3 h
    · have h := h.2 c24
      refine X_iload C dJ17_getChars_93 3 rfl ?_
      refine X_bipush (v := 100) C dJ17_getChars_95 rfl ?_
      refine X_idiv C dJ17_getChars_97 (by decide) ?_
      refine X_topi (fun v25 e26 => ?_)
      have h := h v25 e26
      refine X_istore C dJ17_getChars_98 (lo2 := [(9, _), (3, _), (7, _), (8, _), (10, _)]) (by decide) rfl ?_
      refine X_iload C dJ17_getChars_100 0 rfl ?_
      refine X_bipush (v := 100) C dJ17_getChars_102 rfl ?_
      refine X_imul C dJ17_getChars_104 ?_
      refine X_iload C dJ17_getChars_105 4 rfl ?_
      refine X_isub C dJ17_getChars_107 ?_
      refine X_topi (fun v27 e28 => ?_)
      have h := h v27 e28
      refine X_istore C dJ17_getChars_108 (lo2 := [(6, _), (9, _), (3, _), (7, _), (8, _), (10, _)]) (by decide) rfl ?_
      refine X_iload C dJ17_getChars_110 1 rfl ?_
      refine X_istore C dJ17_getChars_112 (lo2 := [(10, _), (6, _), (9, _), (3, _), (7, _), (8, _)]) (by decide) rfl ?_
      refine X_aload_n C dJ17_getChars_114 rfl 3 rfl (isRV_r _) ?_
      refine X_iinc (v := (x7 + (-1))) C (j := 4) dJ17_getChars_115 rfl rfl (lo2 := [(7, _), (10, _), (6, _), (9, _), (3, _), (8, _)]) (by decide) rfl ?_
      refine X_iload C dJ17_getChars_118 0 rfl ?_
      refine X_getsZ (v := .ref (ad θ (gBIG + 201))) C (fun s h => h.2.2.2.2.2.2.2.1) q1568 rfl dJ17_getChars_120 ?_
      refine X_con (fun hc31 => ?_)
      have hs29 : sh st (gBIG + 201) = 103 := con_dig_s hc31 (by simp)
      have hl30 : ln st (gBIG + 201) = 100 := con_dig_l hc31 (by simp)
      refine X_iload C dJ17_getChars_123 2 rfl ?_
      have g32 := h.1
      have h := h.2
      refine X_baldD C hs29 hl30 g32 rfl dJ17_getChars_125 ?_
      have g33 := h.1
      have h := h.2
      refine X_bastD C hb_x3 hs_x3 rfl g33 rfl dJ17_getChars_126 ?_
      refine X_nm (fun s34 e35 => ?_)
      have h := h s34 e35
      have hs_x3 : sh s34 x3 = 103 := by rw [e35]; exact hs_x3
      have hs29 : sh s34 (gBIG + 201) = 103 := by rw [e35]; exact hs29
      have hl30 : ln s34 (gBIG + 201) = 100 := by rw [e35]; exact hl30
      refine X_aload_n C dJ17_getChars_127 rfl 4 rfl (isRV_r _) ?_
      refine X_iinc (v := ((x7 + (-1)) + (-1))) C (j := 0) dJ17_getChars_128 rfl rfl (lo2 := [(7, _), (10, _), (6, _), (9, _), (3, _), (8, _)]) (by decide) rfl ?_
      refine X_iload C dJ17_getChars_131 0 rfl ?_
      refine X_getsZ (v := .ref (ad θ (gBIG + 200))) C (fun s h => h.2.2.2.2.2.2.1) q1569 rfl dJ17_getChars_133 ?_
      refine X_con (fun hc38 => ?_)
      have hs36 : sh s34 (gBIG + 200) = 103 := con_dig_s hc38 (by simp)
      have hl37 : ln s34 (gBIG + 200) = 100 := con_dig_l hc38 (by simp)
      refine X_iload C dJ17_getChars_136 2 rfl ?_
      refine X_baldD C hs36 hl37 g32 rfl dJ17_getChars_138 ?_
      have g39 := h.1
      have h := h.2
      refine X_bastD C hb_x3 hs_x3 rfl g39 rfl dJ17_getChars_139 ?_
      refine X_nm (fun s40 e41 => ?_)
      have h := h s40 e41
      have hs_x3 : sh s40 x3 = 103 := by rw [e41]; exact hs_x3
      have hs29 : sh s40 (gBIG + 201) = 103 := by rw [e41]; exact hs29
      have hl30 : ln s40 (gBIG + 201) = 100 := by rw [e41]; exact hl30
      have hs36 : sh s40 (gBIG + 200) = 103 := by rw [e41]; exact hs36
      have hl37 : ln s40 (gBIG + 200) = 100 := by rw [e41]; exact hl37
      refine X_goto (tgt := 86) C dJ17_getChars_140 (by decide) ?_
      refine X_sub [4, 0, 5, 1] (lo2 := [(3, _), (7, _), (8, _), (10, _)]) rfl ?_
      exact hK86 s40 x3 ((x7 + (-1)) + (-1)) x8 v25 hs_x3 hb_x3 h
def w_J17_getChars_b178 (Φ : St → Int32 → Prop) (st : St) (x3 : Nat) (x7 : Int32) (x8 : Int32) : Prop := ((x8 = 0) → Φ st x7) ∧ ((¬ x8 = 0) → vp_in (x7 + (-1)) (ln st x3) ∧ ∀ s53, s53 = putI st x3 (((x7 + (-1))).toNatClampNeg) ((45 : Int32).toInt8.toInt32) → Φ s53 (x7 + (-1)))
theorem t_J17_getChars_b178 {θ : Th} {κ : Kx} {Ph : Ph} {d : Nat} (hd : 0 ≤ d) (C : Cx θ κ yJ17_getChars cJ17_getChars 11 (some Jvm.ClassFile.FieldType.int) [] d) {Φ : St → Int32 → Prop} (hn : ∀ st r, Φ st r → Ph.1 st (some (.int r))) (st : St) (x3 : Nat) (x7 : Int32) (x8 : Int32) (hs_x3 : sh st x3 = 103) (hb_x3 : x3 < gBIG) (h : w_J17_getChars_b178 Φ st x3 x7 x8) : X θ κ Ph st 178 [(3, .ref (ad θ x3)), (7, .int x7), (8, .int x8)] [] := by
  unfold w_J17_getChars_b178 at h
  refine X_iload C dJ17_getChars_178 2 rfl ?_
  refine X_if_eq (tgt := 192) C dJ17_getChars_180 (by decide) (fun c51 => ?_) (fun c51 => ?_)
  · have h := h.1 c51
    refine X_iload C dJ17_getChars_192 1 rfl ?_
    exact X_iret C rfl dJ17_getChars_194 (hn st _ h)
  · have h := h.2 c51
    refine X_aload_n C dJ17_getChars_183 rfl 0 rfl (isRV_r _) ?_
    refine X_iinc (v := (x7 + (-1))) C (j := 1) dJ17_getChars_184 rfl rfl (lo2 := [(7, _), (3, _), (8, _)]) (by decide) rfl ?_
    refine X_iload C dJ17_getChars_187 0 rfl ?_
    refine X_bipush (v := 45) C dJ17_getChars_189 rfl ?_
    have g52 := h.1
    have h := h.2
    refine X_bastD C hb_x3 hs_x3 rfl g52 rfl dJ17_getChars_191 ?_
    refine X_nm (fun s53 e54 => ?_)
    have h := h s53 e54
    have hs_x3 : sh s53 x3 = 103 := by rw [e54]; exact hs_x3
    refine X_iload C dJ17_getChars_192 0 rfl ?_
    exact X_iret C rfl dJ17_getChars_194 (hn s53 _ h)
def w_J17_getChars_b143 (Φ : St → Int32 → Prop) (st : St) (x3 : Nat) (x7 : Int32) (x8 : Int32) (x10 : Int32) : Prop := vp_in (-x10) 100 ∧ vp_in (x7 + (-1)) (ln st x3) ∧ ∀ s48, s48 = putI st x3 (((x7 + (-1))).toNatClampNeg) ((sI st (gBIG + 201) (-x10).toNatClampNeg).toInt8.toInt32) → (((-9) ≤ x10) → w_J17_getChars_b178 Φ s48 x3 (x7 + (-1)) x8) ∧ ((¬ (-9) ≤ x10) → vp_in ((x7 + (-1)) + (-1)) (ln s48 x3) ∧ ∀ s59, s59 = putI s48 x3 ((((x7 + (-1)) + (-1))).toNatClampNeg) ((sI s48 (gBIG + 200) (-x10).toNatClampNeg).toInt8.toInt32) → w_J17_getChars_b178 Φ s59 x3 ((x7 + (-1)) + (-1)) x8)
theorem t_J17_getChars_b143 {θ : Th} {κ : Kx} {Ph : Ph} {d : Nat} (hd : 0 ≤ d) (C : Cx θ κ yJ17_getChars cJ17_getChars 11 (some Jvm.ClassFile.FieldType.int) [] d) {Φ : St → Int32 → Prop} (hn : ∀ st r, Φ st r → Ph.1 st (some (.int r))) (st : St) (x3 : Nat) (x7 : Int32) (x8 : Int32) (x10 : Int32) (hs_x3 : sh st x3 = 103) (hb_x3 : x3 < gBIG) (h : w_J17_getChars_b143 Φ st x3 x7 x8 x10) : X θ κ Ph st 143 [(3, .ref (ad θ x3)), (7, .int x7), (8, .int x8), (10, .int x10)] [] := by
  unfold w_J17_getChars_b143 at h
  refine X_aload_n C dJ17_getChars_143 rfl 0 rfl (isRV_r _) ?_
  refine X_iinc (v := (x7 + (-1))) C (j := 1) dJ17_getChars_144 rfl rfl (lo2 := [(7, _), (3, _), (8, _), (10, _)]) (by decide) rfl ?_
  refine X_iload C dJ17_getChars_147 0 rfl ?_
  refine X_getsZ (v := .ref (ad θ (gBIG + 201))) C (fun s h => h.2.2.2.2.2.2.2.1) q1568 rfl dJ17_getChars_149 ?_
  refine X_con (fun hc45 => ?_)
  have hs43 : sh st (gBIG + 201) = 103 := con_dig_s hc45 (by simp)
  have hl44 : ln st (gBIG + 201) = 100 := con_dig_l hc45 (by simp)
  refine X_iload C dJ17_getChars_152 3 rfl ?_
  refine X_ineg C dJ17_getChars_154 ?_
  have g46 := h.1
  have h := h.2
  refine X_baldD C hs43 hl44 g46 rfl dJ17_getChars_155 ?_
  have g47 := h.1
  have h := h.2
  refine X_bastD C hb_x3 hs_x3 rfl g47 rfl dJ17_getChars_156 ?_
  refine X_nm (fun s48 e49 => ?_)
  have h := h s48 e49
  have hs_x3 : sh s48 x3 = 103 := by rw [e49]; exact hs_x3
  have hs43 : sh s48 (gBIG + 201) = 103 := by rw [e49]; exact hs43
  have hl44 : ln s48 (gBIG + 201) = 100 := by rw [e49]; exact hl44
  refine X_iload C dJ17_getChars_157 3 rfl ?_
  refine X_bipush (v := (-9)) C dJ17_getChars_159 rfl ?_
  refine X_icmp_ge (tgt := 178) C dJ17_getChars_161 (by decide) (fun c50 => ?_) (fun c50 => ?_)
  · have h := h.1 c50
    refine X_sub [1, 0, 2] (lo2 := [(3, _), (7, _), (8, _)]) rfl ?_
    exact t_J17_getChars_b178 hd C hn s48 x3 (x7 + (-1)) x8 hs_x3 hb_x3 h
  · have h := h.2 c50
    refine X_aload_n C dJ17_getChars_164 rfl 1 rfl (isRV_r _) ?_
    refine X_iinc (v := ((x7 + (-1)) + (-1))) C (j := 0) dJ17_getChars_165 rfl rfl (lo2 := [(7, _), (3, _), (8, _), (10, _)]) (by decide) rfl ?_
    refine X_iload C dJ17_getChars_168 0 rfl ?_
    refine X_getsZ (v := .ref (ad θ (gBIG + 200))) C (fun s h => h.2.2.2.2.2.2.1) q1569 rfl dJ17_getChars_170 ?_
    refine X_con (fun hc57 => ?_)
    have hs55 : sh s48 (gBIG + 200) = 103 := con_dig_s hc57 (by simp)
    have hl56 : ln s48 (gBIG + 200) = 100 := con_dig_l hc57 (by simp)
    refine X_iload C dJ17_getChars_173 3 rfl ?_
    refine X_ineg C dJ17_getChars_175 ?_
    refine X_baldD C hs55 hl56 g46 rfl dJ17_getChars_176 ?_
    have g58 := h.1
    have h := h.2
    refine X_bastD C hb_x3 hs_x3 rfl g58 rfl dJ17_getChars_177 ?_
    refine X_nm (fun s59 e60 => ?_)
    have h := h s59 e60
    have hs_x3 : sh s59 x3 = 103 := by rw [e60]; exact hs_x3
    have hs43 : sh s59 (gBIG + 201) = 103 := by rw [e60]; exact hs43
    have hl44 : ln s59 (gBIG + 201) = 100 := by rw [e60]; exact hl44
    have hs55 : sh s59 (gBIG + 200) = 103 := by rw [e60]; exact hs55
    have hl56 : ln s59 (gBIG + 200) = 100 := by rw [e60]; exact hl56
    refine X_sub [1, 0, 2] (lo2 := [(3, _), (7, _), (8, _)]) rfl ?_
    exact t_J17_getChars_b178 hd C hn s59 x3 ((x7 + (-1)) + (-1)) x8 hs_x3 hb_x3 h
def w_J17_getChars_b82 (Φ : St → Int32 → Prop) (st : St) (x0 : Int64) (x3 : Nat) (x7 : Int32) (x8 : Int32) : Prop := ∀ v22 : Int32, v22 = x0.toInt32 → w_J17_getChars_l86 Φ (fun (s42 : St) (x3 : Nat) (x7 : Int32) (x8 : Int32) (x10 : Int32) => w_J17_getChars_b143 Φ s42 x3 x7 x8 x10) gFU st x3 x7 x8 v22
theorem t_J17_getChars_b82 {θ : Th} {κ : Kx} {Ph : Ph} {d : Nat} (hd : 0 ≤ d) (C : Cx θ κ yJ17_getChars cJ17_getChars 11 (some Jvm.ClassFile.FieldType.int) [] d) {Φ : St → Int32 → Prop} (hn : ∀ st r, Φ st r → Ph.1 st (some (.int r))) (st : St) (x0 : Int64) (x3 : Nat) (x7 : Int32) (x8 : Int32) (hs_x3 : sh st x3 = 103) (hb_x3 : x3 < gBIG) (h : w_J17_getChars_b82 Φ st x0 x3 x7 x8) : X θ κ Ph st 82 [(0, .long x0), (3, .ref (ad θ x3)), (7, .int x7), (8, .int x8)] [] := by
  unfold w_J17_getChars_b82 at h
  refine X_lload_n C dJ17_getChars_82 rfl 0 rfl ?_
  refine X_l2i C dJ17_getChars_83 ?_
  refine X_topi (fun v22 e23 => ?_)
  have h := h v22 e23
  refine X_istore C dJ17_getChars_84 (lo2 := [(10, _), (0, _), (3, _), (7, _), (8, _)]) (by decide) rfl ?_
  refine X_sub [2, 3, 4, 0] (lo2 := [(3, _), (7, _), (8, _), (10, _)]) rfl ?_
  refine t_J17_getChars_l86 hd C hn ?_ gFU st x3 x7 x8 v22 hs_x3 hb_x3 h
  · intro s42 x3 x7 x8 x10 hs_x3 hb_x3 h
    exact t_J17_getChars_b143 hd C hn s42 x3 x7 x8 x10 hs_x3 hb_x3 h
def w_J17_getChars_b14 (Φ : St → Int32 → Prop) (st : St) (x0 : Int64) (x3 : Nat) (x7 : Int32) (z0 : Int32) : Prop := ((z0 ≠ 0) → w_J17_getChars_l24 Φ (fun (s21 : St) (x0 : Int64) (x3 : Nat) (x7 : Int32) (x8 : Int32) => w_J17_getChars_b82 Φ s21 x0 x3 x7 x8) gFU st x0 x3 x7 z0) ∧ ((z0 = 0) → ∀ v61 : Int64, v61 = (-x0) → w_J17_getChars_l24 Φ (fun (s63 : St) (x0 : Int64) (x3 : Nat) (x7 : Int32) (x8 : Int32) => w_J17_getChars_b82 Φ s63 x0 x3 x7 x8) gFU st v61 x3 x7 z0)
theorem t_J17_getChars_b14 {θ : Th} {κ : Kx} {Ph : Ph} {d : Nat} (hd : 0 ≤ d) (C : Cx θ κ yJ17_getChars cJ17_getChars 11 (some Jvm.ClassFile.FieldType.int) [] d) {Φ : St → Int32 → Prop} (hn : ∀ st r, Φ st r → Ph.1 st (some (.int r))) (st : St) (x0 : Int64) (x3 : Nat) (x7 : Int32) (z0 : Int32) (hs_x3 : sh st x3 = 103) (hb_x3 : x3 < gBIG) (h : w_J17_getChars_b14 Φ st x0 x3 x7 z0) : X θ κ Ph st 14 [(0, .long x0), (3, .ref (ad θ x3)), (7, .int x7)] [.int z0] := by
  unfold w_J17_getChars_b14 at h
  refine X_istore C dJ17_getChars_14 (lo2 := [(8, _), (0, _), (3, _), (7, _)]) (by decide) rfl ?_
  refine X_iload C dJ17_getChars_16 0 rfl ?_
  refine X_if_ne (tgt := 24) C dJ17_getChars_18 (by decide) (fun c2 => ?_) (fun c2 => ?_)
  · have h := h.1 c2
    refine X_sub [1, 2, 3, 0] (lo2 := [(0, _), (3, _), (7, _), (8, _)]) rfl ?_
    refine t_J17_getChars_l24 hd C hn ?_ gFU st x0 x3 x7 z0 hs_x3 hb_x3 h
    · intro s21 x0 x3 x7 x8 hs_x3 hb_x3 h
      exact t_J17_getChars_b82 hd C hn s21 x0 x3 x7 x8 hs_x3 hb_x3 h
  · have h := h.2 c2
    refine X_lload_n C dJ17_getChars_21 rfl 1 rfl ?_
    refine X_lneg C dJ17_getChars_22 ?_
    refine X_topl (fun v61 e62 => ?_)
    have h := h v61 e62
    refine X_lstore_n C dJ17_getChars_23 rfl (lo2 := [(0, _), (8, _), (3, _), (7, _)]) (by decide) rfl ?_
    refine X_sub [0, 2, 3, 1] (lo2 := [(0, _), (3, _), (7, _), (8, _)]) rfl ?_
    refine t_J17_getChars_l24 hd C hn ?_ gFU st v61 x3 x7 z0 hs_x3 hb_x3 h
    · intro s63 x0 x3 x7 x8 hs_x3 hb_x3 h
      exact t_J17_getChars_b82 hd C hn s63 x0 x3 x7 x8 hs_x3 hb_x3 h
def w_J17_getChars (st : St) (p1 : Int64) (p2 : Int32) (p3 : Nat) (Φ : St → Int32 → Prop) : Prop := ((0 ≤ p1) → w_J17_getChars_b14 Φ st p1 p3 p2 0) ∧ ((¬ 0 ≤ p1) → w_J17_getChars_b14 Φ st p1 p3 p2 1)
theorem e_J17_getChars : plainFor yJ17_getChars = true := plainFor_of_name (by decide +kernel)
theorem m_J17_getChars {θ : Th} {l : Launch} (hl0 : l.stackTraces = false) {d : Nat} (hd : 0 ≤ d) (st : St) (p1 : Int64) (p2 : Int32) (p3 : Nat) (hs_p3 : sh st p3 = 103) (hb_p3 : p3 < gBIG) {Φ : St → Int32 → Prop} (h : w_J17_getChars st p1 p2 p3 Φ) : Ct θ l yJ17_getChars (ws_ yJ17_getChars cJ17_getChars 11 (some Jvm.ClassFile.FieldType.int)) d [.long p1, .int p2, .ref (ad θ p3)] st (pI Φ, noX) := by
  refine Ct_entry hl0 e_J17_getChars (Nat.le_of_ble_eq_true rfl) (fun κ hκ _ C => ?_)
  have hn : ∀ st r, Φ st r → ((pI Φ, noX) : Ph).1 st (some (.int r)) := fun st r q => ⟨r, rfl, q⟩
  change X _ _ _ _ _ [(0, .long p1), (2, .int p2), (3, .ref (ad θ p3))] _
  unfold w_J17_getChars at h
  refine X_iload_n C dJ17_getChars_0 rfl 1 rfl ?_
  refine X_istore C dJ17_getChars_1 (lo2 := [(7, _), (0, _), (2, _), (3, _)]) (by decide) rfl ?_
  refine X_lload_n C dJ17_getChars_3 rfl 1 rfl ?_
  refine X_lconst (v := 0) C dJ17_getChars_4 rfl ?_
  refine X_lcmp_ge (tgt := 13) C dJ17_getChars_5 dJ17_getChars_6 (by decide) (fun c1 => ?_) (fun c1 => ?_)
  · have h := h.1 c1
    refine X_iconst (v := 0) C dJ17_getChars_13 rfl ?_
    refine X_sub [1, 3, 0] (lo2 := [(0, _), (3, _), (7, _)]) rfl ?_
    exact t_J17_getChars_b14 hd C hn st p1 p3 p2 0 hs_p3 hb_p3 h
  · have h := h.2 c1
    refine X_iconst (v := 1) C dJ17_getChars_9 rfl ?_
    refine X_goto (tgt := 14) C dJ17_getChars_10 (by decide) ?_
    refine X_sub [1, 3, 0] (lo2 := [(0, _), (3, _), (7, _)]) rfl ?_
    exact t_J17_getChars_b14 hd C hn st p1 p3 p2 1 hs_p3 hb_p3 h

theorem nm_J10_append_3 : yJ10_append_3.cls ≠ "java/lang/invoke/MethodHandle" ∧ yJ10_append_3.cls ≠ "java/lang/invoke/VarHandle" ∧ (parseMethodDescriptor yJ10_append_3.desc).map (fun d => d.parameters.length) = some 1 := by decide +kernel
def w_J10_append_3_b48 (Φ : St → Nat → Prop) (st : St) (x0 : Nat) (x3 : Int32) : Prop := ∀ s46, s46 = putI st x0 3 x3 → Φ s46 x0
theorem t_J10_append_3_b48 {θ : Th} {κ : Kx} {Ph : Ph} (hX : LX θ) {d : Nat} (hd : 4 ≤ d) (C : Cx θ κ yJ10_append_3 cJ10_append_3 4 (some (Jvm.ClassFile.FieldType.object "java/lang/AbstractStringBuilder")) [] d) {Φ : St → Nat → Prop} (hn : ∀ st r, r < gBIG → sh st r = 11 → Φ st r → Ph.1 st (some (.ref (ad θ r)))) (st : St) (x0 : Nat) (x3 : Int32) (hs_x0 : sh st x0 = 11) (hb_x0 : x0 < gBIG) (h : w_J10_append_3_b48 Φ st x0 x3) : X θ κ Ph st 48 [(0, .ref (ad θ x0)), (3, .int x3)] [] := by
  unfold w_J10_append_3_b48 at h
  refine X_aload_n C dJ10_append_3_48 rfl 0 rfl (isRV_r _) ?_
  refine X_iload_n C dJ10_append_3_49 rfl 1 rfl ?_
  refine X_putI (ci := 10) (j := 3) (q := (RJ11, TJ11, 4)) C rfl (by decide) q983 rfl rfl dJ10_append_3_50 hb_x0 hs_x0 rfl rfl rfl ?_
  refine X_nm (fun s46 e47 => ?_)
  have h := h s46 e47
  have hs_x0 : sh s46 x0 = 11 := by rw [e47]; exact hs_x0
  refine X_aload_n C dJ10_append_3_53 rfl 0 rfl (isRV_r _) ?_
  exact X_aret C rfl (Or.inl ⟨_, rfl⟩) (isRV_r _) dJ10_append_3_54 (hn s46 _ hb_x0 hs_x0 h)
def w_J10_append_3 (st : St) (a0 : Nat) (p1 : Int32) (Φ : St → Nat → Prop) : Prop := ∀ v1 : Int32, v1 = (sI st a0 3) → w_J7_stringSize p1 (fun (r3 : Int32) => ∀ v11 : Int32, v11 = (v1 + r3) → w_J10_ensureCapacityInternal st a0 v11 (fun (s14 : St) => w_J10_isLatin1 s14 a0 (fun (r21 : Int32) => ((r21 = 0) → False) ∧ ((¬ r21 = 0) → ∃ r34, (sR s14 a0 0) = some r34 ∧ r34 < gBIG ∧ sh s14 r34 = 103 ∧ w_J7_getChars s14 p1 v11 r34 (fun (s39 : St) (r38 : Int32) => w_J10_append_3_b48 Φ s39 a0 v11)))))
theorem e_J10_append_3 : plainFor yJ10_append_3 = true := plainFor_of_name (by decide +kernel)
theorem m_J10_append_3 {θ : Th} {l : Launch} (hl0 : l.stackTraces = false) (hX : LX θ) {d : Nat} (hd : 4 ≤ d) (st : St) (a0 : Nat) (p1 : Int32) (hs_a0 : sh st a0 = 11) (hb_a0 : a0 < gBIG) {Φ : St → Nat → Prop} (h : w_J10_append_3 st a0 p1 Φ) : Ct θ l yJ10_append_3 (ws_ yJ10_append_3 cJ10_append_3 4 (some (Jvm.ClassFile.FieldType.object "java/lang/AbstractStringBuilder"))) d [.ref (ad θ a0), .int p1] st (pN θ 11 Φ, noX) := by
  refine Ct_entry hl0 e_J10_append_3 (Nat.le_of_ble_eq_true rfl) (fun κ hκ _ C => ?_)
  have hn : ∀ st r, r < gBIG → sh st r = 11 → Φ st r → ((pN θ 11 Φ, noX) : Ph).1 st (some (.ref (ad θ r))) := fun st r q1 q2 q => ⟨r, rfl, q1, q2, q⟩
  change X _ _ _ _ _ [(0, .ref (ad θ a0)), (1, .int p1)] _
  unfold w_J10_append_3 at h
  refine X_aload_n C dJ10_append_3_0 rfl 0 rfl (isRV_r _) ?_
  refine X_get (ci := 10) (j := 3) (q := (RJ11, TJ11, 4)) C rfl (by decide) q983 rfl dJ10_append_3_1 hs_a0 (v := .int (sI st a0 3)) rfl ?_
  refine X_topi (fun v1 e2 => ?_)
  have h := h v1 e2
  refine X_istore_n C dJ10_append_3_4 rfl (lo2 := [(2, _), (0, _), (1, _)]) (by decide) rfl ?_
  refine X_iload_n C dJ10_append_3_5 rfl 0 rfl ?_
  refine X_iload_n C dJ10_append_3_6 rfl 2 rfl ?_
  refine X_callS (As := [_]) (rest := [_]) C q1409 q1410 q146 q1411 nm_J7_stringSize rfl dJ10_append_3_7 (m_J7_stringSize (Cx_l C) (d := d - 1) (by omega) st p1 h) (by omega) (by decide) (Nat.le_of_ble_eq_true rfl) (fun s9 w4 hE5 hP6 => ?_) (fun s10 E7 q8 hE5 hP6 => ?_)
  rotate_left
  · exact False.elim hP6
  obtain ⟨r3, rfl, rfl, h⟩ := hP6
  refine X_tls ?_
  refine X_iadd C dJ10_append_3_10 ?_
  refine X_topi (fun v11 e12 => ?_)
  have h := h v11 e12
  refine X_istore_n C dJ10_append_3_11 rfl (lo2 := [(3, _), (2, _), (0, _), (1, _)]) (by decide) rfl ?_
  refine X_aload_n C dJ10_append_3_12 rfl 2 rfl (isRV_r _) ?_
  refine X_iload_n C dJ10_append_3_13 rfl 0 rfl ?_
  refine X_callU (ci := 10) (q := (RJ11, TJ11, 4)) (owner := "java/lang/AbstractStringBuilder") (As := [_]) (rest := []) C rfl hs_a0 q1000 q2430 (fun _ _ h _ => va_Decl.of (h _ q1002) (h _ q1003)) (fun _ _ _ h => KS_PS h (by simp [gPS])) q1002 q150 q1003 nmF_10 rfl dJ10_append_3_14 (m_J10_ensureCapacityInternal (Cx_l C) hX (d := d - 1) (by omega) st a0 v11 hs_a0 hb_a0 h) (by omega) (by decide) (Nat.le_of_ble_eq_true rfl) (fun s14 w15 hE16 hP17 => ?_) (fun s20 E18 q19 hE16 hP17 => ?_)
  rotate_left
  · exact False.elim hP17
  obtain ⟨rfl, h⟩ := hP17
  refine X_tln ?_
  have hs_a0 := Ext_sh hE16 hs_a0 (by decide)
  refine X_aload_n C dJ10_append_3_17 rfl 2 rfl (isRV_r _) ?_
  refine X_callU (ci := 10) (q := (RJ11, TJ11, 4)) (owner := "java/lang/AbstractStringBuilder") (As := []) (rest := []) C rfl hs_a0 q1033 q1035 (fun _ _ h _ => va_Decl.of (h _ q1034) (h _ q1037)) (fun _ _ h _ => h _ q1036) q1034 q150 q1037 nmF_14 rfl dJ10_append_3_18 (m_J10_isLatin1 (Cx_l C) hX (d := d - 1) (by omega) s14 a0 hs_a0 hb_a0 h) (by omega) (by decide) (Nat.le_of_ble_eq_true rfl) (fun s27 w22 hE23 hP24 => ?_) (fun s28 E25 q26 hE23 hP24 => ?_)
  rotate_left
  · exact False.elim hP24
  obtain ⟨r21, rfl, rfl, h⟩ := hP24
  refine X_tls ?_
  refine X_if_eq (tgt := 37) C dJ10_append_3_21 (by decide) (fun c29 => ?_) (fun c29 => ?_)
  · have h := h.1 c29
    exact h.elim
  · have h := h.2 c29
    refine X_iload_n C dJ10_append_3_24 rfl 3 rfl ?_
    refine X_iload_n C dJ10_append_3_25 rfl 0 rfl ?_
    refine X_aload_n C dJ10_append_3_26 rfl 2 rfl (isRV_r _) ?_
    refine X_get (ci := 10) (j := 0) (q := (RJ11, TJ11, 4)) C rfl (by decide) q980 rfl dJ10_append_3_27 hs_a0 (v := rv θ (sR s14 a0 0)) rfl ?_
    obtain ⟨r34, q35, hb37, hs36, h⟩ := h
    rw [q35]
    refine X_tor ?_
    refine X_callS (As := [_, _, _]) (rest := []) C q1412 q1413 q146 q1414 nm_J7_getChars rfl dJ10_append_3_30 (m_J7_getChars (Cx_l C) (d := d - 1) (by omega) s14 p1 v11 r34 hs36 hb37 h) (by omega) (by decide) (Nat.le_of_ble_eq_true rfl) (fun s39 w40 hE41 hP42 => ?_) (fun s45 E43 q44 hE41 hP42 => ?_)
    rotate_left
    · exact False.elim hP42
    obtain ⟨r38, rfl, h⟩ := hP42
    refine X_tls ?_
    have hs_a0 := Ext_sh hE41 hs_a0 (by decide)
    have hs36 := Ext_sh hE41 hs36 (by decide)
    refine X_pop C dJ10_append_3_33 rfl ?_
    refine X_goto (tgt := 48) C dJ10_append_3_34 (by decide) ?_
    refine X_sub [2, 0] (lo2 := [(0, _), (3, _)]) rfl ?_
    exact t_J10_append_3_b48 hX hd C hn s39 a0 v11 hs_a0 hb_a0 h

theorem nm_J11_append_3 : yJ11_append_3.cls ≠ "java/lang/invoke/MethodHandle" ∧ yJ11_append_3.cls ≠ "java/lang/invoke/VarHandle" ∧ (parseMethodDescriptor yJ11_append_3.desc).map (fun d => d.parameters.length) = some 1 := by decide +kernel
def w_J11_append_3 (st : St) (a0 : Nat) (p1 : Int32) (Φ : St → Nat → Prop) : Prop := w_J10_append_3 st a0 p1 (fun (s2 : St) (r1 : Nat) => Φ s2 a0)
theorem e_J11_append_3 : plainFor yJ11_append_3 = true := plainFor_of_name (by decide +kernel)
theorem m_J11_append_3 {θ : Th} {l : Launch} (hl0 : l.stackTraces = false) (hX : LX θ) {d : Nat} (hd : 5 ≤ d) (st : St) (a0 : Nat) (p1 : Int32) (hs_a0 : sh st a0 = 11) (hb_a0 : a0 < gBIG) {Φ : St → Nat → Prop} (h : w_J11_append_3 st a0 p1 Φ) : Ct θ l yJ11_append_3 (ws_ yJ11_append_3 cJ11_append_3 2 (some (Jvm.ClassFile.FieldType.object "java/lang/StringBuilder"))) d [.ref (ad θ a0), .int p1] st (pN θ 11 Φ, noX) := by
  refine Ct_entry hl0 e_J11_append_3 (Nat.le_of_ble_eq_true rfl) (fun κ hκ _ C => ?_)
  have hn : ∀ st r, r < gBIG → sh st r = 11 → Φ st r → ((pN θ 11 Φ, noX) : Ph).1 st (some (.ref (ad θ r))) := fun st r q1 q2 q => ⟨r, rfl, q1, q2, q⟩
  change X _ _ _ _ _ [(0, .ref (ad θ a0)), (1, .int p1)] _
  unfold w_J11_append_3 at h
  refine X_aload_n C dJ11_append_3_0 rfl 0 rfl (isRV_r _) ?_
  refine X_iload_n C dJ11_append_3_1 rfl 1 rfl ?_
  refine X_callSU (ci := 10) (q := (RJ11, TJ11, 4)) (As := [_]) (rest := []) C rfl hs_a0 q1406 q2437 q992 q1407 q150 q1408 (by decide) nm_J10_append_3 rfl dJ11_append_3_2 (m_J10_append_3 (Cx_l C) hX (d := d - 1) (by omega) st a0 p1 hs_a0 hb_a0 h) (by omega) (by decide) (Nat.le_of_ble_eq_true rfl) (fun s2 w3 hE4 hP5 => ?_) (fun s8 E6 q7 hE4 hP5 => ?_)
  rotate_left
  · exact False.elim hP5
  obtain ⟨r1, rfl, hb9, hs10, h⟩ := hP5
  refine X_tls ?_
  have hs_a0 := Ext_sh hE4 hs_a0 (by decide)
  refine X_pop C dJ11_append_3_5 rfl ?_
  refine X_aload_n C dJ11_append_3_6 rfl 0 rfl (isRV_r _) ?_
  exact X_aret C rfl (Or.inl ⟨_, rfl⟩) (isRV_r _) dJ11_append_3_7 (hn s2 _ hb_a0 hs_a0 h)

theorem nm_J10_append_4 : yJ10_append_4.cls ≠ "java/lang/invoke/MethodHandle" ∧ yJ10_append_4.cls ≠ "java/lang/invoke/VarHandle" ∧ (parseMethodDescriptor yJ10_append_4.desc).map (fun d => d.parameters.length) = some 1 := by decide +kernel
def w_J10_append_4_b52 (Φ : St → Nat → Prop) (st : St) (x0 : Nat) (x4 : Int32) : Prop := ∀ s46, s46 = putI st x0 3 x4 → Φ s46 x0
theorem t_J10_append_4_b52 {θ : Th} {κ : Kx} {Ph : Ph} (hX : LX θ) {d : Nat} (hd : 4 ≤ d) (C : Cx θ κ yJ10_append_4 cJ10_append_4 5 (some (Jvm.ClassFile.FieldType.object "java/lang/AbstractStringBuilder")) [] d) {Φ : St → Nat → Prop} (hn : ∀ st r, r < gBIG → sh st r = 11 → Φ st r → Ph.1 st (some (.ref (ad θ r)))) (st : St) (x0 : Nat) (x4 : Int32) (hs_x0 : sh st x0 = 11) (hb_x0 : x0 < gBIG) (h : w_J10_append_4_b52 Φ st x0 x4) : X θ κ Ph st 52 [(0, .ref (ad θ x0)), (4, .int x4)] [] := by
  unfold w_J10_append_4_b52 at h
  refine X_aload_n C dJ10_append_4_52 rfl 0 rfl (isRV_r _) ?_
  refine X_iload C dJ10_append_4_53 1 rfl ?_
  refine X_putI (ci := 10) (j := 3) (q := (RJ11, TJ11, 4)) C rfl (by decide) q983 rfl rfl dJ10_append_4_55 hb_x0 hs_x0 rfl rfl rfl ?_
  refine X_nm (fun s46 e47 => ?_)
  have h := h s46 e47
  have hs_x0 : sh s46 x0 = 11 := by rw [e47]; exact hs_x0
  refine X_aload_n C dJ10_append_4_58 rfl 0 rfl (isRV_r _) ?_
  exact X_aret C rfl (Or.inl ⟨_, rfl⟩) (isRV_r _) dJ10_append_4_59 (hn s46 _ hb_x0 hs_x0 h)
def w_J10_append_4 (st : St) (a0 : Nat) (p1 : Int64) (Φ : St → Nat → Prop) : Prop := ∀ v1 : Int32, v1 = (sI st a0 3) → w_J17_stringSize p1 (fun (r3 : Int32) => ∀ v11 : Int32, v11 = (v1 + r3) → w_J10_ensureCapacityInternal st a0 v11 (fun (s14 : St) => w_J10_isLatin1 s14 a0 (fun (r21 : Int32) => ((r21 = 0) → False) ∧ ((¬ r21 = 0) → ∃ r34, (sR s14 a0 0) = some r34 ∧ r34 < gBIG ∧ sh s14 r34 = 103 ∧ w_J17_getChars s14 p1 v11 r34 (fun (s39 : St) (r38 : Int32) => w_J10_append_4_b52 Φ s39 a0 v11)))))
theorem e_J10_append_4 : plainFor yJ10_append_4 = true := plainFor_of_name (by decide +kernel)
theorem m_J10_append_4 {θ : Th} {l : Launch} (hl0 : l.stackTraces = false) (hX : LX θ) {d : Nat} (hd : 4 ≤ d) (st : St) (a0 : Nat) (p1 : Int64) (hs_a0 : sh st a0 = 11) (hb_a0 : a0 < gBIG) {Φ : St → Nat → Prop} (h : w_J10_append_4 st a0 p1 Φ) : Ct θ l yJ10_append_4 (ws_ yJ10_append_4 cJ10_append_4 5 (some (Jvm.ClassFile.FieldType.object "java/lang/AbstractStringBuilder"))) d [.ref (ad θ a0), .long p1] st (pN θ 11 Φ, noX) := by
  refine Ct_entry hl0 e_J10_append_4 (Nat.le_of_ble_eq_true rfl) (fun κ hκ _ C => ?_)
  have hn : ∀ st r, r < gBIG → sh st r = 11 → Φ st r → ((pN θ 11 Φ, noX) : Ph).1 st (some (.ref (ad θ r))) := fun st r q1 q2 q => ⟨r, rfl, q1, q2, q⟩
  change X _ _ _ _ _ [(0, .ref (ad θ a0)), (1, .long p1)] _
  unfold w_J10_append_4 at h
  refine X_aload_n C dJ10_append_4_0 rfl 0 rfl (isRV_r _) ?_
  refine X_get (ci := 10) (j := 3) (q := (RJ11, TJ11, 4)) C rfl (by decide) q983 rfl dJ10_append_4_1 hs_a0 (v := .int (sI st a0 3)) rfl ?_
  refine X_topi (fun v1 e2 => ?_)
  have h := h v1 e2
  refine X_istore_n C dJ10_append_4_4 rfl (lo2 := [(3, _), (0, _), (1, _)]) (by decide) rfl ?_
  refine X_iload_n C dJ10_append_4_5 rfl 0 rfl ?_
  refine X_lload_n C dJ10_append_4_6 rfl 2 rfl ?_
  refine X_callS (As := [_]) (rest := [_]) C q1558 q1559 q160 q1560 nm_J17_stringSize rfl dJ10_append_4_7 (m_J17_stringSize (Cx_l C) (d := d - 1) (by omega) st p1 h) (by omega) (by decide) (Nat.le_of_ble_eq_true rfl) (fun s9 w4 hE5 hP6 => ?_) (fun s10 E7 q8 hE5 hP6 => ?_)
  rotate_left
  · exact False.elim hP6
  obtain ⟨r3, rfl, rfl, h⟩ := hP6
  refine X_tls ?_
  refine X_iadd C dJ10_append_4_10 ?_
  refine X_topi (fun v11 e12 => ?_)
  have h := h v11 e12
  refine X_istore C dJ10_append_4_11 (lo2 := [(4, _), (3, _), (0, _), (1, _)]) (by decide) rfl ?_
  refine X_aload_n C dJ10_append_4_13 rfl 2 rfl (isRV_r _) ?_
  refine X_iload C dJ10_append_4_14 0 rfl ?_
  refine X_callU (ci := 10) (q := (RJ11, TJ11, 4)) (owner := "java/lang/AbstractStringBuilder") (As := [_]) (rest := []) C rfl hs_a0 q1000 q2430 (fun _ _ h _ => va_Decl.of (h _ q1002) (h _ q1003)) (fun _ _ _ h => KS_PS h (by simp [gPS])) q1002 q150 q1003 nmF_10 rfl dJ10_append_4_16 (m_J10_ensureCapacityInternal (Cx_l C) hX (d := d - 1) (by omega) st a0 v11 hs_a0 hb_a0 h) (by omega) (by decide) (Nat.le_of_ble_eq_true rfl) (fun s14 w15 hE16 hP17 => ?_) (fun s20 E18 q19 hE16 hP17 => ?_)
  rotate_left
  · exact False.elim hP17
  obtain ⟨rfl, h⟩ := hP17
  refine X_tln ?_
  have hs_a0 := Ext_sh hE16 hs_a0 (by decide)
  refine X_aload_n C dJ10_append_4_19 rfl 2 rfl (isRV_r _) ?_
  refine X_callU (ci := 10) (q := (RJ11, TJ11, 4)) (owner := "java/lang/AbstractStringBuilder") (As := []) (rest := []) C rfl hs_a0 q1033 q1035 (fun _ _ h _ => va_Decl.of (h _ q1034) (h _ q1037)) (fun _ _ h _ => h _ q1036) q1034 q150 q1037 nmF_14 rfl dJ10_append_4_20 (m_J10_isLatin1 (Cx_l C) hX (d := d - 1) (by omega) s14 a0 hs_a0 hb_a0 h) (by omega) (by decide) (Nat.le_of_ble_eq_true rfl) (fun s27 w22 hE23 hP24 => ?_) (fun s28 E25 q26 hE23 hP24 => ?_)
  rotate_left
  · exact False.elim hP24
  obtain ⟨r21, rfl, rfl, h⟩ := hP24
  refine X_tls ?_
  refine X_if_eq (tgt := 40) C dJ10_append_4_23 (by decide) (fun c29 => ?_) (fun c29 => ?_)
  · have h := h.1 c29
    exact h.elim
  · have h := h.2 c29
    refine X_lload_n C dJ10_append_4_26 rfl 3 rfl ?_
    refine X_iload C dJ10_append_4_27 0 rfl ?_
    refine X_aload_n C dJ10_append_4_29 rfl 2 rfl (isRV_r _) ?_
    refine X_get (ci := 10) (j := 0) (q := (RJ11, TJ11, 4)) C rfl (by decide) q980 rfl dJ10_append_4_30 hs_a0 (v := rv θ (sR s14 a0 0)) rfl ?_
    obtain ⟨r34, q35, hb37, hs36, h⟩ := h
    rw [q35]
    refine X_tor ?_
    refine X_callS (As := [_, _, _]) (rest := []) C q1563 q1564 q160 q1565 nm_J17_getChars rfl dJ10_append_4_33 (m_J17_getChars (Cx_l C) (d := d - 1) (by omega) s14 p1 v11 r34 hs36 hb37 h) (by omega) (by decide) (Nat.le_of_ble_eq_true rfl) (fun s39 w40 hE41 hP42 => ?_) (fun s45 E43 q44 hE41 hP42 => ?_)
    rotate_left
    · exact False.elim hP42
    obtain ⟨r38, rfl, h⟩ := hP42
    refine X_tls ?_
    have hs_a0 := Ext_sh hE41 hs_a0 (by decide)
    have hs36 := Ext_sh hE41 hs36 (by decide)
    refine X_pop C dJ10_append_4_36 rfl ?_
    refine X_goto (tgt := 52) C dJ10_append_4_37 (by decide) ?_
    refine X_sub [2, 0] (lo2 := [(0, _), (4, _)]) rfl ?_
    exact t_J10_append_4_b52 hX hd C hn s39 a0 v11 hs_a0 hb_a0 h

theorem nm_J11_append_5 : yJ11_append_5.cls ≠ "java/lang/invoke/MethodHandle" ∧ yJ11_append_5.cls ≠ "java/lang/invoke/VarHandle" ∧ (parseMethodDescriptor yJ11_append_5.desc).map (fun d => d.parameters.length) = some 1 := by decide +kernel
def w_J11_append_5 (st : St) (a0 : Nat) (p1 : Int64) (Φ : St → Nat → Prop) : Prop := w_J10_append_4 st a0 p1 (fun (s2 : St) (r1 : Nat) => Φ s2 a0)
theorem e_J11_append_5 : plainFor yJ11_append_5 = true := plainFor_of_name (by decide +kernel)
theorem m_J11_append_5 {θ : Th} {l : Launch} (hl0 : l.stackTraces = false) (hX : LX θ) {d : Nat} (hd : 5 ≤ d) (st : St) (a0 : Nat) (p1 : Int64) (hs_a0 : sh st a0 = 11) (hb_a0 : a0 < gBIG) {Φ : St → Nat → Prop} (h : w_J11_append_5 st a0 p1 Φ) : Ct θ l yJ11_append_5 (ws_ yJ11_append_5 cJ11_append_5 3 (some (Jvm.ClassFile.FieldType.object "java/lang/StringBuilder"))) d [.ref (ad θ a0), .long p1] st (pN θ 11 Φ, noX) := by
  refine Ct_entry hl0 e_J11_append_5 (Nat.le_of_ble_eq_true rfl) (fun κ hκ _ C => ?_)
  have hn : ∀ st r, r < gBIG → sh st r = 11 → Φ st r → ((pN θ 11 Φ, noX) : Ph).1 st (some (.ref (ad θ r))) := fun st r q1 q2 q => ⟨r, rfl, q1, q2, q⟩
  change X _ _ _ _ _ [(0, .ref (ad θ a0)), (1, .long p1)] _
  unfold w_J11_append_5 at h
  refine X_aload_n C dJ11_append_5_0 rfl 0 rfl (isRV_r _) ?_
  refine X_lload_n C dJ11_append_5_1 rfl 1 rfl ?_
  refine X_callSU (ci := 10) (q := (RJ11, TJ11, 4)) (As := [_]) (rest := []) C rfl hs_a0 q1555 q2438 q992 q1556 q150 q1557 (by decide) nm_J10_append_4 rfl dJ11_append_5_2 (m_J10_append_4 (Cx_l C) hX (d := d - 1) (by omega) st a0 p1 hs_a0 hb_a0 h) (by omega) (by decide) (Nat.le_of_ble_eq_true rfl) (fun s2 w3 hE4 hP5 => ?_) (fun s8 E6 q7 hE4 hP5 => ?_)
  rotate_left
  · exact False.elim hP5
  obtain ⟨r1, rfl, hb9, hs10, h⟩ := hP5
  refine X_tls ?_
  have hs_a0 := Ext_sh hE4 hs_a0 (by decide)
  refine X_pop C dJ11_append_5_5 rfl ?_
  refine X_aload_n C dJ11_append_5_6 rfl 0 rfl (isRV_r _) ?_
  exact X_aret C rfl (Or.inl ⟨_, rfl⟩) (isRV_r _) dJ11_append_5_7 (hn s2 _ hb_a0 hs_a0 h)

theorem nm_J6_init_2 : yJ6_init_2.cls ≠ "java/lang/invoke/MethodHandle" ∧ yJ6_init_2.cls ≠ "java/lang/invoke/VarHandle" ∧ (parseMethodDescriptor yJ6_init_2.desc).map (fun d => d.parameters.length) = some 2 := by decide +kernel
def w_J6_init_2_b79 (Φ : St → Prop) (st : St) (x0 : Nat) (x3 : Nat) (x4 : Int32) : Prop := ∀ s29, s29 = putI st x0 1 1 → w_J14_copyOfRange s29 x3 0 (x4 <<< ((1 : Int32) &&& 31)) (fun (s32 : St) (r31 : Nat) => ∀ s41, s41 = putR s32 x0 0 (some r31) → Φ s41)
theorem t_J6_init_2_b79 {θ : Th} {κ : Kx} {Ph : Ph} (hX : LX θ) {d : Nat} (hd : 3 ≤ d) (C : Cx θ κ yJ6_init_2 cJ6_init_2 5 (none : Option Jvm.ClassFile.FieldType) [] d) {Φ : St → Prop} (hn : ∀ st, Φ st → Ph.1 st none) (st : St) (x0 : Nat) (x3 : Nat) (x4 : Int32) (hs_x0 : sh st x0 = 10) (hb_x0 : x0 < gBIG) (hs_x3 : sh st x3 = 103) (hb_x3 : x3 < gBIG) (h : w_J6_init_2_b79 Φ st x0 x3 x4) : X θ κ Ph st 79 [(0, .ref (ad θ x0)), (3, .ref (ad θ x3)), (4, .int x4)] [] := by
  unfold w_J6_init_2_b79 at h
  refine X_aload_n C dJ6_init_2_79 rfl 0 rfl (isRV_r _) ?_
  refine X_iconst (v := 1) C dJ6_init_2_80 rfl ?_
  refine X_putFI (ci := 9) (j := 1) (q := (RJ6, TJ6, 4)) C rfl rfl (by decide) q1136 rfl rfl rfl dJ6_init_2_81 hb_x0 hs_x0 rfl rfl rfl ?_
  refine X_nm (fun s29 e30 => ?_)
  have h := h s29 e30
  have hs_x0 : sh s29 x0 = 10 := by rw [e30]; exact hs_x0
  have hs_x3 : sh s29 x3 = 103 := by rw [e30]; exact hs_x3
  refine X_aload_n C dJ6_init_2_84 rfl 0 rfl (isRV_r _) ?_
  refine X_aload_n C dJ6_init_2_85 rfl 1 rfl (isRV_r _) ?_
  refine X_iconst (v := 0) C dJ6_init_2_86 rfl ?_
  refine X_iload C dJ6_init_2_87 2 rfl ?_
  refine X_iconst (v := 1) C dJ6_init_2_89 rfl ?_
  refine X_ishl C dJ6_init_2_90 ?_
  refine X_callS (As := [_, _, _]) (rest := [_]) C q1112 q1113 q154 q1114 nm_J14_copyOfRange rfl dJ6_init_2_91 (m_J14_copyOfRange (Cx_l C) hX (d := d - 1) (by omega) s29 x3 0 (x4 <<< ((1 : Int32) &&& 31)) hs_x3 hb_x3 h) (by omega) (by decide) (Nat.le_of_ble_eq_true rfl) (fun s32 w33 hE34 hP35 => ?_) (fun s38 E36 q37 hE34 hP35 => ?_)
  rotate_left
  · exact False.elim hP35
  obtain ⟨r31, rfl, hb39, hs40, h⟩ := hP35
  refine X_tls ?_
  have hs_x0 := Ext_sh hE34 hs_x0 (by decide)
  have hs_x3 := Ext_sh hE34 hs_x3 (by decide)
  refine X_putFR (v := (some r31)) (ci := 9) (j := 0) (q := (RJ6, TJ6, 4)) C hX rfl rfl (by decide) q1135 rfl rfl rfl dJ6_init_2_94 hb_x0 hs_x0 (by decide) (Or.inr ⟨_, rfl⟩) ?_
  refine X_nm (fun s41 e42 => ?_)
  have h := h s41 e42
  have hs_x0 : sh s41 x0 = 10 := by rw [e42]; exact hs_x0
  have hs_x3 : sh s41 x3 = 103 := by rw [e42]; exact hs_x3
  have hs40 : sh s41 r31 = 103 := by rw [e42]; exact hs40
  exact X_vret C rfl dJ6_init_2_97 (hn s41 h)
def w_J6_init_2 (st : St) (a0 : Nat) (p1 : Nat) (p2 : Option Nat) (Φ : St → Prop) : Prop := w_J10_getValue st p1 (fun (r1 : Nat) => w_J11_length st p1 (fun (r11 : Int32) => w_J10_isLatin1 st p1 (fun (r19 : Int32) => ((r19 = 0) → (((sI st p1 2) = 0) → w_J6_init_2_b79 Φ st a0 r1 r11) ∧ ((¬ (sI st p1 2) = 0) → False)) ∧ ((¬ r19 = 0) → ∀ s44, s44 = putI st a0 1 0 → w_J14_copyOfRange s44 r1 0 r11 (fun (s47 : St) (r46 : Nat) => ∀ s56, s56 = putR s47 a0 0 (some r46) → Φ s56)))))
theorem e_J6_init_2 : plainFor yJ6_init_2 = true := plainFor_of_name (by decide +kernel)
theorem m_J6_init_2 {θ : Th} {l : Launch} (hl0 : l.stackTraces = false) (hX : LX θ) {d : Nat} (hd : 3 ≤ d) (st : St) (a0 : Nat) (p1 : Nat) (p2 : Option Nat) (hs_a0 : sh st a0 = 10) (hb_a0 : a0 < gBIG) (hs_p1 : sh st p1 = 11) (hb_p1 : p1 < gBIG) {Φ : St → Prop} (h : w_J6_init_2 st a0 p1 p2 Φ) : Ct θ l yJ6_init_2 (ws_ yJ6_init_2 cJ6_init_2 5 (none : Option Jvm.ClassFile.FieldType)) d [.ref (ad θ a0), .ref (ad θ p1), rv θ p2] st (pV Φ, noX) := by
  refine Ct_entry hl0 e_J6_init_2 (by rcases p2 with _ | p2 <;> exact Nat.le_of_ble_eq_true rfl) (fun κ hκ _ C => ?_)
  have hn : ∀ st, Φ st → ((pV Φ, noX) : Ph).1 st none := fun st q => ⟨rfl, q⟩
  have hlo : lv_args 0 [.ref (ad θ a0), .ref (ad θ p1), rv θ p2] = [(0, .ref (ad θ a0)), (1, .ref (ad θ p1)), (2, rv θ p2)] := by rcases p2 with _ | p2 <;> rfl
  rw [hlo]
  unfold w_J6_init_2 at h
  refine X_aload_n C dJ6_init_2_0 rfl 0 rfl (isRV_r _) ?_
  refine X_objInit C ⟨_, rfl⟩ q1097 q168 q169 (Nat.le_of_ble_eq_true rfl) dJ6_init_2_1 ?_
  refine X_aload_n C dJ6_init_2_4 rfl 1 rfl (isRV_r _) ?_
  refine X_callU (ci := 10) (q := (RJ11, TJ11, 4)) (owner := "java/lang/AbstractStringBuilder") (As := []) (rest := []) C rfl hs_p1 q1098 q1100 (fun _ _ h _ => va_Decl.of (h _ q1099) (h _ q1102)) (fun _ _ h _ => h _ q1101) q1099 q150 q1102 nmF_11 rfl dJ6_init_2_5 (m_J10_getValue (Cx_l C) hX (d := d - 1) (by omega) st p1 hs_p1 hb_p1 h) (by omega) (by decide) (Nat.le_of_ble_eq_true rfl) (fun s7 w2 hE3 hP4 => ?_) (fun s8 E5 q6 hE3 hP4 => ?_)
  rotate_left
  · exact False.elim hP4
  obtain ⟨r1, rfl, rfl, hb9, hs10, h⟩ := hP4
  refine X_tls ?_
  refine X_sub [0, 1] (lo2 := [(0, _), (1, _)]) rfl ?_
  refine X_astore_n C dJ6_init_2_8 rfl (isRV_r _) (lo2 := [(3, _), (0, _), (1, _)]) (by decide) rfl ?_
  refine X_aload_n C dJ6_init_2_9 rfl 2 rfl (isRV_r _) ?_
  refine X_callU (ci := 10) (q := (RJ11, TJ11, 4)) (owner := "java/lang/AbstractStringBuilder") (As := []) (rest := []) C rfl hs_p1 q1103 q1105 (fun _ _ h _ => va_Decl.of (h _ q1104) (h _ q1110)) (fun _ _ h _ => h _ q1106) q1107 q151 q1108 nmF_15 rfl dJ6_init_2_10 (m_J11_length (Cx_l C) hX (d := d - 1) (by omega) st p1 hs_p1 hb_p1 h) (by omega) (by decide) (Nat.le_of_ble_eq_true rfl) (fun s17 w12 hE13 hP14 => ?_) (fun s18 E15 q16 hE13 hP14 => ?_)
  rotate_left
  · exact False.elim hP14
  obtain ⟨r11, rfl, rfl, h⟩ := hP14
  refine X_tls ?_
  refine X_istore C dJ6_init_2_13 (lo2 := [(4, _), (3, _), (0, _), (1, _)]) (by decide) rfl ?_
  refine X_aload_n C dJ6_init_2_15 rfl 3 rfl (isRV_r _) ?_
  refine X_callU (ci := 10) (q := (RJ11, TJ11, 4)) (owner := "java/lang/AbstractStringBuilder") (As := []) (rest := []) C rfl hs_p1 q1111 q1035 (fun _ _ h _ => va_Decl.of (h _ q1034) (h _ q1037)) (fun _ _ h _ => h _ q1036) q1034 q150 q1037 nmF_14 rfl dJ6_init_2_16 (m_J10_isLatin1 (Cx_l C) hX (d := d - 1) (by omega) st p1 hs_p1 hb_p1 h) (by omega) (by decide) (Nat.le_of_ble_eq_true rfl) (fun s25 w20 hE21 hP22 => ?_) (fun s26 E23 q24 hE21 hP22 => ?_)
  rotate_left
  · exact False.elim hP22
  obtain ⟨r19, rfl, rfl, h⟩ := hP22
  refine X_tls ?_
  refine X_if_eq (tgt := 41) C dJ6_init_2_19 (by decide) (fun c27 => ?_) (fun c27 => ?_)
  · have h := h.1 c27
    refine X_getsZ (v := .int 1) C (fun s h => h.2.2.2.2.2.1) q1121 rfl dJ6_init_2_41 ?_
    refine X_if_eq (tgt := 79) C dJ6_init_2_44 (by decide) (fun c43 => ?_) (fun c43 => ?_)
    · exact absurd c43 (by decide)
    · refine X_aload_n C dJ6_init_2_47 rfl 3 rfl (isRV_r _) ?_
      refine X_get (ci := 10) (j := 2) (q := (RJ11, TJ11, 4)) C rfl (by decide) q982 rfl dJ6_init_2_48 hs_p1 (v := .int (sI st p1 2)) rfl ?_
      refine X_if_eq (tgt := 79) C dJ6_init_2_51 (by decide) (fun c28 => ?_) (fun c28 => ?_)
      · have h := h.1 c28
        refine X_sub [2, 1, 0] (lo2 := [(0, _), (3, _), (4, _)]) rfl ?_
        exact t_J6_init_2_b79 hX hd C hn st a0 r1 r11 hs_a0 hb_a0 hs10 hb9 h
      · have h := h.2 c28
        exact h.elim
  · have h := h.2 c27
    refine X_aload_n C dJ6_init_2_22 rfl 2 rfl (isRV_r _) ?_
    refine X_iconst (v := 0) C dJ6_init_2_23 rfl ?_
    refine X_putFI (ci := 9) (j := 1) (q := (RJ6, TJ6, 4)) C rfl rfl (by decide) q1136 rfl rfl rfl dJ6_init_2_24 hb_a0 hs_a0 rfl rfl rfl ?_
    refine X_nm (fun s44 e45 => ?_)
    have h := h s44 e45
    have hs_a0 : sh s44 a0 = 10 := by rw [e45]; exact hs_a0
    have hs_p1 : sh s44 p1 = 11 := by rw [e45]; exact hs_p1
    have hs10 : sh s44 r1 = 103 := by rw [e45]; exact hs10
    refine X_aload_n C dJ6_init_2_27 rfl 2 rfl (isRV_r _) ?_
    refine X_aload_n C dJ6_init_2_28 rfl 1 rfl (isRV_r _) ?_
    refine X_iconst (v := 0) C dJ6_init_2_29 rfl ?_
    refine X_iload C dJ6_init_2_30 0 rfl ?_
    refine X_callS (As := [_, _, _]) (rest := [_]) C q1112 q1113 q154 q1114 nm_J14_copyOfRange rfl dJ6_init_2_32 (m_J14_copyOfRange (Cx_l C) hX (d := d - 1) (by omega) s44 r1 0 r11 hs10 hb9 h) (by omega) (by decide) (Nat.le_of_ble_eq_true rfl) (fun s47 w48 hE49 hP50 => ?_) (fun s53 E51 q52 hE49 hP50 => ?_)
    rotate_left
    · exact False.elim hP50
    obtain ⟨r46, rfl, hb54, hs55, h⟩ := hP50
    refine X_tls ?_
    have hs_a0 := Ext_sh hE49 hs_a0 (by decide)
    have hs_p1 := Ext_sh hE49 hs_p1 (by decide)
    have hs10 := Ext_sh hE49 hs10 (by decide)
    refine X_putFR (v := (some r46)) (ci := 9) (j := 0) (q := (RJ6, TJ6, 4)) C hX rfl rfl (by decide) q1135 rfl rfl rfl dJ6_init_2_35 hb_a0 hs_a0 (by decide) (Or.inr ⟨_, rfl⟩) ?_
    refine X_nm (fun s56 e57 => ?_)
    have h := h s56 e57
    have hs_a0 : sh s56 a0 = 10 := by rw [e57]; exact hs_a0
    have hs_p1 : sh s56 p1 = 11 := by rw [e57]; exact hs_p1
    have hs10 : sh s56 r1 = 103 := by rw [e57]; exact hs10
    have hs55 : sh s56 r46 = 103 := by rw [e57]; exact hs55
    refine X_goto (tgt := 97) C dJ6_init_2_38 (by decide) ?_
    exact X_vret C rfl dJ6_init_2_97 (hn s56 h)

theorem nm_J6_init : yJ6_init.cls ≠ "java/lang/invoke/MethodHandle" ∧ yJ6_init.cls ≠ "java/lang/invoke/VarHandle" ∧ (parseMethodDescriptor yJ6_init.desc).map (fun d => d.parameters.length) = some 1 := by decide +kernel
def w_J6_init (st : St) (a0 : Nat) (p1 : Nat) (Φ : St → Prop) : Prop := w_J6_init_2 st a0 p1 none (fun (s2 : St) => Φ s2)
theorem e_J6_init : plainFor yJ6_init = true := plainFor_of_name (by decide +kernel)
theorem m_J6_init {θ : Th} {l : Launch} (hl0 : l.stackTraces = false) (hX : LX θ) {d : Nat} (hd : 4 ≤ d) (st : St) (a0 : Nat) (p1 : Nat) (hs_a0 : sh st a0 = 10) (hb_a0 : a0 < gBIG) (hs_p1 : sh st p1 = 11) (hb_p1 : p1 < gBIG) {Φ : St → Prop} (h : w_J6_init st a0 p1 Φ) : Ct θ l yJ6_init (ws_ yJ6_init cJ6_init 2 (none : Option Jvm.ClassFile.FieldType)) d [.ref (ad θ a0), .ref (ad θ p1)] st (pV Φ, noX) := by
  refine Ct_entry hl0 e_J6_init (Nat.le_of_ble_eq_true rfl) (fun κ hκ _ C => ?_)
  have hn : ∀ st, Φ st → ((pV Φ, noX) : Ph).1 st none := fun st q => ⟨rfl, q⟩
  change X _ _ _ _ _ [(0, .ref (ad θ a0)), (1, .ref (ad θ p1))] _
  unfold w_J6_init at h
  refine X_aload_n C dJ6_init_0 rfl 0 rfl (isRV_r _) ?_
  refine X_aload_n C dJ6_init_1 rfl 1 rfl (isRV_r _) ?_
  refine X_null C dJ6_init_2 ?_
  refine X_callI (As := [_, _]) (rest := []) C q1094 q1095 q144 q1096 rfl nm_J6_init_2 rfl dJ6_init_3 (m_J6_init_2 (Cx_l C) hX (d := d - 1) (by omega) st a0 p1 none hs_a0 hb_a0 hs_p1 hb_p1 h) (by omega) (by decide) (Nat.le_of_ble_eq_true rfl) (fun s2 w3 hE4 hP5 => ?_) (fun s8 E6 q7 hE4 hP5 => ?_)
  rotate_left
  · exact False.elim hP5
  obtain ⟨rfl, h⟩ := hP5
  refine X_tln ?_
  have hs_a0 := Ext_sh hE4 hs_a0 (by decide)
  have hs_p1 := Ext_sh hE4 hs_p1 (by decide)
  exact X_vret C rfl dJ6_init_6 (hn s2 h)

theorem nm_J11_toString : yJ11_toString.cls ≠ "java/lang/invoke/MethodHandle" ∧ yJ11_toString.cls ≠ "java/lang/invoke/VarHandle" ∧ (parseMethodDescriptor yJ11_toString.desc).map (fun d => d.parameters.length) = some 0 := by decide +kernel
def w_J11_toString (st : St) (a0 : Nat) (Φ : St → Nat → Prop) : Prop := sN st + 1 ≤ gCAP ∧ sS st + 4 ≤ gCAPS ∧ ∀ s3, s3 = mk st 10 4 → w_J6_init s3 (sN st) a0 (fun (s9 : St) => Φ s9 (sN st))
theorem e_J11_toString : plainFor yJ11_toString = true := plainFor_of_name (by decide +kernel)
theorem m_J11_toString {θ : Th} {l : Launch} (hl0 : l.stackTraces = false) (hX : LX θ) {d : Nat} (hd : 5 ≤ d) (st : St) (a0 : Nat) (hs_a0 : sh st a0 = 11) (hb_a0 : a0 < gBIG) {Φ : St → Nat → Prop} (h : w_J11_toString st a0 Φ) : Ct θ l yJ11_toString (ws_ yJ11_toString cJ11_toString 1 (some (Jvm.ClassFile.FieldType.object "java/lang/String"))) d [.ref (ad θ a0)] st (pN θ 10 Φ, noX) := by
  refine Ct_entry hl0 e_J11_toString (Nat.le_of_ble_eq_true rfl) (fun κ hκ _ C => ?_)
  have hn : ∀ st r, r < gBIG → sh st r = 10 → Φ st r → ((pN θ 10 Φ, noX) : Ph).1 st (some (.ref (ad θ r))) := fun st r q1 q2 q => ⟨r, rfl, q1, q2, q⟩
  change X _ _ _ _ _ [(0, .ref (ad θ a0))] _
  unfold w_J11_toString at h
  have g1 := h.1
  have h := h.2
  have g2 := h.1
  have h := h.2
  refine X_new (ci := 9) (q := (RJ6, TJ6, 4)) C rfl q1090 q602 q144 g1 g2 dJ11_toString_0 (fun hE5 => ?_)
  refine X_nm (fun s3 e4 => ?_)
  have h := h s3 e4
  rw [← e4] at hE5
  have hs_a0 := Ext_sh hE5 hs_a0 (by decide)
  have hs6 : sh s3 (sN st) = 10 := by rw [e4]; exact sh_mk
  have hb7 := nb_N g1
  refine X_dup C dJ11_toString_3 rfl ?_
  refine X_aload_n C dJ11_toString_4 rfl 0 rfl (isRV_r _) ?_
  refine X_callI (As := [_]) (rest := [_]) C q1091 q1092 q144 q1093 rfl nm_J6_init rfl dJ11_toString_5 (m_J6_init (Cx_l C) hX (d := d - 1) (by omega) s3 (sN st) a0 hs6 hb7 hs_a0 hb_a0 h) (by omega) (by decide) (Nat.le_of_ble_eq_true rfl) (fun s9 w10 hE11 hP12 => ?_) (fun s15 E13 q14 hE11 hP12 => ?_)
  rotate_left
  · exact False.elim hP12
  obtain ⟨rfl, h⟩ := hP12
  refine X_tln ?_
  have hs_a0 := Ext_sh hE11 hs_a0 (by decide)
  have hs6 := Ext_sh hE11 hs6 (by decide)
  exact X_aret C rfl (Or.inl ⟨_, rfl⟩) (isRV_r _) dJ11_toString_8 (hn s9 _ hb7 hs6 h)

theorem nm_J6_valueOf : yJ6_valueOf.cls ≠ "java/lang/invoke/MethodHandle" ∧ yJ6_valueOf.cls ≠ "java/lang/invoke/VarHandle" ∧ (parseMethodDescriptor yJ6_valueOf.desc).map (fun d => d.parameters.length) = some 1 := by decide +kernel
def w_J6_valueOf (st : St) (p1 : Nat) (Φ : St → Nat → Prop) : Prop := w_J11_toString st p1 (fun (s3 : St) (r2 : Nat) => Φ s3 r2)
theorem e_J6_valueOf : plainFor yJ6_valueOf = true := plainFor_of_name (by decide +kernel)
theorem m_J6_valueOf {θ : Th} {l : Launch} (hl0 : l.stackTraces = false) (hX : LX θ) {d : Nat} (hd : 6 ≤ d) (st : St) (p1 : Nat) (hs_p1 : sh st p1 = 11) (hb_p1 : p1 < gBIG) {Φ : St → Nat → Prop} (h : w_J6_valueOf st p1 Φ) : Ct θ l yJ6_valueOf (ws_ yJ6_valueOf cJ6_valueOf 1 (some (Jvm.ClassFile.FieldType.object "java/lang/String"))) d [.ref (ad θ p1)] st (pN θ 10 Φ, noX) := by
  refine Ct_entry hl0 e_J6_valueOf (Nat.le_of_ble_eq_true rfl) (fun κ hκ _ C => ?_)
  have hn : ∀ st r, r < gBIG → sh st r = 10 → Φ st r → ((pN θ 10 Φ, noX) : Ph).1 st (some (.ref (ad θ r))) := fun st r q1 q2 q => ⟨r, rfl, q1, q2, q⟩
  change X _ _ _ _ _ [(0, .ref (ad θ p1))] _
  unfold w_J6_valueOf at h
  refine X_aload_n C dJ6_valueOf_0 rfl 0 rfl (isRV_r _) ?_
  refine X_ifnonnull (tgt := 10) C (isRV_r _) dJ6_valueOf_1 (by decide) (fun c1 => ?_) (fun c1 => ?_)
  · refine X_aload_n C dJ6_valueOf_10 rfl 0 rfl (isRV_r _) ?_
    refine X_callU (ci := 10) (q := (RJ11, TJ11, 4)) (owner := "java/lang/Object") (As := []) (rest := []) C rfl hs_p1 q1471 q1473 (fun _ _ _ h => va_Decl.abs (h.1 _ q1470 rfl)) (fun _ _ h _ => h _ q1538) q1087 q151 q1089 nmF_22 rfl dJ6_valueOf_11 (m_J11_toString (Cx_l C) hX (d := d - 1) (by omega) st p1 hs_p1 hb_p1 h) (by omega) (by decide) (Nat.le_of_ble_eq_true rfl) (fun s3 w4 hE5 hP6 => ?_) (fun s9 E7 q8 hE5 hP6 => ?_)
    rotate_left
    · exact False.elim hP6
    obtain ⟨r2, rfl, hb10, hs11, h⟩ := hP6
    refine X_tls ?_
    have hs_p1 := Ext_sh hE5 hs_p1 (by decide)
    exact X_aret C rfl (Or.inl ⟨_, rfl⟩) (isRV_r _) dJ6_valueOf_14 (hn s3 _ hb10 hs11 h)
  · exact absurd c1 (fun q => by cases q)

theorem nm_J11_append_4 : yJ11_append_4.cls ≠ "java/lang/invoke/MethodHandle" ∧ yJ11_append_4.cls ≠ "java/lang/invoke/VarHandle" ∧ (parseMethodDescriptor yJ11_append_4.desc).map (fun d => d.parameters.length) = some 1 := by decide +kernel
def w_J11_append_4 (st : St) (a0 : Nat) (p1 : Nat) (Φ : St → Nat → Prop) : Prop := w_J6_valueOf st p1 (fun (s2 : St) (r1 : Nat) => w_J11_append_2 s2 a0 r1 (fun (s12 : St) (r11 : Nat) => Φ s12 r11))
theorem e_J11_append_4 : plainFor yJ11_append_4 = true := plainFor_of_name (by decide +kernel)
theorem m_J11_append_4 {θ : Th} {l : Launch} (hl0 : l.stackTraces = false) (hX : LX θ) {d : Nat} (hd : 7 ≤ d) (st : St) (a0 : Nat) (p1 : Nat) (hs_a0 : sh st a0 = 11) (hb_a0 : a0 < gBIG) (hs_p1 : sh st p1 = 11) (hb_p1 : p1 < gBIG) {Φ : St → Nat → Prop} (h : w_J11_append_4 st a0 p1 Φ) : Ct θ l yJ11_append_4 (ws_ yJ11_append_4 cJ11_append_4 2 (some (Jvm.ClassFile.FieldType.object "java/lang/StringBuilder"))) d [.ref (ad θ a0), .ref (ad θ p1)] st (pN θ 11 Φ, noX) := by
  refine Ct_entry hl0 e_J11_append_4 (Nat.le_of_ble_eq_true rfl) (fun κ hκ _ C => ?_)
  have hn : ∀ st r, r < gBIG → sh st r = 11 → Φ st r → ((pN θ 11 Φ, noX) : Ph).1 st (some (.ref (ad θ r))) := fun st r q1 q2 q => ⟨r, rfl, q1, q2, q⟩
  change X _ _ _ _ _ [(0, .ref (ad θ a0)), (1, .ref (ad θ p1))] _
  unfold w_J11_append_4 at h
  refine X_aload_n C dJ11_append_4_0 rfl 0 rfl (isRV_r _) ?_
  refine X_aload_n C dJ11_append_4_1 rfl 1 rfl (isRV_r _) ?_
  refine X_callS (As := [_]) (rest := [_]) C q1466 q1467 q144 q1468 nm_J6_valueOf rfl dJ11_append_4_2 (m_J6_valueOf (Cx_l C) hX (d := d - 1) (by omega) st p1 hs_p1 hb_p1 h) (by omega) (by decide) (Nat.le_of_ble_eq_true rfl) (fun s2 w3 hE4 hP5 => ?_) (fun s8 E6 q7 hE4 hP5 => ?_)
  rotate_left
  · exact False.elim hP5
  obtain ⟨r1, rfl, hb9, hs10, h⟩ := hP5
  refine X_tls ?_
  have hs_a0 := Ext_sh hE4 hs_a0 (by decide)
  have hs_p1 := Ext_sh hE4 hs_p1 (by decide)
  refine X_callV (ci := 10) (q := (RJ11, TJ11, 4)) (As := [_]) (rest := []) C rfl hs_a0 q1540 q1357 q1358 q151 q1359 ⟨rfl, nm_J11_append_2⟩ rfl dJ11_append_4_5 (m_J11_append_2 (Cx_l C) hX (d := d - 1) (by omega) s2 a0 r1 hs_a0 hb_a0 hs10 h) (by omega) (by decide) (Nat.le_of_ble_eq_true rfl) (fun s12 w13 hE14 hP15 => ?_) (fun s18 E16 q17 hE14 hP15 => ?_)
  rotate_left
  · exact False.elim hP15
  obtain ⟨r11, rfl, hb19, hs20, h⟩ := hP15
  refine X_tls ?_
  have hs_a0 := Ext_sh hE14 hs_a0 (by decide)
  have hs_p1 := Ext_sh hE14 hs_p1 (by decide)
  have hs10 := Ext_sh hE14 hs10 (by decide)
  exact X_aret C rfl (Or.inl ⟨_, rfl⟩) (isRV_r _) dJ11_append_4_8 (hn s12 _ hb19 hs20 h)
