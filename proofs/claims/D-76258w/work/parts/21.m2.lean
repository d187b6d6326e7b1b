set_option maxRecDepth 100000
def w_X4_isIn (p1 : Int64) (p2 : Int64) (p3 : Int64) (Φ : Int32 → Prop) : Prop := ((p1 < p2) → Φ 0) ∧ ((¬ p1 < p2) → ((p3 < p1) → Φ 0) ∧ ((¬ p3 < p1) → Φ 1))
theorem nm_X4_isIn : yX4_isIn.cls ≠ "java/lang/invoke/MethodHandle" ∧ yX4_isIn.cls ≠ "java/lang/invoke/VarHandle" ∧ (parseMethodDescriptor yX4_isIn.desc).map (fun d => d.parameters.length) = some 3 := by decide +kernel
theorem e_X4_isIn : plainFor yX4_isIn = true := plainFor_of_name (by decide +kernel)
theorem m_X4_isIn {θ : Th} {l : Launch} (hl0 : l.stackTraces = false) (hX : LX θ) {d : Nat} (hd : 0 ≤ d) (st0 : St) (p1 : Int64) (p2 : Int64) (p3 : Int64) {Φ : Int32 → Prop} (h : w_X4_isIn p1 p2 p3 Φ) : Ct θ l yX4_isIn (ws_ yX4_isIn cX4_isIn 6 (some Jvm.ClassFile.FieldType.boolean)) d [.long p1, .long p2, .long p3] st0 (rI st0 Φ, noX) := by
  refine Ct_entry hl0 e_X4_isIn (Nat.le_of_ble_eq_true rfl) (fun κ hκ _ C => ?_)
  have hn : ∀ r, Φ r → ((rI st0 Φ, noX) : Ph).1 st0 (some (.int r)) := fun r q => ⟨r, rfl, rfl, q⟩
  change X _ _ _ _ _ [(0, .long p1), (2, .long p2), (4, .long p3)] _
  unfold w_X4_isIn at h
  refine X_lload_n C dX4_isIn_0 rfl 0 rfl ?_
  refine X_lload_n C dX4_isIn_1 rfl 1 rfl ?_
  refine X_lcmp_lt (tgt := 17) C dX4_isIn_2 dX4_isIn_3 (by decide) (fun c1 => ?_) (fun c1 => ?_)
  · have h := h.1 c1
    refine X_iconst (v := 0) C dX4_isIn_17 rfl ?_
    exact X_zret C rfl rfl dX4_isIn_18 (hn _ h)
  · have h := h.2 c1
    refine X_lload_n C dX4_isIn_6 rfl 0 rfl ?_
    refine X_lload C dX4_isIn_7 2 rfl ?_
    refine X_lcmp_gt (tgt := 17) C dX4_isIn_9 dX4_isIn_10 (by decide) (fun c2 => ?_) (fun c2 => ?_)
    · have h := h.1 c2
      refine X_iconst (v := 0) C dX4_isIn_17 rfl ?_
      exact X_zret C rfl rfl dX4_isIn_18 (hn _ h)
    · have h := h.2 c2
      refine X_iconst (v := 1) C dX4_isIn_13 rfl ?_
      refine X_goto (tgt := 18) C dX4_isIn_14 (by decide) ?_
      exact X_zret C rfl rfl dX4_isIn_18 (hn _ h)

def w_X4_finds (st : St) (p1 : Int32) (Φ : St → Int32 → Prop) : Prop := vp_in p1 9 ∧ ∀ s2, s2 = putI st 176 (p1.toNatClampNeg) ((sI st 176 p1.toNatClampNeg) + 1) → Φ s2 ((-1000000000) - p1)
theorem nm_X4_finds : yX4_finds.cls ≠ "java/lang/invoke/MethodHandle" ∧ yX4_finds.cls ≠ "java/lang/invoke/VarHandle" ∧ (parseMethodDescriptor yX4_finds.desc).map (fun d => d.parameters.length) = some 1 := by decide +kernel
theorem e_X4_finds : plainFor yX4_finds = true := plainFor_of_name (by decide +kernel)
theorem m_X4_finds {θ : Th} {l : Launch} (hl0 : l.stackTraces = false) (hX : LX θ) {d : Nat} (hd : 0 ≤ d) (st : St) (p1 : Int32) {Φ : St → Int32 → Prop} (h : w_X4_finds st p1 Φ) : Ct θ l yX4_finds (ws_ yX4_finds cX4_finds 2 (some Jvm.ClassFile.FieldType.int)) d [.ref (ad θ 175), .int p1] st (pI Φ, noX) := by
  refine Ct_entry hl0 e_X4_finds (Nat.le_of_ble_eq_true rfl) (fun κ hκ _ C => ?_)
  have hn : ∀ st r, Φ st r → ((pI Φ, noX) : Ph).1 st (some (.int r)) := fun st r q => ⟨r, rfl, q⟩
  change X _ _ _ _ _ [(0, .ref (ad θ 175)), (1, .int p1)] _
  unfold w_X4_finds at h
  refine X_aload_n C dX4_finds_0 rfl 0 rfl (isRV_r _) ?_
  refine X_getF (ci := 4) (j := 0) (q := (RX4, TX4, 54)) C rfl (by decide) q1766 rfl dX4_finds_1 (b := 176) (LX_S hX (k := 175) rfl) (LX_F hX (k := 175) (j := 0) rfl) rfl ?_
  refine X_iload_n C dX4_finds_4 rfl 1 rfl ?_
  refine X_dup2 C dX4_finds_5 rfl rfl ?_
  have g1 := h.1
  have h := h.2
  refine X_ialdS C (LX_S hX (k := 176) rfl) (LX_L hX (k := 176) rfl) g1 rfl dX4_finds_6 ?_
  refine X_iconst (v := 1) C dX4_finds_7 rfl ?_
  refine X_iadd C dX4_finds_8 ?_
  refine X_iastS C (LX_S hX (k := 176) rfl) (LX_L hX (k := 176) rfl) g1 rfl dX4_finds_9 ?_
  refine X_nm (fun s2 e3 => ?_)
  have h := h s2 e3
  refine X_ldc C q1943 dX4_finds_10 ?_
  refine X_iload_n C dX4_finds_12 rfl 1 rfl ?_
  refine X_isub C dX4_finds_13 ?_
  exact X_iret C rfl dX4_finds_14 (hn s2 _ h)

def w_X4_anew (st : St) (Φ : St → Prop) : Prop := ∀ s1, s1 = putI st 177 31 0 → ∀ s3, s3 = putI s1 177 35 0 → ∀ s5, s5 = putI s3 175 5 0 → Φ s5
theorem nm_X4_anew : yX4_anew.cls ≠ "java/lang/invoke/MethodHandle" ∧ yX4_anew.cls ≠ "java/lang/invoke/VarHandle" ∧ (parseMethodDescriptor yX4_anew.desc).map (fun d => d.parameters.length) = some 0 := by decide +kernel
theorem e_X4_anew : plainFor yX4_anew = true := plainFor_of_name (by decide +kernel)
theorem m_X4_anew {θ : Th} {l : Launch} (hl0 : l.stackTraces = false) (hX : LX θ) {d : Nat} (hd : 0 ≤ d) (st : St) {Φ : St → Prop} (h : w_X4_anew st Φ) : Ct θ l yX4_anew (ws_ yX4_anew cX4_anew 1 (none : Option Jvm.ClassFile.FieldType)) d [.ref (ad θ 175)] st (pV Φ, noX) := by
  refine Ct_entry hl0 e_X4_anew (Nat.le_of_ble_eq_true rfl) (fun κ hκ _ C => ?_)
  have hn : ∀ st, Φ st → ((pV Φ, noX) : Ph).1 st none := fun st q => ⟨rfl, q⟩
  change X _ _ _ _ _ [(0, .ref (ad θ 175))] _
  unfold w_X4_anew at h
  refine X_aload_n C dX4_anew_0 rfl 0 rfl (isRV_r _) ?_
  refine X_getF (ci := 4) (j := 1) (q := (RX4, TX4, 54)) C rfl (by decide) q1767 rfl dX4_anew_1 (b := 177) (LX_S hX (k := 175) rfl) (LX_F hX (k := 175) (j := 1) rfl) rfl ?_
  refine X_bipush (v := 31) C dX4_anew_4 rfl ?_
  refine X_iconst (v := 0) C dX4_anew_6 rfl ?_
  refine X_iastS C (LX_S hX (k := 177) rfl) (LX_L hX (k := 177) rfl) (vp_dec rfl) rfl dX4_anew_7 ?_
  refine X_nm (fun s1 e2 => ?_)
  have h := h s1 e2
  refine X_aload_n C dX4_anew_8 rfl 0 rfl (isRV_r _) ?_
  refine X_getF (ci := 4) (j := 1) (q := (RX4, TX4, 54)) C rfl (by decide) q1767 rfl dX4_anew_9 (b := 177) (LX_S hX (k := 175) rfl) (LX_F hX (k := 175) (j := 1) rfl) rfl ?_
  refine X_bipush (v := 35) C dX4_anew_12 rfl ?_
  refine X_iconst (v := 0) C dX4_anew_14 rfl ?_
  refine X_iastS C (LX_S hX (k := 177) rfl) (LX_L hX (k := 177) rfl) (vp_dec rfl) rfl dX4_anew_15 ?_
  refine X_nm (fun s3 e4 => ?_)
  have h := h s3 e4
  refine X_aload_n C dX4_anew_16 rfl 0 rfl (isRV_r _) ?_
  refine X_iconst (v := 0) C dX4_anew_17 rfl ?_
  refine X_putSI (ci := 4) (j := 5) (q := (RX4, TX4, 54)) C rfl (by decide) q1771 rfl rfl dX4_anew_18 (LX_S hX (k := 175) rfl) rfl rfl rfl ?_
  refine X_nm (fun s5 e6 => ?_)
  have h := h s5 e6
  exact X_vret C rfl dX4_anew_21 (hn s5 h)

def w_X4_states (st : St) (p1 : Int32) (Φ : St → Int32 → Prop) : Prop := w_X4_isIn p1.toInt64 2 3 (fun (r1 : Int32) => ((r1 ≠ 0) → ∀ v10 : Int32, v10 = (sI st 177 0) → ∀ s12, s12 = putI st 177 0 p1 → w_X4_anew s12 (fun (s15 : St) => Φ s15 v10)) ∧ ((r1 = 0) → w_X4_finds st 1 (fun (s23 : St) (r22 : Int32) => Φ s23 r22)))
theorem nm_X4_states : yX4_states.cls ≠ "java/lang/invoke/MethodHandle" ∧ yX4_states.cls ≠ "java/lang/invoke/VarHandle" ∧ (parseMethodDescriptor yX4_states.desc).map (fun d => d.parameters.length) = some 1 := by decide +kernel
theorem e_X4_states : plainFor yX4_states = true := plainFor_of_name (by decide +kernel)
theorem m_X4_states {θ : Th} {l : Launch} (hl0 : l.stackTraces = false) (hX : LX θ) {d : Nat} (hd : 1 ≤ d) (st : St) (p1 : Int32) {Φ : St → Int32 → Prop} (h : w_X4_states st p1 Φ) : Ct θ l yX4_states (ws_ yX4_states cX4_states 3 (some Jvm.ClassFile.FieldType.int)) d [.ref (ad θ 175), .int p1] st (pI Φ, noX) := by
  refine Ct_entry hl0 e_X4_states (Nat.le_of_ble_eq_true rfl) (fun κ hκ _ C => ?_)
  have hn : ∀ st r, Φ st r → ((pI Φ, noX) : Ph).1 st (some (.int r)) := fun st r q => ⟨r, rfl, q⟩
  change X _ _ _ _ _ [(0, .ref (ad θ 175)), (1, .int p1)] _
  unfold w_X4_states at h
  refine X_iload_n C dX4_states_0 rfl 1 rfl ?_
  refine X_i2l C dX4_states_1 ?_
  refine X_ldc2 C q1934 dX4_states_2 ?_
  refine X_ldc2 C q1935 dX4_states_5 ?_
  refine X_callS (As := [_, _, _]) (rest := []) C q1936 q1937 q136 q1938 nm_X4_isIn rfl dX4_states_8 (m_X4_isIn (Cx_l C) hX (d := d - 1) (by omega) st p1.toInt64 2 3 h) (by omega) (by decide) (Nat.le_of_ble_eq_true rfl) (fun s7 w2 hE3 hP4 => ?_) (fun s8 E5 q6 hE3 hP4 => ?_)
  rotate_left
  · exact False.elim hP4
  obtain ⟨r1, rfl, rfl, h⟩ := hP4
  refine X_tls ?_
  refine X_if_ne (tgt := 20) C dX4_states_11 (by decide) (fun c9 => ?_) (fun c9 => ?_)
  · have h := h.1 c9
    refine X_aload_n C dX4_states_20 rfl 0 rfl (isRV_r _) ?_
    refine X_getF (ci := 4) (j := 1) (q := (RX4, TX4, 54)) C rfl (by decide) q1767 rfl dX4_states_21 (b := 177) (LX_S hX (k := 175) rfl) (LX_F hX (k := 175) (j := 1) rfl) rfl ?_
    refine X_iconst (v := 0) C dX4_states_24 rfl ?_
    refine X_ialdS C (LX_S hX (k := 177) rfl) (LX_L hX (k := 177) rfl) (vp_dec rfl) rfl dX4_states_25 ?_
    refine X_topi (fun v10 e11 => ?_)
    have h := h v10 e11
    refine X_istore_n C dX4_states_26 rfl (lo2 := [(2, _), (0, _), (1, _)]) (by decide) rfl ?_
    refine X_aload_n C dX4_states_27 rfl 1 rfl (isRV_r _) ?_
    refine X_getF (ci := 4) (j := 1) (q := (RX4, TX4, 54)) C rfl (by decide) q1767 rfl dX4_states_28 (b := 177) (LX_S hX (k := 175) rfl) (LX_F hX (k := 175) (j := 1) rfl) rfl ?_
    refine X_iconst (v := 0) C dX4_states_31 rfl ?_
    refine X_iload_n C dX4_states_32 rfl 2 rfl ?_
    refine X_iastS C (LX_S hX (k := 177) rfl) (LX_L hX (k := 177) rfl) (vp_dec rfl) rfl dX4_states_33 ?_
    refine X_nm (fun s12 e13 => ?_)
    have h := h s12 e13
    refine X_aload_n C dX4_states_34 rfl 1 rfl (isRV_r _) ?_
    refine X_callVS (ci := 4) (q := (RX4, TX4, 54)) (As := []) (rest := []) C rfl (LX_S hX (k := 175) rfl) q1944 q1946 qs64 q136 q1947 ⟨rfl, nm_X4_anew⟩ rfl dX4_states_35 (m_X4_anew (Cx_l C) hX (d := d - 1) (by omega) s12 h) (by omega) (by decide) (Nat.le_of_ble_eq_true rfl) (fun s15 w16 hE17 hP18 => ?_) (fun s21 E19 q20 hE17 hP18 => ?_)
    rotate_left
    · exact False.elim hP18
    obtain ⟨rfl, h⟩ := hP18
    refine X_tln ?_
    refine X_iload_n C dX4_states_38 rfl 0 rfl ?_
    exact X_iret C rfl dX4_states_39 (hn s15 _ h)
  · have h := h.2 c9
    refine X_aload_n C dX4_states_14 rfl 0 rfl (isRV_r _) ?_
    refine X_iconst (v := 1) C dX4_states_15 rfl ?_
    refine X_callVS (ci := 4) (q := (RX4, TX4, 54)) (As := [_]) (rest := []) C rfl (LX_S hX (k := 175) rfl) q1939 q1941 qs63 q136 q1942 ⟨rfl, nm_X4_finds⟩ rfl dX4_states_16 (m_X4_finds (Cx_l C) hX (d := d - 1) (by omega) st 1 h) (by omega) (by decide) (Nat.le_of_ble_eq_true rfl) (fun s23 w24 hE25 hP26 => ?_) (fun s29 E27 q28 hE25 hP26 => ?_)
    rotate_left
    · exact False.elim hP26
    obtain ⟨r22, rfl, h⟩ := hP26
    refine X_tls ?_
    exact X_iret C rfl dX4_states_19 (hn s23 _ h)

def w_X4_parts (st : St) (p1 : Int32) (Φ : St → Int32 → Prop) : Prop := w_X4_isIn p1.toInt64 1 4 (fun (r1 : Int32) => ((r1 ≠ 0) → ∀ v10 : Int32, v10 = (sI st 177 1) → ∀ s12, s12 = putI st 177 1 p1 → w_X4_anew s12 (fun (s15 : St) => Φ s15 v10)) ∧ ((r1 = 0) → w_X4_finds st 1 (fun (s23 : St) (r22 : Int32) => Φ s23 r22)))
theorem nm_X4_parts : yX4_parts.cls ≠ "java/lang/invoke/MethodHandle" ∧ yX4_parts.cls ≠ "java/lang/invoke/VarHandle" ∧ (parseMethodDescriptor yX4_parts.desc).map (fun d => d.parameters.length) = some 1 := by decide +kernel
theorem e_X4_parts : plainFor yX4_parts = true := plainFor_of_name (by decide +kernel)
theorem m_X4_parts {θ : Th} {l : Launch} (hl0 : l.stackTraces = false) (hX : LX θ) {d : Nat} (hd : 1 ≤ d) (st : St) (p1 : Int32) {Φ : St → Int32 → Prop} (h : w_X4_parts st p1 Φ) : Ct θ l yX4_parts (ws_ yX4_parts cX4_parts 3 (some Jvm.ClassFile.FieldType.int)) d [.ref (ad θ 175), .int p1] st (pI Φ, noX) := by
  refine Ct_entry hl0 e_X4_parts (Nat.le_of_ble_eq_true rfl) (fun κ hκ _ C => ?_)
  have hn : ∀ st r, Φ st r → ((pI Φ, noX) : Ph).1 st (some (.int r)) := fun st r q => ⟨r, rfl, q⟩
  change X _ _ _ _ _ [(0, .ref (ad θ 175)), (1, .int p1)] _
  unfold w_X4_parts at h
  refine X_iload_n C dX4_parts_0 rfl 1 rfl ?_
  refine X_i2l C dX4_parts_1 ?_
  refine X_lconst (v := 1) C dX4_parts_2 rfl ?_
  refine X_ldc2 C q1952 dX4_parts_3 ?_
  refine X_callS (As := [_, _, _]) (rest := []) C q1936 q1937 q136 q1938 nm_X4_isIn rfl dX4_parts_6 (m_X4_isIn (Cx_l C) hX (d := d - 1) (by omega) st p1.toInt64 1 4 h) (by omega) (by decide) (Nat.le_of_ble_eq_true rfl) (fun s7 w2 hE3 hP4 => ?_) (fun s8 E5 q6 hE3 hP4 => ?_)
  rotate_left
  · exact False.elim hP4
  obtain ⟨r1, rfl, rfl, h⟩ := hP4
  refine X_tls ?_
  refine X_if_ne (tgt := 18) C dX4_parts_9 (by decide) (fun c9 => ?_) (fun c9 => ?_)
  · have h := h.1 c9
    refine X_aload_n C dX4_parts_18 rfl 0 rfl (isRV_r _) ?_
    refine X_getF (ci := 4) (j := 1) (q := (RX4, TX4, 54)) C rfl (by decide) q1767 rfl dX4_parts_19 (b := 177) (LX_S hX (k := 175) rfl) (LX_F hX (k := 175) (j := 1) rfl) rfl ?_
    refine X_iconst (v := 1) C dX4_parts_22 rfl ?_
    refine X_ialdS C (LX_S hX (k := 177) rfl) (LX_L hX (k := 177) rfl) (vp_dec rfl) rfl dX4_parts_23 ?_
    refine X_topi (fun v10 e11 => ?_)
    have h := h v10 e11
    refine X_istore_n C dX4_parts_24 rfl (lo2 := [(2, _), (0, _), (1, _)]) (by decide) rfl ?_
    refine X_aload_n C dX4_parts_25 rfl 1 rfl (isRV_r _) ?_
    refine X_getF (ci := 4) (j := 1) (q := (RX4, TX4, 54)) C rfl (by decide) q1767 rfl dX4_parts_26 (b := 177) (LX_S hX (k := 175) rfl) (LX_F hX (k := 175) (j := 1) rfl) rfl ?_
    refine X_iconst (v := 1) C dX4_parts_29 rfl ?_
    refine X_iload_n C dX4_parts_30 rfl 2 rfl ?_
    refine X_iastS C (LX_S hX (k := 177) rfl) (LX_L hX (k := 177) rfl) (vp_dec rfl) rfl dX4_parts_31 ?_
    refine X_nm (fun s12 e13 => ?_)
    have h := h s12 e13
    refine X_aload_n C dX4_parts_32 rfl 1 rfl (isRV_r _) ?_
    refine X_callVS (ci := 4) (q := (RX4, TX4, 54)) (As := []) (rest := []) C rfl (LX_S hX (k := 175) rfl) q1944 q1946 qs64 q136 q1947 ⟨rfl, nm_X4_anew⟩ rfl dX4_parts_33 (m_X4_anew (Cx_l C) hX (d := d - 1) (by omega) s12 h) (by omega) (by decide) (Nat.le_of_ble_eq_true rfl) (fun s15 w16 hE17 hP18 => ?_) (fun s21 E19 q20 hE17 hP18 => ?_)
    rotate_left
    · exact False.elim hP18
    obtain ⟨rfl, h⟩ := hP18
    refine X_tln ?_
    refine X_iload_n C dX4_parts_36 rfl 0 rfl ?_
    exact X_iret C rfl dX4_parts_37 (hn s15 _ h)
  · have h := h.2 c9
    refine X_aload_n C dX4_parts_12 rfl 0 rfl (isRV_r _) ?_
    refine X_iconst (v := 1) C dX4_parts_13 rfl ?_
    refine X_callVS (ci := 4) (q := (RX4, TX4, 54)) (As := [_]) (rest := []) C rfl (LX_S hX (k := 175) rfl) q1939 q1941 qs63 q136 q1942 ⟨rfl, nm_X4_finds⟩ rfl dX4_parts_14 (m_X4_finds (Cx_l C) hX (d := d - 1) (by omega) st 1 h) (by omega) (by decide) (Nat.le_of_ble_eq_true rfl) (fun s23 w24 hE25 hP26 => ?_) (fun s29 E27 q28 hE25 hP26 => ?_)
    rotate_left
    · exact False.elim hP26
    obtain ⟨r22, rfl, h⟩ := hP26
    refine X_tls ?_
    exact X_iret C rfl dX4_parts_17 (hn s23 _ h)

def w_X4_size_b24 (Φ : St → Int32 → Prop) (st : St) : Prop := w_X4_finds st 1 (fun (s11 : St) (r10 : Int32) => Φ s11 r10)
theorem t_X4_size_b24 {θ : Th} {κ : Kx} {Ph : Ph} (hX : LX θ) {d : Nat} (hd : 1 ≤ d) (C : Cx θ κ yX4_size cX4_size 4 (some Jvm.ClassFile.FieldType.int) [] d) {Φ : St → Int32 → Prop} (hn : ∀ st r, Φ st r → Ph.1 st (some (.int r))) (st : St) (h : w_X4_size_b24 Φ st) : X θ κ Ph st 24 [(0, .ref (ad θ 175))] [] := by
  unfold w_X4_size_b24 at h
  refine X_aload_n C dX4_size_24 rfl 0 rfl (isRV_r _) ?_
  refine X_iconst (v := 1) C dX4_size_25 rfl ?_
  refine X_callVS (ci := 4) (q := (RX4, TX4, 54)) (As := [_]) (rest := []) C rfl (LX_S hX (k := 175) rfl) q1939 q1941 qs63 q136 q1942 ⟨rfl, nm_X4_finds⟩ rfl dX4_size_26 (m_X4_finds (Cx_l C) hX (d := d - 1) (by omega) st 1 h) (by omega) (by decide) (Nat.le_of_ble_eq_true rfl) (fun s11 w12 hE13 hP14 => ?_) (fun s17 E15 q16 hE13 hP14 => ?_)
  rotate_left
  · exact False.elim hP14
  obtain ⟨r10, rfl, h⟩ := hP14
  refine X_tls ?_
  exact X_iret C rfl dX4_size_29 (hn s11 _ h)
def w_X4_size (st : St) (p1 : Int32) (p2 : Int32) (Φ : St → Int32 → Prop) : Prop := w_X4_isIn p1.toInt64 1 3 (fun (r1 : Int32) => ((r1 = 0) → w_X4_size_b24 Φ st) ∧ ((¬ r1 = 0) → w_X4_isIn p2.toInt64 1 3 (fun (r18 : Int32) => ((r18 ≠ 0) → ∀ v27 : Int32, v27 = ((10 * (sI st 177 2)) + (sI st 177 3)) → ∀ s29, s29 = putI st 177 2 p1 → ∀ s31, s31 = putI s29 177 3 p2 → Φ s31 v27) ∧ ((r18 = 0) → w_X4_size_b24 Φ st))))
theorem nm_X4_size : yX4_size.cls ≠ "java/lang/invoke/MethodHandle" ∧ yX4_size.cls ≠ "java/lang/invoke/VarHandle" ∧ (parseMethodDescriptor yX4_size.desc).map (fun d => d.parameters.length) = some 2 := by decide +kernel
theorem e_X4_size : plainFor yX4_size = true := plainFor_of_name (by decide +kernel)
theorem m_X4_size {θ : Th} {l : Launch} (hl0 : l.stackTraces = false) (hX : LX θ) {d : Nat} (hd : 1 ≤ d) (st : St) (p1 : Int32) (p2 : Int32) {Φ : St → Int32 → Prop} (h : w_X4_size st p1 p2 Φ) : Ct θ l yX4_size (ws_ yX4_size cX4_size 4 (some Jvm.ClassFile.FieldType.int)) d [.ref (ad θ 175), .int p1, .int p2] st (pI Φ, noX) := by
  refine Ct_entry hl0 e_X4_size (Nat.le_of_ble_eq_true rfl) (fun κ hκ _ C => ?_)
  have hn : ∀ st r, Φ st r → ((pI Φ, noX) : Ph).1 st (some (.int r)) := fun st r q => ⟨r, rfl, q⟩
  change X _ _ _ _ _ [(0, .ref (ad θ 175)), (1, .int p1), (2, .int p2)] _
  unfold w_X4_size at h
  refine X_iload_n C dX4_size_0 rfl 1 rfl ?_
  refine X_i2l C dX4_size_1 ?_
  refine X_lconst (v := 1) C dX4_size_2 rfl ?_
  refine X_ldc2 C q1935 dX4_size_3 ?_
  refine X_callS (As := [_, _, _]) (rest := []) C q1936 q1937 q136 q1938 nm_X4_isIn rfl dX4_size_6 (m_X4_isIn (Cx_l C) hX (d := d - 1) (by omega) st p1.toInt64 1 3 h) (by omega) (by decide) (Nat.le_of_ble_eq_true rfl) (fun s7 w2 hE3 hP4 => ?_) (fun s8 E5 q6 hE3 hP4 => ?_)
  rotate_left
  · exact False.elim hP4
  obtain ⟨r1, rfl, rfl, h⟩ := hP4
  refine X_tls ?_
  refine X_if_eq (tgt := 24) C dX4_size_9 (by decide) (fun c9 => ?_) (fun c9 => ?_)
  · have h := h.1 c9
    refine X_sub [0] (lo2 := [(0, _)]) rfl ?_
    exact t_X4_size_b24 hX hd C hn st h
  · have h := h.2 c9
    refine X_iload_n C dX4_size_12 rfl 2 rfl ?_
    refine X_i2l C dX4_size_13 ?_
    refine X_lconst (v := 1) C dX4_size_14 rfl ?_
    refine X_ldc2 C q1935 dX4_size_15 ?_
    refine X_callS (As := [_, _, _]) (rest := []) C q1936 q1937 q136 q1938 nm_X4_isIn rfl dX4_size_18 (m_X4_isIn (Cx_l C) hX (d := d - 1) (by omega) st p2.toInt64 1 3 h) (by omega) (by decide) (Nat.le_of_ble_eq_true rfl) (fun s24 w19 hE20 hP21 => ?_) (fun s25 E22 q23 hE20 hP21 => ?_)
    rotate_left
    · exact False.elim hP21
    obtain ⟨r18, rfl, rfl, h⟩ := hP21
    refine X_tls ?_
    refine X_if_ne (tgt := 30) C dX4_size_21 (by decide) (fun c26 => ?_) (fun c26 => ?_)
    · have h := h.1 c26
      refine X_bipush (v := 10) C dX4_size_30 rfl ?_
      refine X_aload_n C dX4_size_32 rfl 0 rfl (isRV_r _) ?_
      refine X_getF (ci := 4) (j := 1) (q := (RX4, TX4, 54)) C rfl (by decide) q1767 rfl dX4_size_33 (b := 177) (LX_S hX (k := 175) rfl) (LX_F hX (k := 175) (j := 1) rfl) rfl ?_
      refine X_iconst (v := 2) C dX4_size_36 rfl ?_
      refine X_ialdS C (LX_S hX (k := 177) rfl) (LX_L hX (k := 177) rfl) (vp_dec rfl) rfl dX4_size_37 ?_
      refine X_imul C dX4_size_38 ?_
      refine X_aload_n C dX4_size_39 rfl 0 rfl (isRV_r _) ?_
      refine X_getF (ci := 4) (j := 1) (q := (RX4, TX4, 54)) C rfl (by decide) q1767 rfl dX4_size_40 (b := 177) (LX_S hX (k := 175) rfl) (LX_F hX (k := 175) (j := 1) rfl) rfl ?_
      refine X_iconst (v := 3) C dX4_size_43 rfl ?_
      refine X_ialdS C (LX_S hX (k := 177) rfl) (LX_L hX (k := 177) rfl) (vp_dec rfl) rfl dX4_size_44 ?_
      refine X_iadd C dX4_size_45 ?_
      refine X_topi (fun v27 e28 => ?_)
      have h := h v27 e28
      refine X_istore_n C dX4_size_46 rfl (lo2 := [(3, _), (0, _), (1, _), (2, _)]) (by decide) rfl ?_
      refine X_aload_n C dX4_size_47 rfl 1 rfl (isRV_r _) ?_
      refine X_getF (ci := 4) (j := 1) (q := (RX4, TX4, 54)) C rfl (by decide) q1767 rfl dX4_size_48 (b := 177) (LX_S hX (k := 175) rfl) (LX_F hX (k := 175) (j := 1) rfl) rfl ?_
      refine X_iconst (v := 2) C dX4_size_51 rfl ?_
      refine X_iload_n C dX4_size_52 rfl 2 rfl ?_
      refine X_iastS C (LX_S hX (k := 177) rfl) (LX_L hX (k := 177) rfl) (vp_dec rfl) rfl dX4_size_53 ?_
      refine X_nm (fun s29 e30 => ?_)
      have h := h s29 e30
      refine X_aload_n C dX4_size_54 rfl 1 rfl (isRV_r _) ?_
      refine X_getF (ci := 4) (j := 1) (q := (RX4, TX4, 54)) C rfl (by decide) q1767 rfl dX4_size_55 (b := 177) (LX_S hX (k := 175) rfl) (LX_F hX (k := 175) (j := 1) rfl) rfl ?_
      refine X_iconst (v := 3) C dX4_size_58 rfl ?_
      refine X_iload_n C dX4_size_59 rfl 3 rfl ?_
      refine X_iastS C (LX_S hX (k := 177) rfl) (LX_L hX (k := 177) rfl) (vp_dec rfl) rfl dX4_size_60 ?_
      refine X_nm (fun s31 e32 => ?_)
      have h := h s31 e32
      refine X_iload_n C dX4_size_61 rfl 0 rfl ?_
      exact X_iret C rfl dX4_size_62 (hn s31 _ h)
    · have h := h.2 c26
      refine X_sub [0] (lo2 := [(0, _)]) rfl ?_
      exact t_X4_size_b24 hX hd C hn st h

def w_X4_isCell (p1 : Int32) (p2 : Int32) (p3 : Int32) (Φ : Int32 → Prop) : Prop := w_X4_isIn p1.toInt64 0 2 (fun (r1 : Int32) => ((r1 = 0) → Φ 0) ∧ ((¬ r1 = 0) → w_X4_isIn p2.toInt64 0 2 (fun (r10 : Int32) => ((r10 = 0) → Φ 0) ∧ ((¬ r10 = 0) → w_X4_isIn p3.toInt64 0 2 (fun (r19 : Int32) => ((r19 = 0) → Φ 0) ∧ ((¬ r19 = 0) → Φ 1))))))
theorem nm_X4_isCell : yX4_isCell.cls ≠ "java/lang/invoke/MethodHandle" ∧ yX4_isCell.cls ≠ "java/lang/invoke/VarHandle" ∧ (parseMethodDescriptor yX4_isCell.desc).map (fun d => d.parameters.length) = some 3 := by decide +kernel
theorem e_X4_isCell : plainFor yX4_isCell = true := plainFor_of_name (by decide +kernel)
theorem m_X4_isCell {θ : Th} {l : Launch} (hl0 : l.stackTraces = false) (hX : LX θ) {d : Nat} (hd : 1 ≤ d) (st0 : St) (p1 : Int32) (p2 : Int32) (p3 : Int32) {Φ : Int32 → Prop} (h : w_X4_isCell p1 p2 p3 Φ) : Ct θ l yX4_isCell (ws_ yX4_isCell cX4_isCell 3 (some Jvm.ClassFile.FieldType.boolean)) d [.int p1, .int p2, .int p3] st0 (rI st0 Φ, noX) := by
  refine Ct_entry hl0 e_X4_isCell (Nat.le_of_ble_eq_true rfl) (fun κ hκ _ C => ?_)
  have hn : ∀ r, Φ r → ((rI st0 Φ, noX) : Ph).1 st0 (some (.int r)) := fun r q => ⟨r, rfl, rfl, q⟩
  change X _ _ _ _ _ [(0, .int p1), (1, .int p2), (2, .int p3)] _
  unfold w_X4_isCell at h
  refine X_iload_n C dX4_isCell_0 rfl 0 rfl ?_
  refine X_i2l C dX4_isCell_1 ?_
  refine X_lconst (v := 0) C dX4_isCell_2 rfl ?_
  refine X_ldc2 C q1934 dX4_isCell_3 ?_
  refine X_callS (As := [_, _, _]) (rest := []) C q1936 q1937 q136 q1938 nm_X4_isIn rfl dX4_isCell_6 (m_X4_isIn (Cx_l C) hX (d := d - 1) (by omega) st0 p1.toInt64 0 2 h) (by omega) (by decide) (Nat.le_of_ble_eq_true rfl) (fun s7 w2 hE3 hP4 => ?_) (fun s8 E5 q6 hE3 hP4 => ?_)
  rotate_left
  · exact False.elim hP4
  obtain ⟨r1, rfl, rfl, h⟩ := hP4
  refine X_tls ?_
  refine X_if_eq (tgt := 40) C dX4_isCell_9 (by decide) (fun c9 => ?_) (fun c9 => ?_)
  · have h := h.1 c9
    refine X_iconst (v := 0) C dX4_isCell_40 rfl ?_
    exact X_zret C rfl rfl dX4_isCell_41 (hn _ h)
  · have h := h.2 c9
    refine X_iload_n C dX4_isCell_12 rfl 1 rfl ?_
    refine X_i2l C dX4_isCell_13 ?_
    refine X_lconst (v := 0) C dX4_isCell_14 rfl ?_
    refine X_ldc2 C q1934 dX4_isCell_15 ?_
    refine X_callS (As := [_, _, _]) (rest := []) C q1936 q1937 q136 q1938 nm_X4_isIn rfl dX4_isCell_18 (m_X4_isIn (Cx_l C) hX (d := d - 1) (by omega) st0 p2.toInt64 0 2 h) (by omega) (by decide) (Nat.le_of_ble_eq_true rfl) (fun s16 w11 hE12 hP13 => ?_) (fun s17 E14 q15 hE12 hP13 => ?_)
    rotate_left
    · exact False.elim hP13
    obtain ⟨r10, rfl, rfl, h⟩ := hP13
    refine X_tls ?_
    refine X_if_eq (tgt := 40) C dX4_isCell_21 (by decide) (fun c18 => ?_) (fun c18 => ?_)
    · have h := h.1 c18
      refine X_iconst (v := 0) C dX4_isCell_40 rfl ?_
      exact X_zret C rfl rfl dX4_isCell_41 (hn _ h)
    · have h := h.2 c18
      refine X_iload_n C dX4_isCell_24 rfl 2 rfl ?_
      refine X_i2l C dX4_isCell_25 ?_
      refine X_lconst (v := 0) C dX4_isCell_26 rfl ?_
      refine X_ldc2 C q1934 dX4_isCell_27 ?_
      refine X_callS (As := [_, _, _]) (rest := []) C q1936 q1937 q136 q1938 nm_X4_isIn rfl dX4_isCell_30 (m_X4_isIn (Cx_l C) hX (d := d - 1) (by omega) st0 p3.toInt64 0 2 h) (by omega) (by decide) (Nat.le_of_ble_eq_true rfl) (fun s25 w20 hE21 hP22 => ?_) (fun s26 E23 q24 hE21 hP22 => ?_)
      rotate_left
      · exact False.elim hP22
      obtain ⟨r19, rfl, rfl, h⟩ := hP22
      refine X_tls ?_
      refine X_if_eq (tgt := 40) C dX4_isCell_33 (by decide) (fun c27 => ?_) (fun c27 => ?_)
      · have h := h.1 c27
        refine X_iconst (v := 0) C dX4_isCell_40 rfl ?_
        exact X_zret C rfl rfl dX4_isCell_41 (hn _ h)
      · have h := h.2 c27
        refine X_iconst (v := 1) C dX4_isCell_36 rfl ?_
        refine X_goto (tgt := 41) C dX4_isCell_37 (by decide) ?_
        exact X_zret C rfl rfl dX4_isCell_41 (hn _ h)

def w_X4_place (p1 : Int32) (p2 : Int32) (p3 : Int32) (Φ : Int32 → Prop) : Prop := Φ (((4 + (9 * p1)) + (3 * p2)) + p3)
theorem nm_X4_place : yX4_place.cls ≠ "java/lang/invoke/MethodHandle" ∧ yX4_place.cls ≠ "java/lang/invoke/VarHandle" ∧ (parseMethodDescriptor yX4_place.desc).map (fun d => d.parameters.length) = some 3 := by decide +kernel
theorem e_X4_place : plainFor yX4_place = true := plainFor_of_name (by decide +kernel)
theorem m_X4_place {θ : Th} {l : Launch} (hl0 : l.stackTraces = false) (hX : LX θ) {d : Nat} (hd : 0 ≤ d) (st0 : St) (p1 : Int32) (p2 : Int32) (p3 : Int32) {Φ : Int32 → Prop} (h : w_X4_place p1 p2 p3 Φ) : Ct θ l yX4_place (ws_ yX4_place cX4_place 3 (some Jvm.ClassFile.FieldType.int)) d [.int p1, .int p2, .int p3] st0 (rI st0 Φ, noX) := by
  refine Ct_entry hl0 e_X4_place (Nat.le_of_ble_eq_true rfl) (fun κ hκ _ C => ?_)
  have hn : ∀ r, Φ r → ((rI st0 Φ, noX) : Ph).1 st0 (some (.int r)) := fun r q => ⟨r, rfl, rfl, q⟩
  change X _ _ _ _ _ [(0, .int p1), (1, .int p2), (2, .int p3)] _
  unfold w_X4_place at h
  refine X_iconst (v := 4) C dX4_place_0 rfl ?_
  refine X_bipush (v := 9) C dX4_place_1 rfl ?_
  refine X_iload_n C dX4_place_3 rfl 0 rfl ?_
  refine X_imul C dX4_place_4 ?_
  refine X_iadd C dX4_place_5 ?_
  refine X_iconst (v := 3) C dX4_place_6 rfl ?_
  refine X_iload_n C dX4_place_7 rfl 1 rfl ?_
  refine X_imul C dX4_place_8 ?_
  refine X_iadd C dX4_place_9 ?_
  refine X_iload_n C dX4_place_10 rfl 2 rfl ?_
  refine X_iadd C dX4_place_11 ?_
  exact X_iret C rfl dX4_place_12 (hn _ h)

def w_X4_cell_b24 (Φ : St → Int32 → Prop) (st : St) : Prop := w_X4_finds st 1 (fun (s11 : St) (r10 : Int32) => Φ s11 r10)
theorem t_X4_cell_b24 {θ : Th} {κ : Kx} {Ph : Ph} (hX : LX θ) {d : Nat} (hd : 2 ≤ d) (C : Cx θ κ yX4_cell cX4_cell 6 (some Jvm.ClassFile.FieldType.int) [] d) {Φ : St → Int32 → Prop} (hn : ∀ st r, Φ st r → Ph.1 st (some (.int r))) (st : St) (h : w_X4_cell_b24 Φ st) : X θ κ Ph st 24 [(0, .ref (ad θ 175))] [] := by
  unfold w_X4_cell_b24 at h
  refine X_aload_n C dX4_cell_24 rfl 0 rfl (isRV_r _) ?_
  refine X_iconst (v := 1) C dX4_cell_25 rfl ?_
  refine X_callVS (ci := 4) (q := (RX4, TX4, 54)) (As := [_]) (rest := []) C rfl (LX_S hX (k := 175) rfl) q1939 q1941 qs63 q136 q1942 ⟨rfl, nm_X4_finds⟩ rfl dX4_cell_26 (m_X4_finds (Cx_l C) hX (d := d - 1) (by omega) st 1 h) (by omega) (by decide) (Nat.le_of_ble_eq_true rfl) (fun s11 w12 hE13 hP14 => ?_) (fun s17 E15 q16 hE13 hP14 => ?_)
  rotate_left
  · exact False.elim hP14
  obtain ⟨r10, rfl, h⟩ := hP14
  refine X_tls ?_
  exact X_iret C rfl dX4_cell_29 (hn s11 _ h)
def w_X4_cell (st : St) (p1 : Int32) (p2 : Int32) (p3 : Int32) (p4 : Int32) (Φ : St → Int32 → Prop) : Prop := w_X4_isCell p1 p2 p3 (fun (r1 : Int32) => ((r1 = 0) → w_X4_cell_b24 Φ st) ∧ ((¬ r1 = 0) → w_X4_isIn p4.toInt64 (-20) 20 (fun (r18 : Int32) => ((r18 ≠ 0) → w_X4_place p1 p2 p3 (fun (r27 : Int32) => vp_in r27 97 ∧ ∀ v36 : Int32, v36 = (sI st 177 r27.toNatClampNeg) → w_X4_place p1 p2 p3 (fun (r38 : Int32) => vp_in r38 97 ∧ ∀ s47, s47 = putI st 177 (r38.toNatClampNeg) p4 → Φ s47 v36))) ∧ ((r18 = 0) → w_X4_cell_b24 Φ st))))
theorem nm_X4_cell : yX4_cell.cls ≠ "java/lang/invoke/MethodHandle" ∧ yX4_cell.cls ≠ "java/lang/invoke/VarHandle" ∧ (parseMethodDescriptor yX4_cell.desc).map (fun d => d.parameters.length) = some 4 := by decide +kernel
theorem e_X4_cell : plainFor yX4_cell = true := plainFor_of_name (by decide +kernel)
theorem m_X4_cell {θ : Th} {l : Launch} (hl0 : l.stackTraces = false) (hX : LX θ) {d : Nat} (hd : 2 ≤ d) (st : St) (p1 : Int32) (p2 : Int32) (p3 : Int32) (p4 : Int32) {Φ : St → Int32 → Prop} (h : w_X4_cell st p1 p2 p3 p4 Φ) : Ct θ l yX4_cell (ws_ yX4_cell cX4_cell 6 (some Jvm.ClassFile.FieldType.int)) d [.ref (ad θ 175), .int p1, .int p2, .int p3, .int p4] st (pI Φ, noX) := by
  refine Ct_entry hl0 e_X4_cell (Nat.le_of_ble_eq_true rfl) (fun κ hκ _ C => ?_)
  have hn : ∀ st r, Φ st r → ((pI Φ, noX) : Ph).1 st (some (.int r)) := fun st r q => ⟨r, rfl, q⟩
  change X _ _ _ _ _ [(0, .ref (ad θ 175)), (1, .int p1), (2, .int p2), (3, .int p3), (4, .int p4)] _
  unfold w_X4_cell at h
  refine X_iload_n C dX4_cell_0 rfl 1 rfl ?_
  refine X_iload_n C dX4_cell_1 rfl 2 rfl ?_
  refine X_iload_n C dX4_cell_2 rfl 3 rfl ?_
  refine X_callS (As := [_, _, _]) (rest := []) C q1961 q1962 q136 q1963 nm_X4_isCell rfl dX4_cell_3 (m_X4_isCell (Cx_l C) hX (d := d - 1) (by omega) st p1 p2 p3 h) (by omega) (by decide) (Nat.le_of_ble_eq_true rfl) (fun s7 w2 hE3 hP4 => ?_) (fun s8 E5 q6 hE3 hP4 => ?_)
  rotate_left
  · exact False.elim hP4
  obtain ⟨r1, rfl, rfl, h⟩ := hP4
  refine X_tls ?_
  refine X_if_eq (tgt := 24) C dX4_cell_6 (by decide) (fun c9 => ?_) (fun c9 => ?_)
  · have h := h.1 c9
    refine X_sub [0] (lo2 := [(0, _)]) rfl ?_
    exact t_X4_cell_b24 hX hd C hn st h
  · have h := h.2 c9
    refine X_iload C dX4_cell_9 4 rfl ?_
    refine X_i2l C dX4_cell_11 ?_
    refine X_ldc2 C q1964 dX4_cell_12 ?_
    refine X_ldc2 C q1965 dX4_cell_15 ?_
    refine X_callS (As := [_, _, _]) (rest := []) C q1936 q1937 q136 q1938 nm_X4_isIn rfl dX4_cell_18 (m_X4_isIn (Cx_l C) hX (d := d - 1) (by omega) st p4.toInt64 (-20) 20 h) (by omega) (by decide) (Nat.le_of_ble_eq_true rfl) (fun s24 w19 hE20 hP21 => ?_) (fun s25 E22 q23 hE20 hP21 => ?_)
    rotate_left
    · exact False.elim hP21
    obtain ⟨r18, rfl, rfl, h⟩ := hP21
    refine X_tls ?_
    refine X_if_ne (tgt := 30) C dX4_cell_21 (by decide) (fun c26 => ?_) (fun c26 => ?_)
    · have h := h.1 c26
      refine X_aload_n C dX4_cell_30 rfl 0 rfl (isRV_r _) ?_
      refine X_getF (ci := 4) (j := 1) (q := (RX4, TX4, 54)) C rfl (by decide) q1767 rfl dX4_cell_31 (b := 177) (LX_S hX (k := 175) rfl) (LX_F hX (k := 175) (j := 1) rfl) rfl ?_
      refine X_iload_n C dX4_cell_34 rfl 1 rfl ?_
      refine X_iload_n C dX4_cell_35 rfl 2 rfl ?_
      refine X_iload_n C dX4_cell_36 rfl 3 rfl ?_
      refine X_callS (As := [_, _, _]) (rest := [_]) C q1966 q1967 q136 q1968 nm_X4_place rfl dX4_cell_37 (m_X4_place (Cx_l C) hX (d := d - 1) (by omega) st p1 p2 p3 h) (by omega) (by decide) (Nat.le_of_ble_eq_true rfl) (fun s33 w28 hE29 hP30 => ?_) (fun s34 E31 q32 hE29 hP30 => ?_)
      rotate_left
      · exact False.elim hP30
      obtain ⟨r27, rfl, rfl, h⟩ := hP30
      refine X_tls ?_
      have g35 := h.1
      have h := h.2
      refine X_ialdS C (LX_S hX (k := 177) rfl) (LX_L hX (k := 177) rfl) g35 rfl dX4_cell_40 ?_
      refine X_topi (fun v36 e37 => ?_)
      have h := h v36 e37
      refine X_istore C dX4_cell_41 (lo2 := [(5, _), (0, _), (1, _), (2, _), (3, _), (4, _)]) (by decide) rfl ?_
      refine X_aload_n C dX4_cell_43 rfl 1 rfl (isRV_r _) ?_
      refine X_getF (ci := 4) (j := 1) (q := (RX4, TX4, 54)) C rfl (by decide) q1767 rfl dX4_cell_44 (b := 177) (LX_S hX (k := 175) rfl) (LX_F hX (k := 175) (j := 1) rfl) rfl ?_
      refine X_iload_n C dX4_cell_47 rfl 2 rfl ?_
      refine X_iload_n C dX4_cell_48 rfl 3 rfl ?_
      refine X_iload_n C dX4_cell_49 rfl 4 rfl ?_
      refine X_callS (As := [_, _, _]) (rest := [_]) C q1966 q1967 q136 q1968 nm_X4_place rfl dX4_cell_50 (m_X4_place (Cx_l C) hX (d := d - 1) (by omega) st p1 p2 p3 h) (by omega) (by decide) (Nat.le_of_ble_eq_true rfl) (fun s44 w39 hE40 hP41 => ?_) (fun s45 E42 q43 hE40 hP41 => ?_)
      rotate_left
      · exact False.elim hP41
      obtain ⟨r38, rfl, rfl, h⟩ := hP41
      refine X_tls ?_
      refine X_iload C dX4_cell_53 5 rfl ?_
      have g46 := h.1
      have h := h.2
      refine X_iastS C (LX_S hX (k := 177) rfl) (LX_L hX (k := 177) rfl) g46 rfl dX4_cell_55 ?_
      refine X_nm (fun s47 e48 => ?_)
      have h := h s47 e48
      refine X_iload C dX4_cell_56 0 rfl ?_
      exact X_iret C rfl dX4_cell_58 (hn s47 _ h)
    · have h := h.2 c26
      refine X_sub [0] (lo2 := [(0, _)]) rfl ?_
      exact t_X4_cell_b24 hX hd C hn st h

def w_X4_isSheet (p1 : Int32) (Φ : Int32 → Prop) : Prop := ((p1 < 0) → Φ 0) ∧ ((¬ p1 < 0) → ((5 ≤ p1) → Φ 0) ∧ ((¬ 5 ≤ p1) → Φ 1))
theorem nm_X4_isSheet : yX4_isSheet.cls ≠ "java/lang/invoke/MethodHandle" ∧ yX4_isSheet.cls ≠ "java/lang/invoke/VarHandle" ∧ (parseMethodDescriptor yX4_isSheet.desc).map (fun d => d.parameters.length) = some 1 := by decide +kernel
theorem e_X4_isSheet : plainFor yX4_isSheet = true := plainFor_of_name (by decide +kernel)
theorem m_X4_isSheet {θ : Th} {l : Launch} (hl0 : l.stackTraces = false) (hX : LX θ) {d : Nat} (hd : 0 ≤ d) (st0 : St) (p1 : Int32) {Φ : Int32 → Prop} (h : w_X4_isSheet p1 Φ) : Ct θ l yX4_isSheet (ws_ yX4_isSheet cX4_isSheet 1 (some Jvm.ClassFile.FieldType.boolean)) d [.int p1] st0 (rI st0 Φ, noX) := by
  refine Ct_entry hl0 e_X4_isSheet (Nat.le_of_ble_eq_true rfl) (fun κ hκ _ C => ?_)
  have hn : ∀ r, Φ r → ((rI st0 Φ, noX) : Ph).1 st0 (some (.int r)) := fun r q => ⟨r, rfl, rfl, q⟩
  change X _ _ _ _ _ [(0, .int p1)] _
  unfold w_X4_isSheet at h
  refine X_iload_n C dX4_isSheet_0 rfl 0 rfl ?_
  refine X_if_lt (tgt := 13) C dX4_isSheet_1 (by decide) (fun c1 => ?_) (fun c1 => ?_)
  · have h := h.1 c1
    refine X_iconst (v := 0) C dX4_isSheet_13 rfl ?_
    exact X_zret C rfl rfl dX4_isSheet_14 (hn _ h)
  · have h := h.2 c1
    refine X_iload_n C dX4_isSheet_4 rfl 0 rfl ?_
    refine X_iconst (v := 5) C dX4_isSheet_5 rfl ?_
    refine X_icmp_ge (tgt := 13) C dX4_isSheet_6 (by decide) (fun c2 => ?_) (fun c2 => ?_)
    · have h := h.1 c2
      refine X_iconst (v := 0) C dX4_isSheet_13 rfl ?_
      exact X_zret C rfl rfl dX4_isSheet_14 (hn _ h)
    · have h := h.2 c2
      refine X_iconst (v := 1) C dX4_isSheet_9 rfl ?_
      refine X_goto (tgt := 14) C dX4_isSheet_10 (by decide) ?_
      exact X_zret C rfl rfl dX4_isSheet_14 (hn _ h)

def w_X4_hasFew_b19 (Φ : Int32 → Prop) (st0 : St) : Prop := Φ 1
theorem t_X4_hasFew_b19 {θ : Th} {κ : Kx} {Ph : Ph} (hX : LX θ) {st0 : St} {d : Nat} (hd : 0 ≤ d) (C : Cx θ κ yX4_hasFew cX4_hasFew 3 (some Jvm.ClassFile.FieldType.boolean) [] d) {Φ : Int32 → Prop} (hn : ∀ r, Φ r → Ph.1 st0 (some (.int r))) (h : w_X4_hasFew_b19 Φ st0) : X θ κ Ph st0 19 [] [] := by
  unfold w_X4_hasFew_b19 at h
  refine X_iconst (v := 1) C dX4_hasFew_19 rfl ?_
  refine X_goto (tgt := 24) C dX4_hasFew_20 (by decide) ?_
  exact X_zret C rfl rfl dX4_hasFew_24 (hn _ h)
def w_X4_hasFew (st0 : St) (p1 : Int32) (p2 : Int32) (Φ : Int32 → Prop) : Prop := vp_in p1 5 ∧ (((sI st0 186 p1.toNatClampNeg) = 0) → w_X4_hasFew_b19 Φ st0) ∧ ((¬ (sI st0 186 p1.toNatClampNeg) = 0) → ((p2 ≤ (sI st0 187 p1.toNatClampNeg)) → Φ 0) ∧ ((¬ p2 ≤ (sI st0 187 p1.toNatClampNeg)) → w_X4_hasFew_b19 Φ st0))
theorem nm_X4_hasFew : yX4_hasFew.cls ≠ "java/lang/invoke/MethodHandle" ∧ yX4_hasFew.cls ≠ "java/lang/invoke/VarHandle" ∧ (parseMethodDescriptor yX4_hasFew.desc).map (fun d => d.parameters.length) = some 2 := by decide +kernel
theorem e_X4_hasFew : plainFor yX4_hasFew = true := plainFor_of_name (by decide +kernel)
theorem m_X4_hasFew {θ : Th} {l : Launch} (hl0 : l.stackTraces = false) (hX : LX θ) {d : Nat} (hd : 0 ≤ d) (st0 : St) (p1 : Int32) (p2 : Int32) {Φ : Int32 → Prop} (h : w_X4_hasFew st0 p1 p2 Φ) : Ct θ l yX4_hasFew (ws_ yX4_hasFew cX4_hasFew 3 (some Jvm.ClassFile.FieldType.boolean)) d [.ref (ad θ 175), .int p1, .int p2] st0 (rI st0 Φ, noX) := by
  refine Ct_entry hl0 e_X4_hasFew (Nat.le_of_ble_eq_true rfl) (fun κ hκ _ C => ?_)
  have hn : ∀ r, Φ r → ((rI st0 Φ, noX) : Ph).1 st0 (some (.int r)) := fun r q => ⟨r, rfl, rfl, q⟩
  change X _ _ _ _ _ [(0, .ref (ad θ 175)), (1, .int p1), (2, .int p2)] _
  unfold w_X4_hasFew at h
  refine X_aload_n C dX4_hasFew_0 rfl 0 rfl (isRV_r _) ?_
  refine X_getF (ci := 4) (j := 16) (q := (RX4, TX4, 54)) C rfl (by decide) q1782 rfl dX4_hasFew_1 (b := 186) (LX_S hX (k := 175) rfl) (LX_F hX (k := 175) (j := 16) rfl) rfl ?_
  refine X_iload_n C dX4_hasFew_4 rfl 1 rfl ?_
  have g1 := h.1
  have h := h.2
  refine X_ialdS C (LX_S hX (k := 186) rfl) (LX_L hX (k := 186) rfl) g1 rfl dX4_hasFew_5 ?_
  refine X_if_eq (tgt := 19) C dX4_hasFew_6 (by decide) (fun c2 => ?_) (fun c2 => ?_)
  · have h := h.1 c2
    refine X_sub [] (lo2 := []) rfl ?_
    exact t_X4_hasFew_b19 hX hd C hn h
  · have h := h.2 c2
    refine X_aload_n C dX4_hasFew_9 rfl 0 rfl (isRV_r _) ?_
    refine X_getF (ci := 4) (j := 17) (q := (RX4, TX4, 54)) C rfl (by decide) q1783 rfl dX4_hasFew_10 (b := 187) (LX_S hX (k := 175) rfl) (LX_F hX (k := 175) (j := 17) rfl) rfl ?_
    refine X_iload_n C dX4_hasFew_13 rfl 1 rfl ?_
    refine X_ialdS C (LX_S hX (k := 187) rfl) (LX_L hX (k := 187) rfl) g1 rfl dX4_hasFew_14 ?_
    refine X_iload_n C dX4_hasFew_15 rfl 2 rfl ?_
    refine X_icmp_ge (tgt := 23) C dX4_hasFew_16 (by decide) (fun c3 => ?_) (fun c3 => ?_)
    · have h := h.1 c3
      refine X_iconst (v := 0) C dX4_hasFew_23 rfl ?_
      exact X_zret C rfl rfl dX4_hasFew_24 (hn _ h)
    · have h := h.2 c3
      refine X_sub [] (lo2 := []) rfl ?_
      exact t_X4_hasFew_b19 hX hd C hn h

def w_X4_numberAt (st0 : St) (p1 : Int32) (p2 : Int32) (Φ : Int64 → Prop) : Prop := vp_in ((60 * p1) + p2) 300 ∧ Φ (sL st0 185 ((60 * p1) + p2).toNatClampNeg)
theorem nm_X4_numberAt : yX4_numberAt.cls ≠ "java/lang/invoke/MethodHandle" ∧ yX4_numberAt.cls ≠ "java/lang/invoke/VarHandle" ∧ (parseMethodDescriptor yX4_numberAt.desc).map (fun d => d.parameters.length) = some 2 := by decide +kernel
theorem e_X4_numberAt : plainFor yX4_numberAt = true := plainFor_of_name (by decide +kernel)
theorem m_X4_numberAt {θ : Th} {l : Launch} (hl0 : l.stackTraces = false) (hX : LX θ) {d : Nat} (hd : 0 ≤ d) (st0 : St) (p1 : Int32) (p2 : Int32) {Φ : Int64 → Prop} (h : w_X4_numberAt st0 p1 p2 Φ) : Ct θ l yX4_numberAt (ws_ yX4_numberAt cX4_numberAt 3 (some Jvm.ClassFile.FieldType.long)) d [.ref (ad θ 175), .int p1, .int p2] st0 (rL st0 Φ, noX) := by
  refine Ct_entry hl0 e_X4_numberAt (Nat.le_of_ble_eq_true rfl) (fun κ hκ _ C => ?_)
  have hn : ∀ r, Φ r → ((rL st0 Φ, noX) : Ph).1 st0 (some (.long r)) := fun r q => ⟨r, rfl, rfl, q⟩
  change X _ _ _ _ _ [(0, .ref (ad θ 175)), (1, .int p1), (2, .int p2)] _
  unfold w_X4_numberAt at h
  refine X_aload_n C dX4_numberAt_0 rfl 0 rfl (isRV_r _) ?_
  refine X_getF (ci := 4) (j := 15) (q := (RX4, TX4, 54)) C rfl (by decide) q1781 rfl dX4_numberAt_1 (b := 185) (LX_S hX (k := 175) rfl) (LX_F hX (k := 175) (j := 15) rfl) rfl ?_
  refine X_bipush (v := 60) C dX4_numberAt_4 rfl ?_
  refine X_iload_n C dX4_numberAt_6 rfl 1 rfl ?_
  refine X_imul C dX4_numberAt_7 ?_
  refine X_iload_n C dX4_numberAt_8 rfl 2 rfl ?_
  refine X_iadd C dX4_numberAt_9 ?_
  have g1 := h.1
  have h := h.2
  refine X_laldS C (LX_S hX (k := 185) rfl) (LX_L hX (k := 185) rfl) g1 rfl dX4_numberAt_10 ?_
  exact X_lret C rfl dX4_numberAt_11 (hn _ h)

def w_X4_lays_b19 (Φ : St → Int32 → Prop) (st : St) : Prop := w_X4_finds st 1 (fun (s11 : St) (r10 : Int32) => Φ s11 r10)
theorem t_X4_lays_b19 {θ : Th} {κ : Kx} {Ph : Ph} (hX : LX θ) {d : Nat} (hd : 1 ≤ d) (C : Cx θ κ yX4_lays cX4_lays 7 (some Jvm.ClassFile.FieldType.int) [] d) {Φ : St → Int32 → Prop} (hn : ∀ st r, Φ st r → Ph.1 st (some (.int r))) (st : St) (h : w_X4_lays_b19 Φ st) : X θ κ Ph st 19 [(0, .ref (ad θ 175))] [] := by
  unfold w_X4_lays_b19 at h
  refine X_aload_n C dX4_lays_19 rfl 0 rfl (isRV_r _) ?_
  refine X_iconst (v := 1) C dX4_lays_20 rfl ?_
  refine X_callVS (ci := 4) (q := (RX4, TX4, 54)) (As := [_]) (rest := []) C rfl (LX_S hX (k := 175) rfl) q1939 q1941 qs63 q136 q1942 ⟨rfl, nm_X4_finds⟩ rfl dX4_lays_21 (m_X4_finds (Cx_l C) hX (d := d - 1) (by omega) st 1 h) (by omega) (by decide) (Nat.le_of_ble_eq_true rfl) (fun s11 w12 hE13 hP14 => ?_) (fun s17 E15 q16 hE13 hP14 => ?_)
  rotate_left
  · exact False.elim hP14
  obtain ⟨r10, rfl, h⟩ := hP14
  refine X_tls ?_
  exact X_iret C rfl dX4_lays_24 (hn s11 _ h)
def w_X4_lays_l58 (Φ : St → Int32 → Prop) (E83 : St → Prop) (E95 : St → Int32 → Int32 → Int32 → Prop) : Nat → St → Int32 → Int32 → Int32 → Int32 → Prop
  | 0, _, _, _, _, _ => False
  | n + 1, st, x1, x2, x3, x4 => ((x3 ≤ x4) → E95 st x1 x2 x3) ∧ ((¬ x3 ≤ x4) → w_X4_numberAt st x2 x4 (fun (r39 : Int64) => w_X4_isIn r39 (-20) 20 (fun (r47 : Int32) => ((r47 ≠ 0) → w_X4_lays_l58 Φ E83 E95 n st x1 x2 x3 (x4 + 1)) ∧ ((r47 = 0) → E83 st))))
theorem t_X4_lays_l58 {θ : Th} {κ : Kx} {Ph : Ph} (hX : LX θ) {d : Nat} (hd : 1 ≤ d) (C : Cx θ κ yX4_lays cX4_lays 7 (some Jvm.ClassFile.FieldType.int) [] d) {Φ : St → Int32 → Prop} (hn : ∀ st r, Φ st r → Ph.1 st (some (.int r))) {E83 : St → Prop} {E95 : St → Int32 → Int32 → Int32 → Prop} (hE83 : ∀ (st : St), E83 st → X θ κ Ph st 83 [(0, .ref (ad θ 175))] []) (hE95 : ∀ (st : St) (x1 : Int32) (x2 : Int32) (x3 : Int32), E95 st x1 x2 x3 → X θ κ Ph st 95 [(0, .ref (ad θ 175)), (1, .int x1), (2, .int x2), (3, .int x3)] []) : ∀ (n : Nat) (st : St) (x1 : Int32) (x2 : Int32) (x3 : Int32) (x4 : Int32), w_X4_lays_l58 Φ E83 E95 n st x1 x2 x3 x4 → X θ κ Ph st 58 [(0, .ref (ad θ 175)), (1, .int x1), (2, .int x2), (3, .int x3), (4, .int x4)] [] := by
  intro n
  induction n with
  | zero => intro st x1 x2 x3 x4 h; exact h.elim
  | succ n hK58 =>
    intro st x1 x2 x3 x4 h
    rw [w_X4_lays_l58] at h
    refine X_iload C dX4_lays_58 4 rfl ?_
    refine X_iload_n C dX4_lays_60 rfl 3 rfl ?_
    refine X_icmp_ge (tgt := 95) C dX4_lays_61 (by decide) (fun c38 => ?_) (fun c38 => ?_)
    · have h := h.1 c38
      refine X_sub [0, 1, 2, 3] (lo2 := [(0, _), (1, _), (2, _), (3, _)]) rfl ?_
      exact hE95 st x1 x2 x3 h
    · have h := h.2 c38
      refine X_aload_n C dX4_lays_64 rfl 0 rfl (isRV_r _) ?_
      refine X_iload_n C dX4_lays_65 rfl 2 rfl ?_
      refine X_iload C dX4_lays_66 4 rfl ?_
      refine X_callVS (ci := 4) (q := (RX4, TX4, 54)) (As := [_, _]) (rest := []) C rfl (LX_S hX (k := 175) rfl) q1980 q1982 qs66 q136 q1983 ⟨rfl, nm_X4_numberAt⟩ rfl dX4_lays_68 (m_X4_numberAt (Cx_l C) hX (d := d - 1) (by omega) st x2 x4 h) (by omega) (by decide) (Nat.le_of_ble_eq_true rfl) (fun s45 w40 hE41 hP42 => ?_) (fun s46 E43 q44 hE41 hP42 => ?_)
      rotate_left
      · exact False.elim hP42
      obtain ⟨r39, rfl, rfl, h⟩ := hP42
      refine X_tls ?_
      refine X_ldc2 C q1964 dX4_lays_71 ?_
      refine X_ldc2 C q1965 dX4_lays_74 ?_
      refine X_callS (As := [_, _, _]) (rest := []) C q1936 q1937 q136 q1938 nm_X4_isIn rfl dX4_lays_77 (m_X4_isIn (Cx_l C) hX (d := d - 1) (by omega) st r39 (-20) 20 h) (by omega) (by decide) (Nat.le_of_ble_eq_true rfl) (fun s53 w48 hE49 hP50 => ?_) (fun s54 E51 q52 hE49 hP50 => ?_)
      rotate_left
      · exact False.elim hP50
      obtain ⟨r47, rfl, rfl, h⟩ := hP50
      refine X_tls ?_
      refine X_if_ne (tgt := 89) C dX4_lays_80 (by decide) (fun c55 => ?_) (fun c55 => ?_)
      · have h := h.1 c55
        refine X_iinc (v := (x4 + 1)) C (j := 4) dX4_lays_89 rfl rfl (lo2 := [(4, _), (0, _), (1, _), (2, _), (3, _)]) (by decide) rfl ?_
        refine X_goto (tgt := 58) C dX4_lays_92 (by decide) ?_
        refine X_sub [1, 2, 3, 4, 0] (lo2 := [(0, _), (1, _), (2, _), (3, _), (4, _)]) rfl ?_
        exact hK58 st x1 x2 x3 (x4 + 1) h
      · have h := h.2 c55
        refine X_sub [0] (lo2 := [(0, _)]) rfl ?_
        exact hE83 st h
def w_X4_lays_b83 (Φ : St → Int32 → Prop) (st : St) : Prop := w_X4_finds st 5 (fun (s58 : St) (r57 : Int32) => Φ s58 r57)
theorem t_X4_lays_b83 {θ : Th} {κ : Kx} {Ph : Ph} (hX : LX θ) {d : Nat} (hd : 1 ≤ d) (C : Cx θ κ yX4_lays cX4_lays 7 (some Jvm.ClassFile.FieldType.int) [] d) {Φ : St → Int32 → Prop} (hn : ∀ st r, Φ st r → Ph.1 st (some (.int r))) (st : St) (h : w_X4_lays_b83 Φ st) : X θ κ Ph st 83 [(0, .ref (ad θ 175))] [] := by
  unfold w_X4_lays_b83 at h
  refine X_aload_n C dX4_lays_83 rfl 0 rfl (isRV_r _) ?_
  refine X_iconst (v := 5) C dX4_lays_84 rfl ?_
  refine X_callVS (ci := 4) (q := (RX4, TX4, 54)) (As := [_]) (rest := []) C rfl (LX_S hX (k := 175) rfl) q1939 q1941 qs63 q136 q1942 ⟨rfl, nm_X4_finds⟩ rfl dX4_lays_85 (m_X4_finds (Cx_l C) hX (d := d - 1) (by omega) st 5 h) (by omega) (by decide) (Nat.le_of_ble_eq_true rfl) (fun s58 w59 hE60 hP61 => ?_) (fun s64 E62 q63 hE60 hP61 => ?_)
  rotate_left
  · exact False.elim hP61
  obtain ⟨r57, rfl, h⟩ := hP61
  refine X_tls ?_
  exact X_iret C rfl dX4_lays_88 (hn s58 _ h)
def w_X4_lays_b157 (Φ : St → Int32 → Prop) (K101 : St → Int32 → Int32 → Int32 → Int32 → Int32 → Prop) (st : St) (x1 : Int32) (x2 : Int32) (x3 : Int32) (x5 : Int32) (x6 : Int32) (z0 : Int32) (z1 : Int32) : Prop := ∀ v86 : Int32, v86 = (z1 + z0) → w_X4_numberAt st x2 x5 (fun (r88 : Int64) => vp_in x6 97 ∧ ∀ s97, s97 = putI st 177 (x6.toNatClampNeg) r88.toInt32 → K101 s97 x1 x2 x3 v86 (x5 + 1))
theorem t_X4_lays_b157 {θ : Th} {κ : Kx} {Ph : Ph} (hX : LX θ) {d : Nat} (hd : 1 ≤ d) (C : Cx θ κ yX4_lays cX4_lays 7 (some Jvm.ClassFile.FieldType.int) [] d) {Φ : St → Int32 → Prop} (hn : ∀ st r, Φ st r → Ph.1 st (some (.int r))) {K101 : St → Int32 → Int32 → Int32 → Int32 → Int32 → Prop} (hK101 : ∀ (st : St) (x1 : Int32) (x2 : Int32) (x3 : Int32) (x4 : Int32) (x5 : Int32), K101 st x1 x2 x3 x4 x5 → X θ κ Ph st 101 [(0, .ref (ad θ 175)), (1, .int x1), (2, .int x2), (3, .int x3), (4, .int x4), (5, .int x5)] []) (st : St) (x1 : Int32) (x2 : Int32) (x3 : Int32) (x5 : Int32) (x6 : Int32) (z0 : Int32) (z1 : Int32) (h : w_X4_lays_b157 Φ K101 st x1 x2 x3 x5 x6 z0 z1) : X θ κ Ph st 157 [(0, .ref (ad θ 175)), (1, .int x1), (2, .int x2), (3, .int x3), (5, .int x5), (6, .int x6)] [.int z0, .int z1] := by
  unfold w_X4_lays_b157 at h
  refine X_iadd C dX4_lays_157 ?_
  refine X_topi (fun v86 e87 => ?_)
  have h := h v86 e87
  refine X_istore C dX4_lays_158 (lo2 := [(4, _), (0, _), (1, _), (2, _), (3, _), (5, _), (6, _)]) (by decide) rfl ?_
  refine X_aload_n C dX4_lays_160 rfl 1 rfl (isRV_r _) ?_
  refine X_getF (ci := 4) (j := 1) (q := (RX4, TX4, 54)) C rfl (by decide) q1767 rfl dX4_lays_161 (b := 177) (LX_S hX (k := 175) rfl) (LX_F hX (k := 175) (j := 1) rfl) rfl ?_
  refine X_iload C dX4_lays_164 6 rfl ?_
  refine X_aload_n C dX4_lays_166 rfl 1 rfl (isRV_r _) ?_
  refine X_iload_n C dX4_lays_167 rfl 3 rfl ?_
  refine X_iload C dX4_lays_168 5 rfl ?_
  refine X_callVS (ci := 4) (q := (RX4, TX4, 54)) (As := [_, _]) (rest := [_, _]) C rfl (LX_S hX (k := 175) rfl) q1980 q1982 qs66 q136 q1983 ⟨rfl, nm_X4_numberAt⟩ rfl dX4_lays_170 (m_X4_numberAt (Cx_l C) hX (d := d - 1) (by omega) st x2 x5 h) (by omega) (by decide) (Nat.le_of_ble_eq_true rfl) (fun s94 w89 hE90 hP91 => ?_) (fun s95 E92 q93 hE90 hP91 => ?_)
  rotate_left
  · exact False.elim hP91
  obtain ⟨r88, rfl, rfl, h⟩ := hP91
  refine X_tls ?_
  refine X_l2i C dX4_lays_173 ?_
  have g96 := h.1
  have h := h.2
  refine X_iastS C (LX_S hX (k := 177) rfl) (LX_L hX (k := 177) rfl) g96 rfl dX4_lays_174 ?_
  refine X_nm (fun s97 e98 => ?_)
  have h := h s97 e98
  refine X_iinc (v := (x5 + 1)) C (j := 5) dX4_lays_175 rfl rfl (lo2 := [(5, _), (4, _), (0, _), (1, _), (2, _), (3, _), (6, _)]) (by decide) rfl ?_
  refine X_goto (tgt := 101) C dX4_lays_178 (by decide) ?_
  refine X_sub [2, 3, 4, 5, 1, 0] (lo2 := [(0, _), (1, _), (2, _), (3, _), (4, _), (5, _)]) rfl ?_
  exact hK101 s97 x1 x2 x3 v86 (x5 + 1) h
def w_X4_lays_l101 (Φ : St → Int32 → Prop) (E181 : St → Int32 → Prop) : Nat → St → Int32 → Int32 → Int32 → Int32 → Int32 → Prop
  | 0, _, _, _, _, _, _ => False
  | n + 1, st, x1, x2, x3, x4, x5 => ((x3 ≤ x5) → E181 st x4) ∧ ((¬ x3 ≤ x5) → ¬ (sI st 177 3) = 0 ∧ w_X4_place x1 (x5 / (sI st 177 3)) (x5 - x5 / (sI st 177 3) * (sI st 177 3)) (fun (r68 : Int32) => vp_in r68 97 ∧ w_X4_numberAt st x2 x5 (fun (r77 : Int64) => (((sI st 177 r68.toNatClampNeg).toInt64 = r77) → w_X4_lays_b157 Φ (w_X4_lays_l101 Φ E181 n) st x1 x2 x3 x5 r68 0 x4) ∧ ((¬ (sI st 177 r68.toNatClampNeg).toInt64 = r77) → w_X4_lays_b157 Φ (w_X4_lays_l101 Φ E181 n) st x1 x2 x3 x5 r68 1 x4))))
theorem t_X4_lays_l101 {θ : Th} {κ : Kx} {Ph : Ph} (hX : LX θ) {d : Nat} (hd : 1 ≤ d) (C : Cx θ κ yX4_lays cX4_lays 7 (some Jvm.ClassFile.FieldType.int) [] d) {Φ : St → Int32 → Prop} (hn : ∀ st r, Φ st r → Ph.1 st (some (.int r))) {E181 : St → Int32 → Prop} (hE181 : ∀ (st : St) (x4 : Int32), E181 st x4 → X θ κ Ph st 181 [(4, .int x4)] []) : ∀ (n : Nat) (st : St) (x1 : Int32) (x2 : Int32) (x3 : Int32) (x4 : Int32) (x5 : Int32), w_X4_lays_l101 Φ E181 n st x1 x2 x3 x4 x5 → X θ κ Ph st 101 [(0, .ref (ad θ 175)), (1, .int x1), (2, .int x2), (3, .int x3), (4, .int x4), (5, .int x5)] [] := by
  intro n
  induction n with
  | zero => intro st x1 x2 x3 x4 x5 h; exact h.elim
  | succ n hK101 =>
    intro st x1 x2 x3 x4 x5 h
    rw [w_X4_lays_l101] at h
    refine X_iload C dX4_lays_101 5 rfl ?_
    refine X_iload_n C dX4_lays_103 rfl 3 rfl ?_
    refine X_icmp_ge (tgt := 181) C dX4_lays_104 (by decide) (fun c66 => ?_) (fun c66 => ?_)
    · have h := h.1 c66
      refine X_sub [4] (lo2 := [(4, _)]) rfl ?_
      exact hE181 st x4 h
    · have h := h.2 c66
      refine X_iload_n C dX4_lays_107 rfl 1 rfl ?_
      refine X_iload C dX4_lays_108 5 rfl ?_
      refine X_aload_n C dX4_lays_110 rfl 0 rfl (isRV_r _) ?_
      refine X_getF (ci := 4) (j := 1) (q := (RX4, TX4, 54)) C rfl (by decide) q1767 rfl dX4_lays_111 (b := 177) (LX_S hX (k := 175) rfl) (LX_F hX (k := 175) (j := 1) rfl) rfl ?_
      refine X_iconst (v := 3) C dX4_lays_114 rfl ?_
      refine X_ialdS C (LX_S hX (k := 177) rfl) (LX_L hX (k := 177) rfl) (vp_dec rfl) rfl dX4_lays_115 ?_
      have g67 := h.1
      have h := h.2
      refine X_idiv C dX4_lays_116 g67 ?_
      refine X_iload C dX4_lays_117 5 rfl ?_
      refine X_aload_n C dX4_lays_119 rfl 0 rfl (isRV_r _) ?_
      refine X_getF (ci := 4) (j := 1) (q := (RX4, TX4, 54)) C rfl (by decide) q1767 rfl dX4_lays_120 (b := 177) (LX_S hX (k := 175) rfl) (LX_F hX (k := 175) (j := 1) rfl) rfl ?_
      refine X_iconst (v := 3) C dX4_lays_123 rfl ?_
      refine X_ialdS C (LX_S hX (k := 177) rfl) (LX_L hX (k := 177) rfl) (vp_dec rfl) rfl dX4_lays_124 ?_
      refine X_irem C dX4_lays_125 g67 ?_
      refine X_callS (As := [_, _, _]) (rest := []) C q1966 q1967 q136 q1968 nm_X4_place rfl dX4_lays_126 (m_X4_place (Cx_l C) hX (d := d - 1) (by omega) st x1 (x5 / (sI st 177 3)) (x5 - x5 / (sI st 177 3) * (sI st 177 3)) h) (by omega) (by decide) (Nat.le_of_ble_eq_true rfl) (fun s74 w69 hE70 hP71 => ?_) (fun s75 E72 q73 hE70 hP71 => ?_)
      rotate_left
      · exact False.elim hP71
      obtain ⟨r68, rfl, rfl, h⟩ := hP71
      refine X_tls ?_
      refine X_istore C dX4_lays_129 (lo2 := [(6, _), (0, _), (1, _), (2, _), (3, _), (4, _), (5, _)]) (by decide) rfl ?_
      refine X_iload C dX4_lays_131 5 rfl ?_
      refine X_aload_n C dX4_lays_133 rfl 1 rfl (isRV_r _) ?_
      refine X_getF (ci := 4) (j := 1) (q := (RX4, TX4, 54)) C rfl (by decide) q1767 rfl dX4_lays_134 (b := 177) (LX_S hX (k := 175) rfl) (LX_F hX (k := 175) (j := 1) rfl) rfl ?_
      refine X_iload C dX4_lays_137 0 rfl ?_
      have g76 := h.1
      have h := h.2
      refine X_ialdS C (LX_S hX (k := 177) rfl) (LX_L hX (k := 177) rfl) g76 rfl dX4_lays_139 ?_
      refine X_i2l C dX4_lays_140 ?_
      refine X_aload_n C dX4_lays_141 rfl 1 rfl (isRV_r _) ?_
      refine X_iload_n C dX4_lays_142 rfl 3 rfl ?_
      refine X_iload C dX4_lays_143 6 rfl ?_
      refine X_callVS (ci := 4) (q := (RX4, TX4, 54)) (As := [_, _]) (rest := [_, _]) C rfl (LX_S hX (k := 175) rfl) q1980 q1982 qs66 q136 q1983 ⟨rfl, nm_X4_numberAt⟩ rfl dX4_lays_145 (m_X4_numberAt (Cx_l C) hX (d := d - 1) (by omega) st x2 x5 h) (by omega) (by decide) (Nat.le_of_ble_eq_true rfl) (fun s83 w78 hE79 hP80 => ?_) (fun s84 E81 q82 hE79 hP80 => ?_)
      rotate_left
      · exact False.elim hP80
      obtain ⟨r77, rfl, rfl, h⟩ := hP80
      refine X_tls ?_
      refine X_lcmp_eq (tgt := 156) C dX4_lays_148 dX4_lays_149 (by decide) (fun c85 => ?_) (fun c85 => ?_)
      · have h := h.1 c85
        refine X_iconst (v := 0) C dX4_lays_156 rfl ?_
        refine X_sub [1, 2, 3, 4, 6, 0] (lo2 := [(0, _), (1, _), (2, _), (3, _), (5, _), (6, _)]) rfl ?_
        exact t_X4_lays_b157 hX hd C hn hK101 st x1 x2 x3 x5 r68 0 x4 h
      · have h := h.2 c85
        refine X_iconst (v := 1) C dX4_lays_152 rfl ?_
        refine X_goto (tgt := 157) C dX4_lays_153 (by decide) ?_
        refine X_sub [1, 2, 3, 4, 6, 0] (lo2 := [(0, _), (1, _), (2, _), (3, _), (5, _), (6, _)]) rfl ?_
        exact t_X4_lays_b157 hX hd C hn hK101 st x1 x2 x3 x5 r68 1 x4 h
def w_X4_lays_b181 (Φ : St → Int32 → Prop) (st : St) (x4 : Int32) : Prop := Φ st x4
theorem t_X4_lays_b181 {θ : Th} {κ : Kx} {Ph : Ph} (hX : LX θ) {d : Nat} (hd : 1 ≤ d) (C : Cx θ κ yX4_lays cX4_lays 7 (some Jvm.ClassFile.FieldType.int) [] d) {Φ : St → Int32 → Prop} (hn : ∀ st r, Φ st r → Ph.1 st (some (.int r))) (st : St) (x4 : Int32) (h : w_X4_lays_b181 Φ st x4) : X θ κ Ph st 181 [(4, .int x4)] [] := by
  unfold w_X4_lays_b181 at h
  refine X_iload C dX4_lays_181 0 rfl ?_
  exact X_iret C rfl dX4_lays_183 (hn st _ h)
def w_X4_lays_b95 (Φ : St → Int32 → Prop) (st : St) (x1 : Int32) (x2 : Int32) (x3 : Int32) : Prop := w_X4_lays_l101 Φ (fun (s99 : St) (x4 : Int32) => w_X4_lays_b181 Φ s99 x4) gFU st x1 x2 x3 0 0
theorem t_X4_lays_b95 {θ : Th} {κ : Kx} {Ph : Ph} (hX : LX θ) {d : Nat} (hd : 1 ≤ d) (C : Cx θ κ yX4_lays cX4_lays 7 (some Jvm.ClassFile.FieldType.int) [] d) {Φ : St → Int32 → Prop} (hn : ∀ st r, Φ st r → Ph.1 st (some (.int r))) (st : St) (x1 : Int32) (x2 : Int32) (x3 : Int32) (h : w_X4_lays_b95 Φ st x1 x2 x3) : X θ κ Ph st 95 [(0, .ref (ad θ 175)), (1, .int x1), (2, .int x2), (3, .int x3)] [] := by
  unfold w_X4_lays_b95 at h
  refine X_iconst (v := 0) C dX4_lays_95 rfl ?_
  refine X_istore C dX4_lays_96 (lo2 := [(4, _), (0, _), (1, _), (2, _), (3, _)]) (by decide) rfl ?_
  refine X_iconst (v := 0) C dX4_lays_98 rfl ?_
  refine X_istore C dX4_lays_99 (lo2 := [(5, _), (4, _), (0, _), (1, _), (2, _), (3, _)]) (by decide) rfl ?_
  refine X_sub [2, 3, 4, 5, 1, 0] (lo2 := [(0, _), (1, _), (2, _), (3, _), (4, _), (5, _)]) rfl ?_
  refine t_X4_lays_l101 hX hd C hn ?_ gFU st x1 x2 x3 0 0 h
  · intro s99 x4 h
    exact t_X4_lays_b181 hX hd C hn s99 x4 h
def w_X4_lays (st : St) (p1 : Int32) (p2 : Int32) (Φ : St → Int32 → Prop) : Prop := w_X4_isIn p1.toInt64 0 2 (fun (r1 : Int32) => ((r1 = 0) → w_X4_lays_b19 Φ st) ∧ ((¬ r1 = 0) → w_X4_isSheet p2 (fun (r18 : Int32) => ((r18 ≠ 0) → ∀ v27 : Int32, v27 = ((sI st 177 2) * (sI st 177 3)) → w_X4_hasFew st p2 v27 (fun (r29 : Int32) => ((r29 = 0) → w_X4_lays_l58 Φ (fun (s56 : St) => w_X4_lays_b83 Φ s56) (fun (s65 : St) (x1 : Int32) (x2 : Int32) (x3 : Int32) => w_X4_lays_b95 Φ s65 x1 x2 x3) gFU st p1 p2 v27 0) ∧ ((¬ r29 = 0) → w_X4_finds st 8 (fun (s101 : St) (r100 : Int32) => Φ s101 r100)))) ∧ ((r18 = 0) → w_X4_lays_b19 Φ st))))
theorem nm_X4_lays : yX4_lays.cls ≠ "java/lang/invoke/MethodHandle" ∧ yX4_lays.cls ≠ "java/lang/invoke/VarHandle" ∧ (parseMethodDescriptor yX4_lays.desc).map (fun d => d.parameters.length) = some 2 := by decide +kernel
theorem e_X4_lays : plainFor yX4_lays = true := plainFor_of_name (by decide +kernel)
theorem m_X4_lays {θ : Th} {l : Launch} (hl0 : l.stackTraces = false) (hX : LX θ) {d : Nat} (hd : 1 ≤ d) (st : St) (p1 : Int32) (p2 : Int32) {Φ : St → Int32 → Prop} (h : w_X4_lays st p1 p2 Φ) : Ct θ l yX4_lays (ws_ yX4_lays cX4_lays 7 (some Jvm.ClassFile.FieldType.int)) d [.ref (ad θ 175), .int p1, .int p2] st (pI Φ, noX) := by
  refine Ct_entry hl0 e_X4_lays (Nat.le_of_ble_eq_true rfl) (fun κ hκ _ C => ?_)
  have hn : ∀ st r, Φ st r → ((pI Φ, noX) : Ph).1 st (some (.int r)) := fun st r q => ⟨r, rfl, q⟩
  change X _ _ _ _ _ [(0, .ref (ad θ 175)), (1, .int p1), (2, .int p2)] _
  unfold w_X4_lays at h
  refine X_iload_n C dX4_lays_0 rfl 1 rfl ?_
  refine X_i2l C dX4_lays_1 ?_
  refine X_lconst (v := 0) C dX4_lays_2 rfl ?_
  refine X_ldc2 C q1934 dX4_lays_3 ?_
  refine X_callS (As := [_, _, _]) (rest := []) C q1936 q1937 q136 q1938 nm_X4_isIn rfl dX4_lays_6 (m_X4_isIn (Cx_l C) hX (d := d - 1) (by omega) st p1.toInt64 0 2 h) (by omega) (by decide) (Nat.le_of_ble_eq_true rfl) (fun s7 w2 hE3 hP4 => ?_) (fun s8 E5 q6 hE3 hP4 => ?_)
  rotate_left
  · exact False.elim hP4
  obtain ⟨r1, rfl, rfl, h⟩ := hP4
  refine X_tls ?_
  refine X_if_eq (tgt := 19) C dX4_lays_9 (by decide) (fun c9 => ?_) (fun c9 => ?_)
  · have h := h.1 c9
    refine X_sub [0] (lo2 := [(0, _)]) rfl ?_
    exact t_X4_lays_b19 hX hd C hn st h
  · have h := h.2 c9
    refine X_iload_n C dX4_lays_12 rfl 2 rfl ?_
    refine X_callS (As := [_]) (rest := []) C q1973 q1974 q136 q1975 nm_X4_isSheet rfl dX4_lays_13 (m_X4_isSheet (Cx_l C) hX (d := d - 1) (by omega) st p2 h) (by omega) (by decide) (Nat.le_of_ble_eq_true rfl) (fun s24 w19 hE20 hP21 => ?_) (fun s25 E22 q23 hE20 hP21 => ?_)
    rotate_left
    · exact False.elim hP21
    obtain ⟨r18, rfl, rfl, h⟩ := hP21
    refine X_tls ?_
    refine X_if_ne (tgt := 25) C dX4_lays_16 (by decide) (fun c26 => ?_) (fun c26 => ?_)
    · have h := h.1 c26
      refine X_aload_n C dX4_lays_25 rfl 0 rfl (isRV_r _) ?_
      refine X_getF (ci := 4) (j := 1) (q := (RX4, TX4, 54)) C rfl (by decide) q1767 rfl dX4_lays_26 (b := 177) (LX_S hX (k := 175) rfl) (LX_F hX (k := 175) (j := 1) rfl) rfl ?_
      refine X_iconst (v := 2) C dX4_lays_29 rfl ?_
      refine X_ialdS C (LX_S hX (k := 177) rfl) (LX_L hX (k := 177) rfl) (vp_dec rfl) rfl dX4_lays_30 ?_
      refine X_aload_n C dX4_lays_31 rfl 0 rfl (isRV_r _) ?_
      refine X_getF (ci := 4) (j := 1) (q := (RX4, TX4, 54)) C rfl (by decide) q1767 rfl dX4_lays_32 (b := 177) (LX_S hX (k := 175) rfl) (LX_F hX (k := 175) (j := 1) rfl) rfl ?_
      refine X_iconst (v := 3) C dX4_lays_35 rfl ?_
      refine X_ialdS C (LX_S hX (k := 177) rfl) (LX_L hX (k := 177) rfl) (vp_dec rfl) rfl dX4_lays_36 ?_
      refine X_imul C dX4_lays_37 ?_
      refine X_topi (fun v27 e28 => ?_)
      have h := h v27 e28
      refine X_istore_n C dX4_lays_38 rfl (lo2 := [(3, _), (0, _), (1, _), (2, _)]) (by decide) rfl ?_
      refine X_aload_n C dX4_lays_39 rfl 1 rfl (isRV_r _) ?_
      refine X_iload_n C dX4_lays_40 rfl 3 rfl ?_
      refine X_iload_n C dX4_lays_41 rfl 0 rfl ?_
      refine X_callVS (ci := 4) (q := (RX4, TX4, 54)) (As := [_, _]) (rest := []) C rfl (LX_S hX (k := 175) rfl) q1976 q1978 qs65 q136 q1979 ⟨rfl, nm_X4_hasFew⟩ rfl dX4_lays_42 (m_X4_hasFew (Cx_l C) hX (d := d - 1) (by omega) st p2 v27 h) (by omega) (by decide) (Nat.le_of_ble_eq_true rfl) (fun s35 w30 hE31 hP32 => ?_) (fun s36 E33 q34 hE31 hP32 => ?_)
      rotate_left
      · exact False.elim hP32
      obtain ⟨r29, rfl, rfl, h⟩ := hP32
      refine X_tls ?_
      refine X_if_eq (tgt := 55) C dX4_lays_45 (by decide) (fun c37 => ?_) (fun c37 => ?_)
      · have h := h.1 c37
        refine X_iconst (v := 0) C dX4_lays_55 rfl ?_
        refine X_istore C dX4_lays_56 (lo2 := [(4, _), (3, _), (0, _), (1, _), (2, _)]) (by decide) rfl ?_
        refine X_sub [2, 3, 4, 1, 0] (lo2 := [(0, _), (1, _), (2, _), (3, _), (4, _)]) rfl ?_
        refine t_X4_lays_l58 hX hd C hn ?_ ?_ gFU st p1 p2 v27 0 h
        · intro s56 h
          exact t_X4_lays_b83 hX hd C hn s56 h
        · intro s65 x1 x2 x3 h
          exact t_X4_lays_b95 hX hd C hn s65 x1 x2 x3 h
      · have h := h.2 c37
        refine X_aload_n C dX4_lays_48 rfl 1 rfl (isRV_r _) ?_
        refine X_bipush (v := 8) C dX4_lays_49 rfl ?_
        refine X_callVS (ci := 4) (q := (RX4, TX4, 54)) (As := [_]) (rest := []) C rfl (LX_S hX (k := 175) rfl) q1939 q1941 qs63 q136 q1942 ⟨rfl, nm_X4_finds⟩ rfl dX4_lays_51 (m_X4_finds (Cx_l C) hX (d := d - 1) (by omega) st 8 h) (by omega) (by decide) (Nat.le_of_ble_eq_true rfl) (fun s101 w102 hE103 hP104 => ?_) (fun s107 E105 q106 hE103 hP104 => ?_)
        rotate_left
        · exact False.elim hP104
        obtain ⟨r100, rfl, h⟩ := hP104
        refine X_tls ?_
        exact X_iret C rfl dX4_lays_54 (hn s101 _ h)
    · have h := h.2 c26
      refine X_sub [0] (lo2 := [(0, _)]) rfl ?_
      exact t_X4_lays_b19 hX hd C hn st h

def w_X4_look (st : St) (p1 : Int32) (p2 : Int32) (p3 : Int32) (Φ : St → Int32 → Prop) : Prop := w_X4_isCell p1 p2 p3 (fun (r1 : Int32) => ((r1 = 0) → w_X4_finds st 1 (fun (s11 : St) (r10 : Int32) => Φ s11 r10)) ∧ ((¬ r1 = 0) → w_X4_place p1 p2 p3 (fun (r18 : Int32) => vp_in r18 97 ∧ Φ st (sI st 177 r18.toNatClampNeg))))
theorem nm_X4_look : yX4_look.cls ≠ "java/lang/invoke/MethodHandle" ∧ yX4_look.cls ≠ "java/lang/invoke/VarHandle" ∧ (parseMethodDescriptor yX4_look.desc).map (fun d => d.parameters.length) = some 3 := by decide +kernel
theorem e_X4_look : plainFor yX4_look = true := plainFor_of_name (by decide +kernel)
theorem m_X4_look {θ : Th} {l : Launch} (hl0 : l.stackTraces = false) (hX : LX θ) {d : Nat} (hd : 2 ≤ d) (st : St) (p1 : Int32) (p2 : Int32) (p3 : Int32) {Φ : St → Int32 → Prop} (h : w_X4_look st p1 p2 p3 Φ) : Ct θ l yX4_look (ws_ yX4_look cX4_look 4 (some Jvm.ClassFile.FieldType.int)) d [.ref (ad θ 175), .int p1, .int p2, .int p3] st (pI Φ, noX) := by
  refine Ct_entry hl0 e_X4_look (Nat.le_of_ble_eq_true rfl) (fun κ hκ _ C => ?_)
  have hn : ∀ st r, Φ st r → ((pI Φ, noX) : Ph).1 st (some (.int r)) := fun st r q => ⟨r, rfl, q⟩
  change X _ _ _ _ _ [(0, .ref (ad θ 175)), (1, .int p1), (2, .int p2), (3, .int p3)] _
  unfold w_X4_look at h
  refine X_iload_n C dX4_look_0 rfl 1 rfl ?_
  refine X_iload_n C dX4_look_1 rfl 2 rfl ?_
  refine X_iload_n C dX4_look_2 rfl 3 rfl ?_
  refine X_callS (As := [_, _, _]) (rest := []) C q1961 q1962 q136 q1963 nm_X4_isCell rfl dX4_look_3 (m_X4_isCell (Cx_l C) hX (d := d - 1) (by omega) st p1 p2 p3 h) (by omega) (by decide) (Nat.le_of_ble_eq_true rfl) (fun s7 w2 hE3 hP4 => ?_) (fun s8 E5 q6 hE3 hP4 => ?_)
  rotate_left
  · exact False.elim hP4
  obtain ⟨r1, rfl, rfl, h⟩ := hP4
  refine X_tls ?_
  refine X_if_eq (tgt := 23) C dX4_look_6 (by decide) (fun c9 => ?_) (fun c9 => ?_)
  · have h := h.1 c9
    refine X_aload_n C dX4_look_23 rfl 0 rfl (isRV_r _) ?_
    refine X_iconst (v := 1) C dX4_look_24 rfl ?_
    refine X_callVS (ci := 4) (q := (RX4, TX4, 54)) (As := [_]) (rest := []) C rfl (LX_S hX (k := 175) rfl) q1939 q1941 qs63 q136 q1942 ⟨rfl, nm_X4_finds⟩ rfl dX4_look_25 (m_X4_finds (Cx_l C) hX (d := d - 1) (by omega) st 1 h) (by omega) (by decide) (Nat.le_of_ble_eq_true rfl) (fun s11 w12 hE13 hP14 => ?_) (fun s17 E15 q16 hE13 hP14 => ?_)
    rotate_left
    · exact False.elim hP14
    obtain ⟨r10, rfl, h⟩ := hP14
    refine X_tls ?_
    exact X_iret C rfl dX4_look_28 (hn s11 _ h)
  · have h := h.2 c9
    refine X_aload_n C dX4_look_9 rfl 0 rfl (isRV_r _) ?_
    refine X_getF (ci := 4) (j := 1) (q := (RX4, TX4, 54)) C rfl (by decide) q1767 rfl dX4_look_10 (b := 177) (LX_S hX (k := 175) rfl) (LX_F hX (k := 175) (j := 1) rfl) rfl ?_
    refine X_iload_n C dX4_look_13 rfl 1 rfl ?_
    refine X_iload_n C dX4_look_14 rfl 2 rfl ?_
    refine X_iload_n C dX4_look_15 rfl 3 rfl ?_
    refine X_callS (As := [_, _, _]) (rest := [_]) C q1966 q1967 q136 q1968 nm_X4_place rfl dX4_look_16 (m_X4_place (Cx_l C) hX (d := d - 1) (by omega) st p1 p2 p3 h) (by omega) (by decide) (Nat.le_of_ble_eq_true rfl) (fun s24 w19 hE20 hP21 => ?_) (fun s25 E22 q23 hE20 hP21 => ?_)
    rotate_left
    · exact False.elim hP21
    obtain ⟨r18, rfl, rfl, h⟩ := hP21
    refine X_tls ?_
    have g26 := h.1
    have h := h.2
    refine X_ialdS C (LX_S hX (k := 177) rfl) (LX_L hX (k := 177) rfl) g26 rfl dX4_look_19 ?_
    refine X_goto (tgt := 28) C dX4_look_20 (by decide) ?_
    exact X_iret C rfl dX4_look_28 (hn st _ h)

def w_X4_points (st0 : St) (Φ : Int32 → Prop) : Prop := (((sI st0 177 0) ≠ 2) → Φ ((((sI st0 177 1) + 1) * ((sI st0 177 1) + 2)) / 2)) ∧ (((sI st0 177 0) = 2) → Φ ((sI st0 177 1) + 1))
theorem nm_X4_points : yX4_points.cls ≠ "java/lang/invoke/MethodHandle" ∧ yX4_points.cls ≠ "java/lang/invoke/VarHandle" ∧ (parseMethodDescriptor yX4_points.desc).map (fun d => d.parameters.length) = some 0 := by decide +kernel
theorem e_X4_points : plainFor yX4_points = true := plainFor_of_name (by decide +kernel)
theorem m_X4_points {θ : Th} {l : Launch} (hl0 : l.stackTraces = false) (hX : LX θ) {d : Nat} (hd : 0 ≤ d) (st0 : St) {Φ : Int32 → Prop} (h : w_X4_points st0 Φ) : Ct θ l yX4_points (ws_ yX4_points cX4_points 1 (some Jvm.ClassFile.FieldType.int)) d [.ref (ad θ 175)] st0 (rI st0 Φ, noX) := by
  refine Ct_entry hl0 e_X4_points (Nat.le_of_ble_eq_true rfl) (fun κ hκ _ C => ?_)
  have hn : ∀ r, Φ r → ((rI st0 Φ, noX) : Ph).1 st0 (some (.int r)) := fun r q => ⟨r, rfl, rfl, q⟩
  change X _ _ _ _ _ [(0, .ref (ad θ 175))] _
  unfold w_X4_points at h
  refine X_aload_n C dX4_points_0 rfl 0 rfl (isRV_r _) ?_
  refine X_getF (ci := 4) (j := 1) (q := (RX4, TX4, 54)) C rfl (by decide) q1767 rfl dX4_points_1 (b := 177) (LX_S hX (k := 175) rfl) (LX_F hX (k := 175) (j := 1) rfl) rfl ?_
  refine X_iconst (v := 0) C dX4_points_4 rfl ?_
  refine X_ialdS C (LX_S hX (k := 177) rfl) (LX_L hX (k := 177) rfl) (vp_dec rfl) rfl dX4_points_5 ?_
  refine X_iconst (v := 2) C dX4_points_6 rfl ?_
  refine X_icmp_ne (tgt := 21) C dX4_points_7 (by decide) (fun c1 => ?_) (fun c1 => ?_)
  · have h := h.1 c1
    refine X_aload_n C dX4_points_21 rfl 0 rfl (isRV_r _) ?_
    refine X_getF (ci := 4) (j := 1) (q := (RX4, TX4, 54)) C rfl (by decide) q1767 rfl dX4_points_22 (b := 177) (LX_S hX (k := 175) rfl) (LX_F hX (k := 175) (j := 1) rfl) rfl ?_
    refine X_iconst (v := 1) C dX4_points_25 rfl ?_
    refine X_ialdS C (LX_S hX (k := 177) rfl) (LX_L hX (k := 177) rfl) (vp_dec rfl) rfl dX4_points_26 ?_
    refine X_iconst (v := 1) C dX4_points_27 rfl ?_
    refine X_iadd C dX4_points_28 ?_
    refine X_aload_n C dX4_points_29 rfl 0 rfl (isRV_r _) ?_
    refine X_getF (ci := 4) (j := 1) (q := (RX4, TX4, 54)) C rfl (by decide) q1767 rfl dX4_points_30 (b := 177) (LX_S hX (k := 175) rfl) (LX_F hX (k := 175) (j := 1) rfl) rfl ?_
    refine X_iconst (v := 1) C dX4_points_33 rfl ?_
    refine X_ialdS C (LX_S hX (k := 177) rfl) (LX_L hX (k := 177) rfl) (vp_dec rfl) rfl dX4_points_34 ?_
    refine X_iconst (v := 2) C dX4_points_35 rfl ?_
    refine X_iadd C dX4_points_36 ?_
    refine X_imul C dX4_points_37 ?_
    refine X_iconst (v := 2) C dX4_points_38 rfl ?_
    refine X_idiv C dX4_points_39 (by decide) ?_
    exact X_iret C rfl dX4_points_40 (hn _ h)
  · have h := h.2 c1
    refine X_aload_n C dX4_points_10 rfl 0 rfl (isRV_r _) ?_
    refine X_getF (ci := 4) (j := 1) (q := (RX4, TX4, 54)) C rfl (by decide) q1767 rfl dX4_points_11 (b := 177) (LX_S hX (k := 175) rfl) (LX_F hX (k := 175) (j := 1) rfl) rfl ?_
    refine X_iconst (v := 1) C dX4_points_14 rfl ?_
    refine X_ialdS C (LX_S hX (k := 177) rfl) (LX_L hX (k := 177) rfl) (vp_dec rfl) rfl dX4_points_15 ?_
    refine X_iconst (v := 1) C dX4_points_16 rfl ?_
    refine X_iadd C dX4_points_17 ?_
    refine X_goto (tgt := 40) C dX4_points_18 (by decide) ?_
    exact X_iret C rfl dX4_points_40 (hn _ h)

def w_X4_isPoint (st0 : St) (p1 : Int32) (Φ : Int32 → Prop) : Prop := ((p1 < 0) → Φ 0) ∧ ((¬ p1 < 0) → w_X4_points st0 (fun (r2 : Int32) => ((r2 ≤ p1) → Φ 0) ∧ ((¬ r2 ≤ p1) → Φ 1)))
theorem nm_X4_isPoint : yX4_isPoint.cls ≠ "java/lang/invoke/MethodHandle" ∧ yX4_isPoint.cls ≠ "java/lang/invoke/VarHandle" ∧ (parseMethodDescriptor yX4_isPoint.desc).map (fun d => d.parameters.length) = some 1 := by decide +kernel
theorem e_X4_isPoint : plainFor yX4_isPoint = true := plainFor_of_name (by decide +kernel)
theorem m_X4_isPoint {θ : Th} {l : Launch} (hl0 : l.stackTraces = false) (hX : LX θ) {d : Nat} (hd : 1 ≤ d) (st0 : St) (p1 : Int32) {Φ : Int32 → Prop} (h : w_X4_isPoint st0 p1 Φ) : Ct θ l yX4_isPoint (ws_ yX4_isPoint cX4_isPoint 2 (some Jvm.ClassFile.FieldType.boolean)) d [.ref (ad θ 175), .int p1] st0 (rI st0 Φ, noX) := by
  refine Ct_entry hl0 e_X4_isPoint (Nat.le_of_ble_eq_true rfl) (fun κ hκ _ C => ?_)
  have hn : ∀ r, Φ r → ((rI st0 Φ, noX) : Ph).1 st0 (some (.int r)) := fun r q => ⟨r, rfl, rfl, q⟩
  change X _ _ _ _ _ [(0, .ref (ad θ 175)), (1, .int p1)] _
  unfold w_X4_isPoint at h
  refine X_iload_n C dX4_isPoint_0 rfl 1 rfl ?_
  refine X_if_lt (tgt := 16) C dX4_isPoint_1 (by decide) (fun c1 => ?_) (fun c1 => ?_)
  · have h := h.1 c1
    refine X_iconst (v := 0) C dX4_isPoint_16 rfl ?_
    exact X_zret C rfl rfl dX4_isPoint_17 (hn _ h)
  · have h := h.2 c1
    refine X_iload_n C dX4_isPoint_4 rfl 1 rfl ?_
    refine X_aload_n C dX4_isPoint_5 rfl 0 rfl (isRV_r _) ?_
    refine X_callVS (ci := 4) (q := (RX4, TX4, 54)) (As := []) (rest := [_]) C rfl (LX_S hX (k := 175) rfl) q1996 q1998 qs68 q136 q1999 ⟨rfl, nm_X4_points⟩ rfl dX4_isPoint_6 (m_X4_points (Cx_l C) hX (d := d - 1) (by omega) st0 h) (by omega) (by decide) (Nat.le_of_ble_eq_true rfl) (fun s8 w3 hE4 hP5 => ?_) (fun s9 E6 q7 hE4 hP5 => ?_)
    rotate_left
    · exact False.elim hP5
    obtain ⟨r2, rfl, rfl, h⟩ := hP5
    refine X_tls ?_
    refine X_icmp_ge (tgt := 16) C dX4_isPoint_9 (by decide) (fun c10 => ?_) (fun c10 => ?_)
    · have h := h.1 c10
      refine X_iconst (v := 0) C dX4_isPoint_16 rfl ?_
      exact X_zret C rfl rfl dX4_isPoint_17 (hn _ h)
    · have h := h.2 c10
      refine X_iconst (v := 1) C dX4_isPoint_12 rfl ?_
      refine X_goto (tgt := 17) C dX4_isPoint_13 (by decide) ?_
      exact X_zret C rfl rfl dX4_isPoint_17 (hn _ h)

def w_X4_prior (st : St) (p1 : Int32) (Φ : St → Int32 → Prop) : Prop := w_X4_isPoint st p1 (fun (r1 : Int32) => ((r1 ≠ 0) → ∀ v10 : Int32, v10 = (sI st 177 31) → ∀ s12, s12 = putI st 177 31 p1 → Φ s12 v10) ∧ ((r1 = 0) → w_X4_finds st 1 (fun (s15 : St) (r14 : Int32) => Φ s15 r14)))
theorem nm_X4_prior : yX4_prior.cls ≠ "java/lang/invoke/MethodHandle" ∧ yX4_prior.cls ≠ "java/lang/invoke/VarHandle" ∧ (parseMethodDescriptor yX4_prior.desc).map (fun d => d.parameters.length) = some 1 := by decide +kernel
theorem e_X4_prior : plainFor yX4_prior = true := plainFor_of_name (by decide +kernel)
theorem m_X4_prior {θ : Th} {l : Launch} (hl0 : l.stackTraces = false) (hX : LX θ) {d : Nat} (hd : 2 ≤ d) (st : St) (p1 : Int32) {Φ : St → Int32 → Prop} (h : w_X4_prior st p1 Φ) : Ct θ l yX4_prior (ws_ yX4_prior cX4_prior 3 (some Jvm.ClassFile.FieldType.int)) d [.ref (ad θ 175), .int p1] st (pI Φ, noX) := by
  refine Ct_entry hl0 e_X4_prior (Nat.le_of_ble_eq_true rfl) (fun κ hκ _ C => ?_)
  have hn : ∀ st r, Φ st r → ((pI Φ, noX) : Ph).1 st (some (.int r)) := fun st r q => ⟨r, rfl, q⟩
  change X _ _ _ _ _ [(0, .ref (ad θ 175)), (1, .int p1)] _
  unfold w_X4_prior at h
  refine X_aload_n C dX4_prior_0 rfl 0 rfl (isRV_r _) ?_
  refine X_iload_n C dX4_prior_1 rfl 1 rfl ?_
  refine X_callVS (ci := 4) (q := (RX4, TX4, 54)) (As := [_]) (rest := []) C rfl (LX_S hX (k := 175) rfl) q1992 q1994 qs67 q136 q1995 ⟨rfl, nm_X4_isPoint⟩ rfl dX4_prior_2 (m_X4_isPoint (Cx_l C) hX (d := d - 1) (by omega) st p1 h) (by omega) (by decide) (Nat.le_of_ble_eq_true rfl) (fun s7 w2 hE3 hP4 => ?_) (fun s8 E5 q6 hE3 hP4 => ?_)
  rotate_left
  · exact False.elim hP4
  obtain ⟨r1, rfl, rfl, h⟩ := hP4
  refine X_tls ?_
  refine X_if_ne (tgt := 14) C dX4_prior_5 (by decide) (fun c9 => ?_) (fun c9 => ?_)
  · have h := h.1 c9
    refine X_aload_n C dX4_prior_14 rfl 0 rfl (isRV_r _) ?_
    refine X_getF (ci := 4) (j := 1) (q := (RX4, TX4, 54)) C rfl (by decide) q1767 rfl dX4_prior_15 (b := 177) (LX_S hX (k := 175) rfl) (LX_F hX (k := 175) (j := 1) rfl) rfl ?_
    refine X_bipush (v := 31) C dX4_prior_18 rfl ?_
    refine X_ialdS C (LX_S hX (k := 177) rfl) (LX_L hX (k := 177) rfl) (vp_dec rfl) rfl dX4_prior_20 ?_
    refine X_topi (fun v10 e11 => ?_)
    have h := h v10 e11
    refine X_istore_n C dX4_prior_21 rfl (lo2 := [(2, _), (0, _), (1, _)]) (by decide) rfl ?_
    refine X_aload_n C dX4_prior_22 rfl 1 rfl (isRV_r _) ?_
    refine X_getF (ci := 4) (j := 1) (q := (RX4, TX4, 54)) C rfl (by decide) q1767 rfl dX4_prior_23 (b := 177) (LX_S hX (k := 175) rfl) (LX_F hX (k := 175) (j := 1) rfl) rfl ?_
    refine X_bipush (v := 31) C dX4_prior_26 rfl ?_
    refine X_iload_n C dX4_prior_28 rfl 2 rfl ?_
    refine X_iastS C (LX_S hX (k := 177) rfl) (LX_L hX (k := 177) rfl) (vp_dec rfl) rfl dX4_prior_29 ?_
    refine X_nm (fun s12 e13 => ?_)
    have h := h s12 e13
    refine X_iload_n C dX4_prior_30 rfl 0 rfl ?_
    exact X_iret C rfl dX4_prior_31 (hn s12 _ h)
  · have h := h.2 c9
    refine X_aload_n C dX4_prior_8 rfl 0 rfl (isRV_r _) ?_
    refine X_iconst (v := 1) C dX4_prior_9 rfl ?_
    refine X_callVS (ci := 4) (q := (RX4, TX4, 54)) (As := [_]) (rest := []) C rfl (LX_S hX (k := 175) rfl) q1939 q1941 qs63 q136 q1942 ⟨rfl, nm_X4_finds⟩ rfl dX4_prior_10 (m_X4_finds (Cx_l C) hX (d := d - 1) (by omega) st 1 h) (by omega) (by decide) (Nat.le_of_ble_eq_true rfl) (fun s15 w16 hE17 hP18 => ?_) (fun s21 E19 q20 hE17 hP18 => ?_)
    rotate_left
    · exact False.elim hP18
    obtain ⟨r14, rfl, h⟩ := hP18
    refine X_tls ?_
    exact X_iret C rfl dX4_prior_13 (hn s15 _ h)

def w_X4_isState (st0 : St) (p1 : Int32) (Φ : Int32 → Prop) : Prop := ((p1 < 0) → Φ 0) ∧ ((¬ p1 < 0) → (((sI st0 177 0) ≤ p1) → Φ 0) ∧ ((¬ (sI st0 177 0) ≤ p1) → Φ 1))
theorem nm_X4_isState : yX4_isState.cls ≠ "java/lang/invoke/MethodHandle" ∧ yX4_isState.cls ≠ "java/lang/invoke/VarHandle" ∧ (parseMethodDescriptor yX4_isState.desc).map (fun d => d.parameters.length) = some 1 := by decide +kernel
theorem e_X4_isState : plainFor yX4_isState = true := plainFor_of_name (by decide +kernel)
theorem m_X4_isState {θ : Th} {l : Launch} (hl0 : l.stackTraces = false) (hX : LX θ) {d : Nat} (hd : 0 ≤ d) (st0 : St) (p1 : Int32) {Φ : Int32 → Prop} (h : w_X4_isState st0 p1 Φ) : Ct θ l yX4_isState (ws_ yX4_isState cX4_isState 2 (some Jvm.ClassFile.FieldType.boolean)) d [.ref (ad θ 175), .int p1] st0 (rI st0 Φ, noX) := by
  refine Ct_entry hl0 e_X4_isState (Nat.le_of_ble_eq_true rfl) (fun κ hκ _ C => ?_)
  have hn : ∀ r, Φ r → ((rI st0 Φ, noX) : Ph).1 st0 (some (.int r)) := fun r q => ⟨r, rfl, rfl, q⟩
  change X _ _ _ _ _ [(0, .ref (ad θ 175)), (1, .int p1)] _
  unfold w_X4_isState at h
  refine X_iload_n C dX4_isState_0 rfl 1 rfl ?_
  refine X_if_lt (tgt := 18) C dX4_isState_1 (by decide) (fun c1 => ?_) (fun c1 => ?_)
  · have h := h.1 c1
    refine X_iconst (v := 0) C dX4_isState_18 rfl ?_
    exact X_zret C rfl rfl dX4_isState_19 (hn _ h)
  · have h := h.2 c1
    refine X_iload_n C dX4_isState_4 rfl 1 rfl ?_
    refine X_aload_n C dX4_isState_5 rfl 0 rfl (isRV_r _) ?_
    refine X_getF (ci := 4) (j := 1) (q := (RX4, TX4, 54)) C rfl (by decide) q1767 rfl dX4_isState_6 (b := 177) (LX_S hX (k := 175) rfl) (LX_F hX (k := 175) (j := 1) rfl) rfl ?_
    refine X_iconst (v := 0) C dX4_isState_9 rfl ?_
    refine X_ialdS C (LX_S hX (k := 177) rfl) (LX_L hX (k := 177) rfl) (vp_dec rfl) rfl dX4_isState_10 ?_
    refine X_icmp_ge (tgt := 18) C dX4_isState_11 (by decide) (fun c2 => ?_) (fun c2 => ?_)
    · have h := h.1 c2
      refine X_iconst (v := 0) C dX4_isState_18 rfl ?_
      exact X_zret C rfl rfl dX4_isState_19 (hn _ h)
    · have h := h.2 c2
      refine X_iconst (v := 1) C dX4_isState_14 rfl ?_
      refine X_goto (tgt := 19) C dX4_isState_15 (by decide) ?_
      exact X_zret C rfl rfl dX4_isState_19 (hn _ h)

def w_X4_target_b22 (Φ : St → Int32 → Prop) (st : St) : Prop := w_X4_finds st 1 (fun (s11 : St) (r10 : Int32) => Φ s11 r10)
theorem t_X4_target_b22 {θ : Th} {κ : Kx} {Ph : Ph} (hX : LX θ) {d : Nat} (hd : 1 ≤ d) (C : Cx θ κ yX4_target cX4_target 4 (some Jvm.ClassFile.FieldType.int) [] d) {Φ : St → Int32 → Prop} (hn : ∀ st r, Φ st r → Ph.1 st (some (.int r))) (st : St) (h : w_X4_target_b22 Φ st) : X θ κ Ph st 22 [(0, .ref (ad θ 175))] [] := by
  unfold w_X4_target_b22 at h
  refine X_aload_n C dX4_target_22 rfl 0 rfl (isRV_r _) ?_
  refine X_iconst (v := 1) C dX4_target_23 rfl ?_
  refine X_callVS (ci := 4) (q := (RX4, TX4, 54)) (As := [_]) (rest := []) C rfl (LX_S hX (k := 175) rfl) q1939 q1941 qs63 q136 q1942 ⟨rfl, nm_X4_finds⟩ rfl dX4_target_24 (m_X4_finds (Cx_l C) hX (d := d - 1) (by omega) st 1 h) (by omega) (by decide) (Nat.le_of_ble_eq_true rfl) (fun s11 w12 hE13 hP14 => ?_) (fun s17 E15 q16 hE13 hP14 => ?_)
  rotate_left
  · exact False.elim hP14
  obtain ⟨r10, rfl, h⟩ := hP14
  refine X_tls ?_
  exact X_iret C rfl dX4_target_27 (hn s11 _ h)
def w_X4_target (st : St) (p1 : Int32) (p2 : Int32) (Φ : St → Int32 → Prop) : Prop := w_X4_isState st p1 (fun (r1 : Int32) => ((r1 = 0) → w_X4_target_b22 Φ st) ∧ ((¬ r1 = 0) → w_X4_isIn p2.toInt64 (-99) 99 (fun (r18 : Int32) => ((r18 ≠ 0) → vp_in (32 + p1) 97 ∧ ∀ v28 : Int32, v28 = (sI st 177 (32 + p1).toNatClampNeg) → ∀ s30, s30 = putI st 177 ((32 + p1).toNatClampNeg) p2 → Φ s30 v28) ∧ ((r18 = 0) → w_X4_target_b22 Φ st))))
theorem nm_X4_target : yX4_target.cls ≠ "java/lang/invoke/MethodHandle" ∧ yX4_target.cls ≠ "java/lang/invoke/VarHandle" ∧ (parseMethodDescriptor yX4_target.desc).map (fun d => d.parameters.length) = some 2 := by decide +kernel
theorem e_X4_target : plainFor yX4_target = true := plainFor_of_name (by decide +kernel)
theorem m_X4_target {θ : Th} {l : Launch} (hl0 : l.stackTraces = false) (hX : LX θ) {d : Nat} (hd : 1 ≤ d) (st : St) (p1 : Int32) (p2 : Int32) {Φ : St → Int32 → Prop} (h : w_X4_target st p1 p2 Φ) : Ct θ l yX4_target (ws_ yX4_target cX4_target 4 (some Jvm.ClassFile.FieldType.int)) d [.ref (ad θ 175), .int p1, .int p2] st (pI Φ, noX) := by
  refine Ct_entry hl0 e_X4_target (Nat.le_of_ble_eq_true rfl) (fun κ hκ _ C => ?_)
  have hn : ∀ st r, Φ st r → ((pI Φ, noX) : Ph).1 st (some (.int r)) := fun st r q => ⟨r, rfl, q⟩
  change X _ _ _ _ _ [(0, .ref (ad θ 175)), (1, .int p1), (2, .int p2)] _
  unfold w_X4_target at h
  refine X_aload_n C dX4_target_0 rfl 0 rfl (isRV_r _) ?_
  refine X_iload_n C dX4_target_1 rfl 1 rfl ?_
  refine X_callVS (ci := 4) (q := (RX4, TX4, 54)) (As := [_]) (rest := []) C rfl (LX_S hX (k := 175) rfl) q2004 q2006 qs69 q136 q2007 ⟨rfl, nm_X4_isState⟩ rfl dX4_target_2 (m_X4_isState (Cx_l C) hX (d := d - 1) (by omega) st p1 h) (by omega) (by decide) (Nat.le_of_ble_eq_true rfl) (fun s7 w2 hE3 hP4 => ?_) (fun s8 E5 q6 hE3 hP4 => ?_)
  rotate_left
  · exact False.elim hP4
  obtain ⟨r1, rfl, rfl, h⟩ := hP4
  refine X_tls ?_
  refine X_if_eq (tgt := 22) C dX4_target_5 (by decide) (fun c9 => ?_) (fun c9 => ?_)
  · have h := h.1 c9
    refine X_sub [0] (lo2 := [(0, _)]) rfl ?_
    exact t_X4_target_b22 hX hd C hn st h
  · have h := h.2 c9
    refine X_iload_n C dX4_target_8 rfl 2 rfl ?_
    refine X_i2l C dX4_target_9 ?_
    refine X_ldc2 C q2008 dX4_target_10 ?_
    refine X_ldc2 C q2009 dX4_target_13 ?_
    refine X_callS (As := [_, _, _]) (rest := []) C q1936 q1937 q136 q1938 nm_X4_isIn rfl dX4_target_16 (m_X4_isIn (Cx_l C) hX (d := d - 1) (by omega) st p2.toInt64 (-99) 99 h) (by omega) (by decide) (Nat.le_of_ble_eq_true rfl) (fun s24 w19 hE20 hP21 => ?_) (fun s25 E22 q23 hE20 hP21 => ?_)
    rotate_left
    · exact False.elim hP21
    obtain ⟨r18, rfl, rfl, h⟩ := hP21
    refine X_tls ?_
    refine X_if_ne (tgt := 28) C dX4_target_19 (by decide) (fun c26 => ?_) (fun c26 => ?_)
    · have h := h.1 c26
      refine X_aload_n C dX4_target_28 rfl 0 rfl (isRV_r _) ?_
      refine X_getF (ci := 4) (j := 1) (q := (RX4, TX4, 54)) C rfl (by decide) q1767 rfl dX4_target_29 (b := 177) (LX_S hX (k := 175) rfl) (LX_F hX (k := 175) (j := 1) rfl) rfl ?_
      refine X_bipush (v := 32) C dX4_target_32 rfl ?_
      refine X_iload_n C dX4_target_34 rfl 1 rfl ?_
      refine X_iadd C dX4_target_35 ?_
      have g27 := h.1
      have h := h.2
      refine X_ialdS C (LX_S hX (k := 177) rfl) (LX_L hX (k := 177) rfl) g27 rfl dX4_target_36 ?_
      refine X_topi (fun v28 e29 => ?_)
      have h := h v28 e29
      refine X_istore_n C dX4_target_37 rfl (lo2 := [(3, _), (0, _), (1, _), (2, _)]) (by decide) rfl ?_
      refine X_aload_n C dX4_target_38 rfl 1 rfl (isRV_r _) ?_
      refine X_getF (ci := 4) (j := 1) (q := (RX4, TX4, 54)) C rfl (by decide) q1767 rfl dX4_target_39 (b := 177) (LX_S hX (k := 175) rfl) (LX_F hX (k := 175) (j := 1) rfl) rfl ?_
      refine X_bipush (v := 32) C dX4_target_42 rfl ?_
      refine X_iload_n C dX4_target_44 rfl 2 rfl ?_
      refine X_iadd C dX4_target_45 ?_
      refine X_iload_n C dX4_target_46 rfl 3 rfl ?_
      refine X_iastS C (LX_S hX (k := 177) rfl) (LX_L hX (k := 177) rfl) g27 rfl dX4_target_47 ?_
      refine X_nm (fun s30 e31 => ?_)
      have h := h s30 e31
      refine X_iload_n C dX4_target_48 rfl 0 rfl ?_
      exact X_iret C rfl dX4_target_49 (hn s30 _ h)
    · have h := h.2 c26
      refine X_sub [0] (lo2 := [(0, _)]) rfl ?_
      exact t_X4_target_b22 hX hd C hn st h

def w_X4_gives_l32 (Φ : Int32 → Prop) (E66 : St → Int32 → Int32 → Int32 → Prop) : Nat → St → Int32 → Int32 → Int32 → Prop
  | 0, _, _, _, _ => False
  | n + 1, st0, x2, x3, x4 => ((x4 ≤ ((sI st0 177 1) - x3)) → E66 st0 x2 x3 x4) ∧ ((¬ x4 ≤ ((sI st0 177 1) - x3)) → ∀ v3 : Int32, v3 = (x4 - (((sI st0 177 1) - x3) + 1)) → w_X4_gives_l32 Φ E66 n st0 x2 (x3 + 1) v3)
theorem t_X4_gives_l32 {θ : Th} {κ : Kx} {Ph : Ph} (hX : LX θ) {st0 : St} {d : Nat} (hd : 0 ≤ d) (C : Cx θ κ yX4_gives cX4_gives 5 (some Jvm.ClassFile.FieldType.int) [] d) {Φ : Int32 → Prop} (hn : ∀ r, Φ r → Ph.1 st0 (some (.int r))) {E66 : St → Int32 → Int32 → Int32 → Prop} (hE66 : ∀ (x2 : Int32) (x3 : Int32) (x4 : Int32), E66 st0 x2 x3 x4 → X θ κ Ph st0 66 [(0, .ref (ad θ 175)), (2, .int x2), (3, .int x3), (4, .int x4)] []) : ∀ (n : Nat) (x2 : Int32) (x3 : Int32) (x4 : Int32), w_X4_gives_l32 Φ E66 n st0 x2 x3 x4 → X θ κ Ph st0 32 [(0, .ref (ad θ 175)), (2, .int x2), (3, .int x3), (4, .int x4)] [] := by
  intro n
  induction n with
  | zero => intro x2 x3 x4 h; exact h.elim
  | succ n hK32 =>
    intro x2 x3 x4 h
    rw [w_X4_gives_l32] at h
    refine X_iload C dX4_gives_32 3 rfl ?_
    refine X_aload_n C dX4_gives_34 rfl 0 rfl (isRV_r _) ?_
    refine X_getF (ci := 4) (j := 1) (q := (RX4, TX4, 54)) C rfl (by decide) q1767 rfl dX4_gives_35 (b := 177) (LX_S hX (k := 175) rfl) (LX_F hX (k := 175) (j := 1) rfl) rfl ?_
    refine X_iconst (v := 1) C dX4_gives_38 rfl ?_
    refine X_ialdS C (LX_S hX (k := 177) rfl) (LX_L hX (k := 177) rfl) (vp_dec rfl) rfl dX4_gives_39 ?_
    refine X_iload_n C dX4_gives_40 rfl 2 rfl ?_
    refine X_isub C dX4_gives_41 ?_
    refine X_icmp_le (tgt := 66) C dX4_gives_42 (by decide) (fun c2 => ?_) (fun c2 => ?_)
    · have h := h.1 c2
      exact hE66 x2 x3 x4 h
    · have h := h.2 c2
      refine X_iload C dX4_gives_45 3 rfl ?_
      refine X_aload_n C dX4_gives_47 rfl 0 rfl (isRV_r _) ?_
      refine X_getF (ci := 4) (j := 1) (q := (RX4, TX4, 54)) C rfl (by decide) q1767 rfl dX4_gives_48 (b := 177) (LX_S hX (k := 175) rfl) (LX_F hX (k := 175) (j := 1) rfl) rfl ?_
      refine X_iconst (v := 1) C dX4_gives_51 rfl ?_
      refine X_ialdS C (LX_S hX (k := 177) rfl) (LX_L hX (k := 177) rfl) (vp_dec rfl) rfl dX4_gives_52 ?_
      refine X_iload_n C dX4_gives_53 rfl 2 rfl ?_
      refine X_isub C dX4_gives_54 ?_
      refine X_iconst (v := 1) C dX4_gives_55 rfl ?_
      refine X_iadd C dX4_gives_56 ?_
      refine X_isub C dX4_gives_57 ?_
      refine X_topi (fun v3 e4 => ?_)
      have h := h v3 e4
      refine X_istore C dX4_gives_58 (lo2 := [(4, _), (0, _), (2, _), (3, _)]) (by decide) rfl ?_
      refine X_iinc (v := (x3 + 1)) C (j := 3) dX4_gives_60 rfl rfl (lo2 := [(3, _), (4, _), (0, _), (2, _)]) (by decide) rfl ?_
      refine X_goto (tgt := 32) C dX4_gives_63 (by decide) ?_
      refine X_sub [2, 3, 0, 1] (lo2 := [(0, _), (2, _), (3, _), (4, _)]) rfl ?_
      exact hK32 x2 (x3 + 1) v3 h
def w_X4_gives_b66 (Φ : Int32 → Prop) (st0 : St) (x2 : Int32) (x3 : Int32) (x4 : Int32) : Prop := ((x2 ≠ 0) → ((x2 ≠ 1) → Φ (((sI st0 177 1) - x3) - x4)) ∧ ((x2 = 1) → Φ x4)) ∧ ((x2 = 0) → Φ x3)
theorem t_X4_gives_b66 {θ : Th} {κ : Kx} {Ph : Ph} (hX : LX θ) {st0 : St} {d : Nat} (hd : 0 ≤ d) (C : Cx θ κ yX4_gives cX4_gives 5 (some Jvm.ClassFile.FieldType.int) [] d) {Φ : Int32 → Prop} (hn : ∀ r, Φ r → Ph.1 st0 (some (.int r))) (x2 : Int32) (x3 : Int32) (x4 : Int32) (h : w_X4_gives_b66 Φ st0 x2 x3 x4) : X θ κ Ph st0 66 [(0, .ref (ad θ 175)), (2, .int x2), (3, .int x3), (4, .int x4)] [] := by
  unfold w_X4_gives_b66 at h
  refine X_iload_n C dX4_gives_66 rfl 1 rfl ?_
  refine X_if_ne (tgt := 74) C dX4_gives_67 (by decide) (fun c5 => ?_) (fun c5 => ?_)
  · have h := h.1 c5
    refine X_iload_n C dX4_gives_74 rfl 1 rfl ?_
    refine X_iconst (v := 1) C dX4_gives_75 rfl ?_
    refine X_icmp_ne (tgt := 84) C dX4_gives_76 (by decide) (fun c6 => ?_) (fun c6 => ?_)
    · have h := h.1 c6
      refine X_aload_n C dX4_gives_84 rfl 0 rfl (isRV_r _) ?_
      refine X_getF (ci := 4) (j := 1) (q := (RX4, TX4, 54)) C rfl (by decide) q1767 rfl dX4_gives_85 (b := 177) (LX_S hX (k := 175) rfl) (LX_F hX (k := 175) (j := 1) rfl) rfl ?_
      refine X_iconst (v := 1) C dX4_gives_88 rfl ?_
      refine X_ialdS C (LX_S hX (k := 177) rfl) (LX_L hX (k := 177) rfl) (vp_dec rfl) rfl dX4_gives_89 ?_
      refine X_iload_n C dX4_gives_90 rfl 2 rfl ?_
      refine X_isub C dX4_gives_91 ?_
      refine X_iload C dX4_gives_92 3 rfl ?_
      refine X_isub C dX4_gives_94 ?_
      exact X_iret C rfl dX4_gives_95 (hn _ h)
    · have h := h.2 c6
      refine X_iload C dX4_gives_79 3 rfl ?_
      refine X_goto (tgt := 95) C dX4_gives_81 (by decide) ?_
      exact X_iret C rfl dX4_gives_95 (hn _ h)
  · have h := h.2 c5
    refine X_iload_n C dX4_gives_70 rfl 2 rfl ?_
    refine X_goto (tgt := 95) C dX4_gives_71 (by decide) ?_
    exact X_iret C rfl dX4_gives_95 (hn _ h)
def w_X4_gives (st0 : St) (p1 : Int32) (p2 : Int32) (Φ : Int32 → Prop) : Prop := (((sI st0 177 0) ≠ 2) → w_X4_gives_l32 Φ (fun (_ : St) (x2 : Int32) (x3 : Int32) (x4 : Int32) => w_X4_gives_b66 Φ st0 x2 x3 x4) gFU st0 p2 0 p1) ∧ (((sI st0 177 0) = 2) → ((p2 ≠ 0) → Φ ((sI st0 177 1) - p1)) ∧ ((p2 = 0) → Φ p1))
theorem nm_X4_gives : yX4_gives.cls ≠ "java/lang/invoke/MethodHandle" ∧ yX4_gives.cls ≠ "java/lang/invoke/VarHandle" ∧ (parseMethodDescriptor yX4_gives.desc).map (fun d => d.parameters.length) = some 2 := by decide +kernel
theorem e_X4_gives : plainFor yX4_gives = true := plainFor_of_name (by decide +kernel)
theorem m_X4_gives {θ : Th} {l : Launch} (hl0 : l.stackTraces = false) (hX : LX θ) {d : Nat} (hd : 0 ≤ d) (st0 : St) (p1 : Int32) (p2 : Int32) {Φ : Int32 → Prop} (h : w_X4_gives st0 p1 p2 Φ) : Ct θ l yX4_gives (ws_ yX4_gives cX4_gives 5 (some Jvm.ClassFile.FieldType.int)) d [.ref (ad θ 175), .int p1, .int p2] st0 (rI st0 Φ, noX) := by
  refine Ct_entry hl0 e_X4_gives (Nat.le_of_ble_eq_true rfl) (fun κ hκ _ C => ?_)
  have hn : ∀ r, Φ r → ((rI st0 Φ, noX) : Ph).1 st0 (some (.int r)) := fun r q => ⟨r, rfl, rfl, q⟩
  change X _ _ _ _ _ [(0, .ref (ad θ 175)), (1, .int p1), (2, .int p2)] _
  unfold w_X4_gives at h
  refine X_aload_n C dX4_gives_0 rfl 0 rfl (isRV_r _) ?_
  refine X_getF (ci := 4) (j := 1) (q := (RX4, TX4, 54)) C rfl (by decide) q1767 rfl dX4_gives_1 (b := 177) (LX_S hX (k := 175) rfl) (LX_F hX (k := 175) (j := 1) rfl) rfl ?_
  refine X_iconst (v := 0) C dX4_gives_4 rfl ?_
  refine X_ialdS C (LX_S hX (k := 177) rfl) (LX_L hX (k := 177) rfl) (vp_dec rfl) rfl dX4_gives_5 ?_
  refine X_iconst (v := 2) C dX4_gives_6 rfl ?_
  refine X_icmp_ne (tgt := 27) C dX4_gives_7 (by decide) (fun c1 => ?_) (fun c1 => ?_)
  · have h := h.1 c1
    refine X_iconst (v := 0) C dX4_gives_27 rfl ?_
    refine X_istore_n C dX4_gives_28 rfl (lo2 := [(3, _), (0, _), (1, _), (2, _)]) (by decide) rfl ?_
    refine X_iload_n C dX4_gives_29 rfl 2 rfl ?_
    refine X_istore C dX4_gives_30 (lo2 := [(4, _), (3, _), (0, _), (1, _), (2, _)]) (by decide) rfl ?_
    refine X_sub [2, 4, 1, 0] (lo2 := [(0, _), (2, _), (3, _), (4, _)]) rfl ?_
    refine t_X4_gives_l32 hX hd C hn ?_ gFU p2 0 p1 h
    · intro x2 x3 x4 h
      exact t_X4_gives_b66 hX hd C hn x2 x3 x4 h
  · have h := h.2 c1
    refine X_iload_n C dX4_gives_10 rfl 2 rfl ?_
    refine X_if_ne (tgt := 18) C dX4_gives_11 (by decide) (fun c7 => ?_) (fun c7 => ?_)
    · have h := h.1 c7
      refine X_aload_n C dX4_gives_18 rfl 0 rfl (isRV_r _) ?_
      refine X_getF (ci := 4) (j := 1) (q := (RX4, TX4, 54)) C rfl (by decide) q1767 rfl dX4_gives_19 (b := 177) (LX_S hX (k := 175) rfl) (LX_F hX (k := 175) (j := 1) rfl) rfl ?_
      refine X_iconst (v := 1) C dX4_gives_22 rfl ?_
      refine X_ialdS C (LX_S hX (k := 177) rfl) (LX_L hX (k := 177) rfl) (vp_dec rfl) rfl dX4_gives_23 ?_
      refine X_iload_n C dX4_gives_24 rfl 1 rfl ?_
      refine X_isub C dX4_gives_25 ?_
      exact X_iret C rfl dX4_gives_26 (hn _ h)
    · have h := h.2 c7
      refine X_iload_n C dX4_gives_14 rfl 1 rfl ?_
      refine X_goto (tgt := 26) C dX4_gives_15 (by decide) ?_
      exact X_iret C rfl dX4_gives_26 (hn _ h)

def w_X4_give_b25 (Φ : St → Int32 → Prop) (st : St) : Prop := w_X4_finds st 1 (fun (s11 : St) (r10 : Int32) => Φ s11 r10)
theorem t_X4_give_b25 {θ : Th} {κ : Kx} {Ph : Ph} (hX : LX θ) {d : Nat} (hd : 2 ≤ d) (C : Cx θ κ yX4_give cX4_give 3 (some Jvm.ClassFile.FieldType.int) [] d) {Φ : St → Int32 → Prop} (hn : ∀ st r, Φ st r → Ph.1 st (some (.int r))) (st : St) (h : w_X4_give_b25 Φ st) : X θ κ Ph st 25 [(0, .ref (ad θ 175))] [] := by
  unfold w_X4_give_b25 at h
  refine X_aload_n C dX4_give_25 rfl 0 rfl (isRV_r _) ?_
  refine X_iconst (v := 1) C dX4_give_26 rfl ?_
  refine X_callVS (ci := 4) (q := (RX4, TX4, 54)) (As := [_]) (rest := []) C rfl (LX_S hX (k := 175) rfl) q1939 q1941 qs63 q136 q1942 ⟨rfl, nm_X4_finds⟩ rfl dX4_give_27 (m_X4_finds (Cx_l C) hX (d := d - 1) (by omega) st 1 h) (by omega) (by decide) (Nat.le_of_ble_eq_true rfl) (fun s11 w12 hE13 hP14 => ?_) (fun s17 E15 q16 hE13 hP14 => ?_)
  rotate_left
  · exact False.elim hP14
  obtain ⟨r10, rfl, h⟩ := hP14
  refine X_tls ?_
  exact X_iret C rfl dX4_give_30 (hn s11 _ h)
def w_X4_give (st : St) (p1 : Int32) (p2 : Int32) (Φ : St → Int32 → Prop) : Prop := w_X4_isPoint st p1 (fun (r1 : Int32) => ((r1 = 0) → w_X4_give_b25 Φ st) ∧ ((¬ r1 = 0) → w_X4_isState st p2 (fun (r18 : Int32) => ((r18 = 0) → w_X4_give_b25 Φ st) ∧ ((¬ r18 = 0) → w_X4_gives st p1 p2 (fun (r27 : Int32) => Φ st r27)))))
theorem nm_X4_give : yX4_give.cls ≠ "java/lang/invoke/MethodHandle" ∧ yX4_give.cls ≠ "java/lang/invoke/VarHandle" ∧ (parseMethodDescriptor yX4_give.desc).map (fun d => d.parameters.length) = some 2 := by decide +kernel
theorem e_X4_give : plainFor yX4_give = true := plainFor_of_name (by decide +kernel)
theorem m_X4_give {θ : Th} {l : Launch} (hl0 : l.stackTraces = false) (hX : LX θ) {d : Nat} (hd : 2 ≤ d) (st : St) (p1 : Int32) (p2 : Int32) {Φ : St → Int32 → Prop} (h : w_X4_give st p1 p2 Φ) : Ct θ l yX4_give (ws_ yX4_give cX4_give 3 (some Jvm.ClassFile.FieldType.int)) d [.ref (ad θ 175), .int p1, .int p2] st (pI Φ, noX) := by
  refine Ct_entry hl0 e_X4_give (Nat.le_of_ble_eq_true rfl) (fun κ hκ _ C => ?_)
  have hn : ∀ st r, Φ st r → ((pI Φ, noX) : Ph).1 st (some (.int r)) := fun st r q => ⟨r, rfl, q⟩
  change X _ _ _ _ _ [(0, .ref (ad θ 175)), (1, .int p1), (2, .int p2)] _
  unfold w_X4_give at h
  refine X_aload_n C dX4_give_0 rfl 0 rfl (isRV_r _) ?_
  refine X_iload_n C dX4_give_1 rfl 1 rfl ?_
  refine X_callVS (ci := 4) (q := (RX4, TX4, 54)) (As := [_]) (rest := []) C rfl (LX_S hX (k := 175) rfl) q1992 q1994 qs67 q136 q1995 ⟨rfl, nm_X4_isPoint⟩ rfl dX4_give_2 (m_X4_isPoint (Cx_l C) hX (d := d - 1) (by omega) st p1 h) (by omega) (by decide) (Nat.le_of_ble_eq_true rfl) (fun s7 w2 hE3 hP4 => ?_) (fun s8 E5 q6 hE3 hP4 => ?_)
  rotate_left
  · exact False.elim hP4
  obtain ⟨r1, rfl, rfl, h⟩ := hP4
  refine X_tls ?_
  refine X_if_eq (tgt := 25) C dX4_give_5 (by decide) (fun c9 => ?_) (fun c9 => ?_)
  · have h := h.1 c9
    refine X_sub [0] (lo2 := [(0, _)]) rfl ?_
    exact t_X4_give_b25 hX hd C hn st h
  · have h := h.2 c9
    refine X_aload_n C dX4_give_8 rfl 0 rfl (isRV_r _) ?_
    refine X_iload_n C dX4_give_9 rfl 2 rfl ?_
    refine X_callVS (ci := 4) (q := (RX4, TX4, 54)) (As := [_]) (rest := []) C rfl (LX_S hX (k := 175) rfl) q2004 q2006 qs69 q136 q2007 ⟨rfl, nm_X4_isState⟩ rfl dX4_give_10 (m_X4_isState (Cx_l C) hX (d := d - 1) (by omega) st p2 h) (by omega) (by decide) (Nat.le_of_ble_eq_true rfl) (fun s24 w19 hE20 hP21 => ?_) (fun s25 E22 q23 hE20 hP21 => ?_)
    rotate_left
    · exact False.elim hP21
    obtain ⟨r18, rfl, rfl, h⟩ := hP21
    refine X_tls ?_
    refine X_if_eq (tgt := 25) C dX4_give_13 (by decide) (fun c26 => ?_) (fun c26 => ?_)
    · have h := h.1 c26
      refine X_sub [0] (lo2 := [(0, _)]) rfl ?_
      exact t_X4_give_b25 hX hd C hn st h
    · have h := h.2 c26
      refine X_aload_n C dX4_give_16 rfl 0 rfl (isRV_r _) ?_
      refine X_iload_n C dX4_give_17 rfl 1 rfl ?_
      refine X_iload_n C dX4_give_18 rfl 2 rfl ?_
      refine X_callVS (ci := 4) (q := (RX4, TX4, 54)) (As := [_, _]) (rest := []) C rfl (LX_S hX (k := 175) rfl) q2014 q2016 qs70 q136 q2017 ⟨rfl, nm_X4_gives⟩ rfl dX4_give_19 (m_X4_gives (Cx_l C) hX (d := d - 1) (by omega) st p1 p2 h) (by omega) (by decide) (Nat.le_of_ble_eq_true rfl) (fun s33 w28 hE29 hP30 => ?_) (fun s34 E31 q32 hE29 hP30 => ?_)
      rotate_left
      · exact False.elim hP30
      obtain ⟨r27, rfl, rfl, h⟩ := hP30
      refine X_tls ?_
      refine X_goto (tgt := 30) C dX4_give_22 (by decide) ?_
      exact X_iret C rfl dX4_give_30 (hn st _ h)

def w_X4_averageAt_l6 (Φ : Int32 → Prop) (E48 : St → Int32 → Prop) : Nat → St → Int32 → Int32 → Int32 → Int32 → Int32 → Prop
  | 0, _, _, _, _, _, _ => False
  | n + 1, st0, x1, x2, x3, x4, x5 => (((sI st0 177 0) ≤ x5) → E48 st0 x4) ∧ ((¬ (sI st0 177 0) ≤ x5) → w_X4_gives st0 x1 x5 (fun (r2 : Int32) => w_X4_place x5 x2 x3 (fun (r10 : Int32) => vp_in r10 97 ∧ ∀ v19 : Int32, v19 = (x4 + (r2 * (sI st0 177 r10.toNatClampNeg))) → w_X4_averageAt_l6 Φ E48 n st0 x1 x2 x3 v19 (x5 + 1))))
theorem t_X4_averageAt_l6 {θ : Th} {κ : Kx} {Ph : Ph} (hX : LX θ) {st0 : St} {d : Nat} (hd : 1 ≤ d) (C : Cx θ κ yX4_averageAt cX4_averageAt 6 (some Jvm.ClassFile.FieldType.int) [] d) {Φ : Int32 → Prop} (hn : ∀ r, Φ r → Ph.1 st0 (some (.int r))) {E48 : St → Int32 → Prop} (hE48 : ∀ (x4 : Int32), E48 st0 x4 → X θ κ Ph st0 48 [(4, .int x4)] []) : ∀ (n : Nat) (x1 : Int32) (x2 : Int32) (x3 : Int32) (x4 : Int32) (x5 : Int32), w_X4_averageAt_l6 Φ E48 n st0 x1 x2 x3 x4 x5 → X θ κ Ph st0 6 [(0, .ref (ad θ 175)), (1, .int x1), (2, .int x2), (3, .int x3), (4, .int x4), (5, .int x5)] [] := by
  intro n
  induction n with
  | zero => intro x1 x2 x3 x4 x5 h; exact h.elim
  | succ n hK6 =>
    intro x1 x2 x3 x4 x5 h
    rw [w_X4_averageAt_l6] at h
    refine X_iload C dX4_averageAt_6 5 rfl ?_
    refine X_aload_n C dX4_averageAt_8 rfl 0 rfl (isRV_r _) ?_
    refine X_getF (ci := 4) (j := 1) (q := (RX4, TX4, 54)) C rfl (by decide) q1767 rfl dX4_averageAt_9 (b := 177) (LX_S hX (k := 175) rfl) (LX_F hX (k := 175) (j := 1) rfl) rfl ?_
    refine X_iconst (v := 0) C dX4_averageAt_12 rfl ?_
    refine X_ialdS C (LX_S hX (k := 177) rfl) (LX_L hX (k := 177) rfl) (vp_dec rfl) rfl dX4_averageAt_13 ?_
    refine X_icmp_ge (tgt := 48) C dX4_averageAt_14 (by decide) (fun c1 => ?_) (fun c1 => ?_)
    · have h := h.1 c1
      refine X_sub [4] (lo2 := [(4, _)]) rfl ?_
      exact hE48 x4 h
    · have h := h.2 c1
      refine X_iload C dX4_averageAt_17 4 rfl ?_
      refine X_aload_n C dX4_averageAt_19 rfl 0 rfl (isRV_r _) ?_
      refine X_iload_n C dX4_averageAt_20 rfl 1 rfl ?_
      refine X_iload C dX4_averageAt_21 5 rfl ?_
      refine X_callVS (ci := 4) (q := (RX4, TX4, 54)) (As := [_, _]) (rest := [_]) C rfl (LX_S hX (k := 175) rfl) q2014 q2016 qs70 q136 q2017 ⟨rfl, nm_X4_gives⟩ rfl dX4_averageAt_23 (m_X4_gives (Cx_l C) hX (d := d - 1) (by omega) st0 x1 x5 h) (by omega) (by decide) (Nat.le_of_ble_eq_true rfl) (fun s8 w3 hE4 hP5 => ?_) (fun s9 E6 q7 hE4 hP5 => ?_)
      rotate_left
      · exact False.elim hP5
      obtain ⟨r2, rfl, rfl, h⟩ := hP5
      refine X_tls ?_
      refine X_aload_n C dX4_averageAt_26 rfl 0 rfl (isRV_r _) ?_
      refine X_getF (ci := 4) (j := 1) (q := (RX4, TX4, 54)) C rfl (by decide) q1767 rfl dX4_averageAt_27 (b := 177) (LX_S hX (k := 175) rfl) (LX_F hX (k := 175) (j := 1) rfl) rfl ?_
      refine X_iload C dX4_averageAt_30 5 rfl ?_
      refine X_iload_n C dX4_averageAt_32 rfl 2 rfl ?_
      refine X_iload_n C dX4_averageAt_33 rfl 3 rfl ?_
      refine X_callS (As := [_, _, _]) (rest := [_, _, _]) C q1966 q1967 q136 q1968 nm_X4_place rfl dX4_averageAt_34 (m_X4_place (Cx_l C) hX (d := d - 1) (by omega) st0 x5 x2 x3 h) (by omega) (by decide) (Nat.le_of_ble_eq_true rfl) (fun s16 w11 hE12 hP13 => ?_) (fun s17 E14 q15 hE12 hP13 => ?_)
      rotate_left
      · exact False.elim hP13
      obtain ⟨r10, rfl, rfl, h⟩ := hP13
      refine X_tls ?_
      have g18 := h.1
      have h := h.2
      refine X_ialdS C (LX_S hX (k := 177) rfl) (LX_L hX (k := 177) rfl) g18 rfl dX4_averageAt_37 ?_
      refine X_imul C dX4_averageAt_38 ?_
      refine X_iadd C dX4_averageAt_39 ?_
      refine X_topi (fun v19 e20 => ?_)
      have h := h v19 e20
      refine X_istore C dX4_averageAt_40 (lo2 := [(4, _), (0, _), (1, _), (2, _), (3, _), (5, _)]) (by decide) rfl ?_
      refine X_iinc (v := (x5 + 1)) C (j := 5) dX4_averageAt_42 rfl rfl (lo2 := [(5, _), (4, _), (0, _), (1, _), (2, _), (3, _)]) (by decide) rfl ?_
      refine X_goto (tgt := 6) C dX4_averageAt_45 (by decide) ?_
      refine X_sub [2, 3, 4, 5, 1, 0] (lo2 := [(0, _), (1, _), (2, _), (3, _), (4, _), (5, _)]) rfl ?_
      exact hK6 x1 x2 x3 v19 (x5 + 1) h
def w_X4_averageAt_b48 (Φ : Int32 → Prop) (st0 : St) (x4 : Int32) : Prop := Φ x4
theorem t_X4_averageAt_b48 {θ : Th} {κ : Kx} {Ph : Ph} (hX : LX θ) {st0 : St} {d : Nat} (hd : 1 ≤ d) (C : Cx θ κ yX4_averageAt cX4_averageAt 6 (some Jvm.ClassFile.FieldType.int) [] d) {Φ : Int32 → Prop} (hn : ∀ r, Φ r → Ph.1 st0 (some (.int r))) (x4 : Int32) (h : w_X4_averageAt_b48 Φ st0 x4) : X θ κ Ph st0 48 [(4, .int x4)] [] := by
  unfold w_X4_averageAt_b48 at h
  refine X_iload C dX4_averageAt_48 0 rfl ?_
  exact X_iret C rfl dX4_averageAt_50 (hn _ h)
def w_X4_averageAt (st0 : St) (p1 : Int32) (p2 : Int32) (p3 : Int32) (Φ : Int32 → Prop) : Prop := w_X4_averageAt_l6 Φ (fun (_ : St) (x4 : Int32) => w_X4_averageAt_b48 Φ st0 x4) gFU st0 p1 p2 p3 0 0
theorem nm_X4_averageAt : yX4_averageAt.cls ≠ "java/lang/invoke/MethodHandle" ∧ yX4_averageAt.cls ≠ "java/lang/invoke/VarHandle" ∧ (parseMethodDescriptor yX4_averageAt.desc).map (fun d => d.parameters.length) = some 3 := by decide +kernel
theorem e_X4_averageAt : plainFor yX4_averageAt = true := plainFor_of_name (by decide +kernel)
theorem m_X4_averageAt {θ : Th} {l : Launch} (hl0 : l.stackTraces = false) (hX : LX θ) {d : Nat} (hd : 1 ≤ d) (st0 : St) (p1 : Int32) (p2 : Int32) (p3 : Int32) {Φ : Int32 → Prop} (h : w_X4_averageAt st0 p1 p2 p3 Φ) : Ct θ l yX4_averageAt (ws_ yX4_averageAt cX4_averageAt 6 (some Jvm.ClassFile.FieldType.int)) d [.ref (ad θ 175), .int p1, .int p2, .int p3] st0 (rI st0 Φ, noX) := by
  refine Ct_entry hl0 e_X4_averageAt (Nat.le_of_ble_eq_true rfl) (fun κ hκ _ C => ?_)
  have hn : ∀ r, Φ r → ((rI st0 Φ, noX) : Ph).1 st0 (some (.int r)) := fun r q => ⟨r, rfl, rfl, q⟩
  change X _ _ _ _ _ [(0, .ref (ad θ 175)), (1, .int p1), (2, .int p2), (3, .int p3)] _
  unfold w_X4_averageAt at h
  refine X_iconst (v := 0) C dX4_averageAt_0 rfl ?_
  refine X_istore C dX4_averageAt_1 (lo2 := [(4, _), (0, _), (1, _), (2, _), (3, _)]) (by decide) rfl ?_
  refine X_iconst (v := 0) C dX4_averageAt_3 rfl ?_
  refine X_istore C dX4_averageAt_4 (lo2 := [(5, _), (4, _), (0, _), (1, _), (2, _), (3, _)]) (by decide) rfl ?_
  refine X_sub [2, 3, 4, 5, 1, 0] (lo2 := [(0, _), (1, _), (2, _), (3, _), (4, _), (5, _)]) rfl ?_
  refine t_X4_averageAt_l6 hX hd C hn ?_ gFU p1 p2 p3 0 0 h
  · intro x4 h
    exact t_X4_averageAt_b48 hX hd C hn x4 h

def w_X4_average_b44 (Φ : St → Int32 → Prop) (st : St) : Prop := w_X4_finds st 1 (fun (s11 : St) (r10 : Int32) => Φ s11 r10)
theorem t_X4_average_b44 {θ : Th} {κ : Kx} {Ph : Ph} (hX : LX θ) {d : Nat} (hd : 2 ≤ d) (C : Cx θ κ yX4_average cX4_average 4 (some Jvm.ClassFile.FieldType.int) [] d) {Φ : St → Int32 → Prop} (hn : ∀ st r, Φ st r → Ph.1 st (some (.int r))) (st : St) (h : w_X4_average_b44 Φ st) : X θ κ Ph st 44 [(0, .ref (ad θ 175))] [] := by
  unfold w_X4_average_b44 at h
  refine X_aload_n C dX4_average_44 rfl 0 rfl (isRV_r _) ?_
  refine X_iconst (v := 1) C dX4_average_45 rfl ?_
  refine X_callVS (ci := 4) (q := (RX4, TX4, 54)) (As := [_]) (rest := []) C rfl (LX_S hX (k := 175) rfl) q1939 q1941 qs63 q136 q1942 ⟨rfl, nm_X4_finds⟩ rfl dX4_average_46 (m_X4_finds (Cx_l C) hX (d := d - 1) (by omega) st 1 h) (by omega) (by decide) (Nat.le_of_ble_eq_true rfl) (fun s11 w12 hE13 hP14 => ?_) (fun s17 E15 q16 hE13 hP14 => ?_)
  rotate_left
  · exact False.elim hP14
  obtain ⟨r10, rfl, h⟩ := hP14
  refine X_tls ?_
  exact X_iret C rfl dX4_average_49 (hn s11 _ h)
def w_X4_average (st : St) (p1 : Int32) (p2 : Int32) (p3 : Int32) (Φ : St → Int32 → Prop) : Prop := w_X4_isPoint st p1 (fun (r1 : Int32) => ((r1 = 0) → w_X4_average_b44 Φ st) ∧ ((¬ r1 = 0) → w_X4_isIn p2.toInt64 0 ((sI st 177 2) - 1).toInt64 (fun (r18 : Int32) => ((r18 = 0) → w_X4_average_b44 Φ st) ∧ ((¬ r18 = 0) → w_X4_isIn p3.toInt64 0 ((sI st 177 3) - 1).toInt64 (fun (r27 : Int32) => ((r27 ≠ 0) → w_X4_averageAt st p1 p2 p3 (fun (r36 : Int32) => Φ st r36)) ∧ ((r27 = 0) → w_X4_average_b44 Φ st))))))
theorem nm_X4_average : yX4_average.cls ≠ "java/lang/invoke/MethodHandle" ∧ yX4_average.cls ≠ "java/lang/invoke/VarHandle" ∧ (parseMethodDescriptor yX4_average.desc).map (fun d => d.parameters.length) = some 3 := by decide +kernel
theorem e_X4_average : plainFor yX4_average = true := plainFor_of_name (by decide +kernel)
theorem m_X4_average {θ : Th} {l : Launch} (hl0 : l.stackTraces = false) (hX : LX θ) {d : Nat} (hd : 2 ≤ d) (st : St) (p1 : Int32) (p2 : Int32) (p3 : Int32) {Φ : St → Int32 → Prop} (h : w_X4_average st p1 p2 p3 Φ) : Ct θ l yX4_average (ws_ yX4_average cX4_average 4 (some Jvm.ClassFile.FieldType.int)) d [.ref (ad θ 175), .int p1, .int p2, .int p3] st (pI Φ, noX) := by
  refine Ct_entry hl0 e_X4_average (Nat.le_of_ble_eq_true rfl) (fun κ hκ _ C => ?_)
  have hn : ∀ st r, Φ st r → ((pI Φ, noX) : Ph).1 st (some (.int r)) := fun st r q => ⟨r, rfl, q⟩
  change X _ _ _ _ _ [(0, .ref (ad θ 175)), (1, .int p1), (2, .int p2), (3, .int p3)] _
  unfold w_X4_average at h
  refine X_aload_n C dX4_average_0 rfl 0 rfl (isRV_r _) ?_
  refine X_iload_n C dX4_average_1 rfl 1 rfl ?_
  refine X_callVS (ci := 4) (q := (RX4, TX4, 54)) (As := [_]) (rest := []) C rfl (LX_S hX (k := 175) rfl) q1992 q1994 qs67 q136 q1995 ⟨rfl, nm_X4_isPoint⟩ rfl dX4_average_2 (m_X4_isPoint (Cx_l C) hX (d := d - 1) (by omega) st p1 h) (by omega) (by decide) (Nat.le_of_ble_eq_true rfl) (fun s7 w2 hE3 hP4 => ?_) (fun s8 E5 q6 hE3 hP4 => ?_)
  rotate_left
  · exact False.elim hP4
  obtain ⟨r1, rfl, rfl, h⟩ := hP4
  refine X_tls ?_
  refine X_if_eq (tgt := 44) C dX4_average_5 (by decide) (fun c9 => ?_) (fun c9 => ?_)
  · have h := h.1 c9
    refine X_sub [0] (lo2 := [(0, _)]) rfl ?_
    exact t_X4_average_b44 hX hd C hn st h
  · have h := h.2 c9
    refine X_iload_n C dX4_average_8 rfl 2 rfl ?_
    refine X_i2l C dX4_average_9 ?_
    refine X_lconst (v := 0) C dX4_average_10 rfl ?_
    refine X_aload_n C dX4_average_11 rfl 0 rfl (isRV_r _) ?_
    refine X_getF (ci := 4) (j := 1) (q := (RX4, TX4, 54)) C rfl (by decide) q1767 rfl dX4_average_12 (b := 177) (LX_S hX (k := 175) rfl) (LX_F hX (k := 175) (j := 1) rfl) rfl ?_
    refine X_iconst (v := 2) C dX4_average_15 rfl ?_
    refine X_ialdS C (LX_S hX (k := 177) rfl) (LX_L hX (k := 177) rfl) (vp_dec rfl) rfl dX4_average_16 ?_
    refine X_iconst (v := 1) C dX4_average_17 rfl ?_
    refine X_isub C dX4_average_18 ?_
    refine X_i2l C dX4_average_19 ?_
    refine X_callS (As := [_, _, _]) (rest := []) C q1936 q1937 q136 q1938 nm_X4_isIn rfl dX4_average_20 (m_X4_isIn (Cx_l C) hX (d := d - 1) (by omega) st p2.toInt64 0 ((sI st 177 2) - 1).toInt64 h) (by omega) (by decide) (Nat.le_of_ble_eq_true rfl) (fun s24 w19 hE20 hP21 => ?_) (fun s25 E22 q23 hE20 hP21 => ?_)
    rotate_left
    · exact False.elim hP21
    obtain ⟨r18, rfl, rfl, h⟩ := hP21
    refine X_tls ?_
    refine X_if_eq (tgt := 44) C dX4_average_23 (by decide) (fun c26 => ?_) (fun c26 => ?_)
    · have h := h.1 c26
      refine X_sub [0] (lo2 := [(0, _)]) rfl ?_
      exact t_X4_average_b44 hX hd C hn st h
    · have h := h.2 c26
      refine X_iload_n C dX4_average_26 rfl 3 rfl ?_
      refine X_i2l C dX4_average_27 ?_
      refine X_lconst (v := 0) C dX4_average_28 rfl ?_
      refine X_aload_n C dX4_average_29 rfl 0 rfl (isRV_r _) ?_
      refine X_getF (ci := 4) (j := 1) (q := (RX4, TX4, 54)) C rfl (by decide) q1767 rfl dX4_average_30 (b := 177) (LX_S hX (k := 175) rfl) (LX_F hX (k := 175) (j := 1) rfl) rfl ?_
      refine X_iconst (v := 3) C dX4_average_33 rfl ?_
      refine X_ialdS C (LX_S hX (k := 177) rfl) (LX_L hX (k := 177) rfl) (vp_dec rfl) rfl dX4_average_34 ?_
      refine X_iconst (v := 1) C dX4_average_35 rfl ?_
      refine X_isub C dX4_average_36 ?_
      refine X_i2l C dX4_average_37 ?_
      refine X_callS (As := [_, _, _]) (rest := []) C q1936 q1937 q136 q1938 nm_X4_isIn rfl dX4_average_38 (m_X4_isIn (Cx_l C) hX (d := d - 1) (by omega) st p3.toInt64 0 ((sI st 177 3) - 1).toInt64 h) (by omega) (by decide) (Nat.le_of_ble_eq_true rfl) (fun s33 w28 hE29 hP30 => ?_) (fun s34 E31 q32 hE29 hP30 => ?_)
      rotate_left
      · exact False.elim hP30
      obtain ⟨r27, rfl, rfl, h⟩ := hP30
      refine X_tls ?_
      refine X_if_ne (tgt := 50) C dX4_average_41 (by decide) (fun c35 => ?_) (fun c35 => ?_)
      · have h := h.1 c35
        refine X_aload_n C dX4_average_50 rfl 0 rfl (isRV_r _) ?_
        refine X_iload_n C dX4_average_51 rfl 1 rfl ?_
        refine X_iload_n C dX4_average_52 rfl 2 rfl ?_
        refine X_iload_n C dX4_average_53 rfl 3 rfl ?_
        refine X_callVS (ci := 4) (q := (RX4, TX4, 54)) (As := [_, _, _]) (rest := []) C rfl (LX_S hX (k := 175) rfl) q2022 q2024 qs71 q136 q2025 ⟨rfl, nm_X4_averageAt⟩ rfl dX4_average_54 (m_X4_averageAt (Cx_l C) hX (d := d - 1) (by omega) st p1 p2 p3 h) (by omega) (by decide) (Nat.le_of_ble_eq_true rfl) (fun s42 w37 hE38 hP39 => ?_) (fun s43 E40 q41 hE38 hP39 => ?_)
        rotate_left
        · exact False.elim hP39
        obtain ⟨r36, rfl, rfl, h⟩ := hP39
        refine X_tls ?_
        exact X_iret C rfl dX4_average_57 (hn st _ h)
      · have h := h.2 c35
        refine X_sub [0] (lo2 := [(0, _)]) rfl ?_
        exact t_X4_average_b44 hX hd C hn st h

def w_X4_isPart_b9 (Φ : Int32 → Prop) : Prop := Φ 1
theorem t_X4_isPart_b9 {θ : Th} {κ : Kx} {Ph : Ph} (hX : LX θ) {st0 : St} {d : Nat} (hd : 0 ≤ d) (C : Cx θ κ yX4_isPart cX4_isPart 1 (some Jvm.ClassFile.FieldType.boolean) [] d) {Φ : Int32 → Prop} (hn : ∀ r, Φ r → Ph.1 st0 (some (.int r))) (h : w_X4_isPart_b9 Φ) : X θ κ Ph st0 9 [] [] := by
  unfold w_X4_isPart_b9 at h
  refine X_iconst (v := 1) C dX4_isPart_9 rfl ?_
  refine X_goto (tgt := 14) C dX4_isPart_10 (by decide) ?_
  exact X_zret C rfl rfl dX4_isPart_14 (hn _ h)
def w_X4_isPart (p1 : Int32) (Φ : Int32 → Prop) : Prop := ((p1 = 0) → w_X4_isPart_b9 Φ ) ∧ ((¬ p1 = 0) → ((p1 ≠ 1) → Φ 0) ∧ ((p1 = 1) → w_X4_isPart_b9 Φ ))
theorem nm_X4_isPart : yX4_isPart.cls ≠ "java/lang/invoke/MethodHandle" ∧ yX4_isPart.cls ≠ "java/lang/invoke/VarHandle" ∧ (parseMethodDescriptor yX4_isPart.desc).map (fun d => d.parameters.length) = some 1 := by decide +kernel
theorem e_X4_isPart : plainFor yX4_isPart = true := plainFor_of_name (by decide +kernel)
theorem m_X4_isPart {θ : Th} {l : Launch} (hl0 : l.stackTraces = false) (hX : LX θ) {d : Nat} (hd : 0 ≤ d) (st0 : St) (p1 : Int32) {Φ : Int32 → Prop} (h : w_X4_isPart p1 Φ) : Ct θ l yX4_isPart (ws_ yX4_isPart cX4_isPart 1 (some Jvm.ClassFile.FieldType.boolean)) d [.int p1] st0 (rI st0 Φ, noX) := by
  refine Ct_entry hl0 e_X4_isPart (Nat.le_of_ble_eq_true rfl) (fun κ hκ _ C => ?_)
  have hn : ∀ r, Φ r → ((rI st0 Φ, noX) : Ph).1 st0 (some (.int r)) := fun r q => ⟨r, rfl, rfl, q⟩
  change X _ _ _ _ _ [(0, .int p1)] _
  unfold w_X4_isPart at h
  refine X_iload_n C dX4_isPart_0 rfl 0 rfl ?_
  refine X_if_eq (tgt := 9) C dX4_isPart_1 (by decide) (fun c1 => ?_) (fun c1 => ?_)
  · have h := h.1 c1
    refine X_sub [] (lo2 := []) rfl ?_
    exact t_X4_isPart_b9 hX hd C hn h
  · have h := h.2 c1
    refine X_iload_n C dX4_isPart_4 rfl 0 rfl ?_
    refine X_iconst (v := 1) C dX4_isPart_5 rfl ?_
    refine X_icmp_ne (tgt := 13) C dX4_isPart_6 (by decide) (fun c2 => ?_) (fun c2 => ?_)
    · have h := h.1 c2
      refine X_iconst (v := 0) C dX4_isPart_13 rfl ?_
      exact X_zret C rfl rfl dX4_isPart_14 (hn _ h)
    · have h := h.2 c2
      refine X_sub [] (lo2 := []) rfl ?_
      exact t_X4_isPart_b9 hX hd C hn h

def w_X4_findsFar (st : St) (p1 : Int32) (Φ : St → Int64 → Prop) : Prop := vp_in p1 9 ∧ ∀ s2, s2 = putI st 176 (p1.toNatClampNeg) ((sI st 176 p1.toNatClampNeg) + 1) → Φ s2 ((-9000000000000000000) - p1.toInt64)
theorem nm_X4_findsFar : yX4_findsFar.cls ≠ "java/lang/invoke/MethodHandle" ∧ yX4_findsFar.cls ≠ "java/lang/invoke/VarHandle" ∧ (parseMethodDescriptor yX4_findsFar.desc).map (fun d => d.parameters.length) = some 1 := by decide +kernel
theorem e_X4_findsFar : plainFor yX4_findsFar = true := plainFor_of_name (by decide +kernel)
theorem m_X4_findsFar {θ : Th} {l : Launch} (hl0 : l.stackTraces = false) (hX : LX θ) {d : Nat} (hd : 0 ≤ d) (st : St) (p1 : Int32) {Φ : St → Int64 → Prop} (h : w_X4_findsFar st p1 Φ) : Ct θ l yX4_findsFar (ws_ yX4_findsFar cX4_findsFar 2 (some Jvm.ClassFile.FieldType.long)) d [.ref (ad θ 175), .int p1] st (pL Φ, noX) := by
  refine Ct_entry hl0 e_X4_findsFar (Nat.le_of_ble_eq_true rfl) (fun κ hκ _ C => ?_)
  have hn : ∀ st r, Φ st r → ((pL Φ, noX) : Ph).1 st (some (.long r)) := fun st r q => ⟨r, rfl, q⟩
  change X _ _ _ _ _ [(0, .ref (ad θ 175)), (1, .int p1)] _
  unfold w_X4_findsFar at h
  refine X_aload_n C dX4_findsFar_0 rfl 0 rfl (isRV_r _) ?_
  refine X_getF (ci := 4) (j := 0) (q := (RX4, TX4, 54)) C rfl (by decide) q1766 rfl dX4_findsFar_1 (b := 176) (LX_S hX (k := 175) rfl) (LX_F hX (k := 175) (j := 0) rfl) rfl ?_
  refine X_iload_n C dX4_findsFar_4 rfl 1 rfl ?_
  refine X_dup2 C dX4_findsFar_5 rfl rfl ?_
  have g1 := h.1
  have h := h.2
  refine X_ialdS C (LX_S hX (k := 176) rfl) (LX_L hX (k := 176) rfl) g1 rfl dX4_findsFar_6 ?_
  refine X_iconst (v := 1) C dX4_findsFar_7 rfl ?_
  refine X_iadd C dX4_findsFar_8 ?_
  refine X_iastS C (LX_S hX (k := 176) rfl) (LX_L hX (k := 176) rfl) g1 rfl dX4_findsFar_9 ?_
  refine X_nm (fun s2 e3 => ?_)
  have h := h s2 e3
  refine X_ldc2 C q2037 dX4_findsFar_10 ?_
  refine X_iload_n C dX4_findsFar_13 rfl 1 rfl ?_
  refine X_i2l C dX4_findsFar_14 ?_
  refine X_lsub C dX4_findsFar_15 ?_
  exact X_lret C rfl dX4_findsFar_16 (hn s2 _ h)

def w_X4_begins_l7 (Φ : St → Prop) (E26 : St → Prop) : Nat → St → Int32 → Prop
  | 0, _, _ => False
  | n + 1, st, x1 => ((15 ≤ x1) → E26 st) ∧ ((¬ 15 ≤ x1) → vp_in x1 15 ∧ ∀ s5, s5 = putI st 196 (x1.toNatClampNeg) (vp_nar .boolean (0 : Int32)) → w_X4_begins_l7 Φ E26 n s5 (x1 + 1))
theorem t_X4_begins_l7 {θ : Th} {κ : Kx} {Ph : Ph} (hX : LX θ) {d : Nat} (hd : 0 ≤ d) (C : Cx θ κ yX4_begins cX4_begins 2 (none : Option Jvm.ClassFile.FieldType) [] d) {Φ : St → Prop} (hn : ∀ st, Φ st → Ph.1 st none) {E26 : St → Prop} (hE26 : ∀ (st : St), E26 st → X θ κ Ph st 26 [] []) : ∀ (n : Nat) (st : St) (x1 : Int32), w_X4_begins_l7 Φ E26 n st x1 → X θ κ Ph st 7 [(0, .ref (ad θ 175)), (1, .int x1)] [] := by
  intro n
  induction n with
  | zero => intro st x1 h; exact h.elim
  | succ n hK7 =>
    intro st x1 h
    rw [w_X4_begins_l7] at h
    refine X_iload_n C dX4_begins_7 rfl 1 rfl ?_
    refine X_bipush (v := 15) C dX4_begins_8 rfl ?_
    refine X_icmp_ge (tgt := 26) C dX4_begins_10 (by decide) (fun c3 => ?_) (fun c3 => ?_)
    · have h := h.1 c3
      refine X_sub [] (lo2 := []) rfl ?_
      exact hE26 st h
    · have h := h.2 c3
      refine X_aload_n C dX4_begins_13 rfl 0 rfl (isRV_r _) ?_
      refine X_getF (ci := 4) (j := 34) (q := (RX4, TX4, 54)) C rfl (by decide) q1800 rfl dX4_begins_14 (b := 196) (LX_S hX (k := 175) rfl) (LX_F hX (k := 175) (j := 34) rfl) rfl ?_
      refine X_iload_n C dX4_begins_17 rfl 1 rfl ?_
      refine X_iconst (v := 0) C dX4_begins_18 rfl ?_
      have g4 := h.1
      have h := h.2
      refine X_zastS C (LX_S hX (k := 196) rfl) (LX_L hX (k := 196) rfl) g4 rfl dX4_begins_19 ?_
      refine X_nm (fun s5 e6 => ?_)
      have h := h s5 e6
      refine X_iinc (v := (x1 + 1)) C (j := 1) dX4_begins_20 rfl rfl (lo2 := [(1, _), (0, _)]) (by decide) rfl ?_
      refine X_goto (tgt := 7) C dX4_begins_23 (by decide) ?_
      refine X_sub [1, 0] (lo2 := [(0, _), (1, _)]) rfl ?_
      exact hK7 s5 (x1 + 1) h
def w_X4_begins_b26 (Φ : St → Prop) (st : St) : Prop := Φ st
theorem t_X4_begins_b26 {θ : Th} {κ : Kx} {Ph : Ph} (hX : LX θ) {d : Nat} (hd : 0 ≤ d) (C : Cx θ κ yX4_begins cX4_begins 2 (none : Option Jvm.ClassFile.FieldType) [] d) {Φ : St → Prop} (hn : ∀ st, Φ st → Ph.1 st none) (st : St) (h : w_X4_begins_b26 Φ st) : X θ κ Ph st 26 [] [] := by
  unfold w_X4_begins_b26 at h
  exact X_vret C rfl dX4_begins_26 (hn st h)
def w_X4_begins (st : St) (Φ : St → Prop) : Prop := ∀ s1, s1 = putI st 175 20 0 → w_X4_begins_l7 Φ (fun (s7 : St) => w_X4_begins_b26 Φ s7) gFU s1 0
theorem nm_X4_begins : yX4_begins.cls ≠ "java/lang/invoke/MethodHandle" ∧ yX4_begins.cls ≠ "java/lang/invoke/VarHandle" ∧ (parseMethodDescriptor yX4_begins.desc).map (fun d => d.parameters.length) = some 0 := by decide +kernel
theorem e_X4_begins : plainFor yX4_begins = true := plainFor_of_name (by decide +kernel)
theorem m_X4_begins {θ : Th} {l : Launch} (hl0 : l.stackTraces = false) (hX : LX θ) {d : Nat} (hd : 0 ≤ d) (st : St) {Φ : St → Prop} (h : w_X4_begins st Φ) : Ct θ l yX4_begins (ws_ yX4_begins cX4_begins 2 (none : Option Jvm.ClassFile.FieldType)) d [.ref (ad θ 175)] st (pV Φ, noX) := by
  refine Ct_entry hl0 e_X4_begins (Nat.le_of_ble_eq_true rfl) (fun κ hκ _ C => ?_)
  have hn : ∀ st, Φ st → ((pV Φ, noX) : Ph).1 st none := fun st q => ⟨rfl, q⟩
  change X _ _ _ _ _ [(0, .ref (ad θ 175))] _
  unfold w_X4_begins at h
  refine X_aload_n C dX4_begins_0 rfl 0 rfl (isRV_r _) ?_
  refine X_iconst (v := 0) C dX4_begins_1 rfl ?_
  refine X_putSI (ci := 4) (j := 20) (q := (RX4, TX4, 54)) C rfl (by decide) q1786 rfl rfl dX4_begins_2 (LX_S hX (k := 175) rfl) rfl rfl rfl ?_
  refine X_nm (fun s1 e2 => ?_)
  have h := h s1 e2
  refine X_iconst (v := 0) C dX4_begins_5 rfl ?_
  refine X_istore_n C dX4_begins_6 rfl (lo2 := [(1, _), (0, _)]) (by decide) rfl ?_
  refine X_sub [1, 0] (lo2 := [(0, _), (1, _)]) rfl ?_
  refine t_X4_begins_l7 hX hd C hn ?_ gFU s1 0 h
  · intro s7 h
    exact t_X4_begins_b26 hX hd C hn s7 h

def w_X4_nextSet (p1 : Int32) (p2 : Int32) (Φ : Int32 → Prop) : Prop := ((p1 ≠ 0) → ∀ v2 : Int32, v2 = (p1 &&& (-p1)) → ∀ v4 : Int32, v4 = (p1 + v2) → ¬ v2 = 0 ∧ Φ (v4 ||| (((p1 ^^^ v4) / v2) >>> ((2 : Int32) &&& 31)))) ∧ ((p1 = 0) → Φ (((1 : Int32) <<< (p2 &&& 31)) - 1))
theorem nm_X4_nextSet : yX4_nextSet.cls ≠ "java/lang/invoke/MethodHandle" ∧ yX4_nextSet.cls ≠ "java/lang/invoke/VarHandle" ∧ (parseMethodDescriptor yX4_nextSet.desc).map (fun d => d.parameters.length) = some 2 := by decide +kernel
theorem e_X4_nextSet : plainFor yX4_nextSet = true := plainFor_of_name (by decide +kernel)
theorem m_X4_nextSet {θ : Th} {l : Launch} (hl0 : l.stackTraces = false) (hX : LX θ) {d : Nat} (hd : 0 ≤ d) (st0 : St) (p1 : Int32) (p2 : Int32) {Φ : Int32 → Prop} (h : w_X4_nextSet p1 p2 Φ) : Ct θ l yX4_nextSet (ws_ yX4_nextSet cX4_nextSet 4 (some Jvm.ClassFile.FieldType.int)) d [.int p1, .int p2] st0 (rI st0 Φ, noX) := by
  refine Ct_entry hl0 e_X4_nextSet (Nat.le_of_ble_eq_true rfl) (fun κ hκ _ C => ?_)
  have hn : ∀ r, Φ r → ((rI st0 Φ, noX) : Ph).1 st0 (some (.int r)) := fun r q => ⟨r, rfl, rfl, q⟩
  change X _ _ _ _ _ [(0, .int p1), (1, .int p2)] _
  unfold w_X4_nextSet at h
  refine X_iload_n C dX4_nextSet_0 rfl 0 rfl ?_
  refine X_if_ne (tgt := 10) C dX4_nextSet_1 (by decide) (fun c1 => ?_) (fun c1 => ?_)
  · have h := h.1 c1
    refine X_iload_n C dX4_nextSet_10 rfl 0 rfl ?_
    refine X_iload_n C dX4_nextSet_11 rfl 0 rfl ?_
    refine X_ineg C dX4_nextSet_12 ?_
    refine X_iand C dX4_nextSet_13 ?_
    refine X_topi (fun v2 e3 => ?_)
    have h := h v2 e3
    refine X_istore_n C dX4_nextSet_14 rfl (lo2 := [(2, _), (0, _), (1, _)]) (by decide) rfl ?_
    refine X_iload_n C dX4_nextSet_15 rfl 1 rfl ?_
    refine X_iload_n C dX4_nextSet_16 rfl 0 rfl ?_
    refine X_iadd C dX4_nextSet_17 ?_
    refine X_topi (fun v4 e5 => ?_)
    have h := h v4 e5
    refine X_istore_n C dX4_nextSet_18 rfl (lo2 := [(3, _), (2, _), (0, _), (1, _)]) (by decide) rfl ?_
    refine X_iload_n C dX4_nextSet_19 rfl 0 rfl ?_
    refine X_iload_n C dX4_nextSet_20 rfl 2 rfl ?_
    refine X_iload_n C dX4_nextSet_21 rfl 0 rfl ?_
    refine X_ixor C dX4_nextSet_22 ?_
    refine X_iload_n C dX4_nextSet_23 rfl 1 rfl ?_
    have g6 := h.1
    have h := h.2
    refine X_idiv C dX4_nextSet_24 g6 ?_
    refine X_iconst (v := 2) C dX4_nextSet_25 rfl ?_
    refine X_ishr C dX4_nextSet_26 ?_
    refine X_ior C dX4_nextSet_27 ?_
    exact X_iret C rfl dX4_nextSet_28 (hn _ h)
  · have h := h.2 c1
    refine X_iconst (v := 1) C dX4_nextSet_4 rfl ?_
    refine X_iload_n C dX4_nextSet_5 rfl 1 rfl ?_
    refine X_ishl C dX4_nextSet_6 ?_
    refine X_iconst (v := 1) C dX4_nextSet_7 rfl ?_
    refine X_isub C dX4_nextSet_8 ?_
    exact X_iret C rfl dX4_nextSet_9 (hn _ h)

def w_X4_takes_b26 (Φ : St → Prop) (K4 : St → Int32 → Nat → Int32 → Int32 → Prop) (st : St) (x0 : Int32) (x1 : Nat) (x2 : Int32) (x3 : Int32) : Prop := K4 st x0 x1 x2 (x3 + 1)
theorem t_X4_takes_b26 {θ : Th} {κ : Kx} {Ph : Ph} (hX : LX θ) {d : Nat} (hd : 0 ≤ d) (C : Cx θ κ yX4_takes cX4_takes 4 (none : Option Jvm.ClassFile.FieldType) [] d) {Φ : St → Prop} (hn : ∀ st, Φ st → Ph.1 st none) {K4 : St → Int32 → Nat → Int32 → Int32 → Prop} (hK4 : ∀ (st : St) (x0 : Int32) (x1 : Nat) (x2 : Int32) (x3 : Int32), sh st x1 = 101 → x1 < gBIG → ln st x1 = 3 → K4 st x0 x1 x2 x3 → X θ κ Ph st 4 [(0, .int x0), (1, .ref (ad θ x1)), (2, .int x2), (3, .int x3)] []) (st : St) (x0 : Int32) (x1 : Nat) (x2 : Int32) (x3 : Int32) (hs_x1 : sh st x1 = 101) (hb_x1 : x1 < gBIG) (hl_x1 : ln st x1 = 3) (h : w_X4_takes_b26 Φ K4 st x0 x1 x2 x3) : X θ κ Ph st 26 [(0, .int x0), (1, .ref (ad θ x1)), (2, .int x2), (3, .int x3)] [] := by
  unfold w_X4_takes_b26 at h
  refine X_iinc (v := (x3 + 1)) C (j := 3) dX4_takes_26 rfl rfl (lo2 := [(3, _), (0, _), (1, _), (2, _)]) (by decide) rfl ?_
  refine X_goto (tgt := 4) C dX4_takes_29 (by decide) ?_
  refine X_sub [1, 2, 3, 0] (lo2 := [(0, _), (1, _), (2, _), (3, _)]) rfl ?_
  exact hK4 st x0 x1 x2 (x3 + 1) hs_x1 hb_x1 hl_x1 h
def w_X4_takes_l4 (Φ : St → Prop) (E32 : St → Prop) : Nat → St → Int32 → Nat → Int32 → Int32 → Prop
  | 0, _, _, _, _, _ => False
  | n + 1, st, x0, x1, x2, x3 => ((27 ≤ x3) → E32 st) ∧ ((¬ 27 ≤ x3) → ((((x0 >>> (x3 &&& 31)) &&& 1) ≠ 1) → w_X4_takes_b26 Φ (w_X4_takes_l4 Φ E32 n) st x0 x1 x2 x3) ∧ ((((x0 >>> (x3 &&& 31)) &&& 1) = 1) → vp_in x2 3 ∧ ∀ s4, s4 = putI st x1 (x2.toNatClampNeg) x3 → w_X4_takes_b26 Φ (w_X4_takes_l4 Φ E32 n) s4 x0 x1 (x2 + 1) x3))
theorem t_X4_takes_l4 {θ : Th} {κ : Kx} {Ph : Ph} (hX : LX θ) {d : Nat} (hd : 0 ≤ d) (C : Cx θ κ yX4_takes cX4_takes 4 (none : Option Jvm.ClassFile.FieldType) [] d) {Φ : St → Prop} (hn : ∀ st, Φ st → Ph.1 st none) {E32 : St → Prop} (hE32 : ∀ (st : St), E32 st → X θ κ Ph st 32 [] []) : ∀ (n : Nat) (st : St) (x0 : Int32) (x1 : Nat) (x2 : Int32) (x3 : Int32), sh st x1 = 101 → x1 < gBIG → ln st x1 = 3 → w_X4_takes_l4 Φ E32 n st x0 x1 x2 x3 → X θ κ Ph st 4 [(0, .int x0), (1, .ref (ad θ x1)), (2, .int x2), (3, .int x3)] [] := by
  intro n
  induction n with
  | zero => intro st x0 x1 x2 x3 hs_x1 hb_x1 hl_x1 h; exact h.elim
  | succ n hK4 =>
    intro st x0 x1 x2 x3 hs_x1 hb_x1 hl_x1 h
    rw [w_X4_takes_l4] at h
    refine X_iload_n C dX4_takes_4 rfl 3 rfl ?_
    refine X_bipush (v := 27) C dX4_takes_5 rfl ?_
    refine X_icmp_ge (tgt := 32) C dX4_takes_7 (by decide) (fun c1 => ?_) (fun c1 => ?_)
    · have h := h.1 c1
      refine X_sub [] (lo2 := []) rfl ?_
      exact hE32 st h
    · have h := h.2 c1
      refine X_iload_n C dX4_takes_10 rfl 0 rfl ?_
      refine X_iload_n C dX4_takes_11 rfl 3 rfl ?_
      refine X_ishr C dX4_takes_12 ?_
      refine X_iconst (v := 1) C dX4_takes_13 rfl ?_
      refine X_iand C dX4_takes_14 ?_
      refine X_iconst (v := 1) C dX4_takes_15 rfl ?_
      refine X_icmp_ne (tgt := 26) C dX4_takes_16 (by decide) (fun c2 => ?_) (fun c2 => ?_)
      · have h := h.1 c2
        exact t_X4_takes_b26 hX hd C hn hK4 st x0 x1 x2 x3 hs_x1 hb_x1 hl_x1 h
      · have h := h.2 c2
        refine X_aload_n C dX4_takes_19 rfl 1 rfl (isRV_r _) ?_
        refine X_iload_n C dX4_takes_20 rfl 2 rfl ?_
        refine X_iload_n C dX4_takes_21 rfl 3 rfl ?_
        have g3 := h.1
        have h := h.2
        refine X_iastD C hb_x1 hs_x1 hl_x1 g3 rfl dX4_takes_22 ?_
        refine X_nm (fun s4 e5 => ?_)
        have h := h s4 e5
        have hs_x1 : sh s4 x1 = 101 := by rw [e5]; exact hs_x1
        have hl_x1 : ln s4 x1 = 3 := by rw [e5]; exact hl_x1
        refine X_iinc (v := (x2 + 1)) C (j := 2) dX4_takes_23 rfl rfl (lo2 := [(2, _), (0, _), (1, _), (3, _)]) (by decide) rfl ?_
        refine X_sub [1, 2, 0, 3] (lo2 := [(0, _), (1, _), (2, _), (3, _)]) rfl ?_
        exact t_X4_takes_b26 hX hd C hn hK4 s4 x0 x1 (x2 + 1) x3 hs_x1 hb_x1 hl_x1 h
def w_X4_takes_b32 (Φ : St → Prop) (st : St) : Prop := Φ st
theorem t_X4_takes_b32 {θ : Th} {κ : Kx} {Ph : Ph} (hX : LX θ) {d : Nat} (hd : 0 ≤ d) (C : Cx θ κ yX4_takes cX4_takes 4 (none : Option Jvm.ClassFile.FieldType) [] d) {Φ : St → Prop} (hn : ∀ st, Φ st → Ph.1 st none) (st : St) (h : w_X4_takes_b32 Φ st) : X θ κ Ph st 32 [] [] := by
  unfold w_X4_takes_b32 at h
  exact X_vret C rfl dX4_takes_32 (hn st h)
def w_X4_takes (st : St) (p1 : Int32) (p2 : Nat) (Φ : St → Prop) : Prop := w_X4_takes_l4 Φ (fun (s6 : St) => w_X4_takes_b32 Φ s6) gFU st p1 p2 0 0
theorem nm_X4_takes : yX4_takes.cls ≠ "java/lang/invoke/MethodHandle" ∧ yX4_takes.cls ≠ "java/lang/invoke/VarHandle" ∧ (parseMethodDescriptor yX4_takes.desc).map (fun d => d.parameters.length) = some 2 := by decide +kernel
theorem e_X4_takes : plainFor yX4_takes = true := plainFor_of_name (by decide +kernel)
theorem m_X4_takes {θ : Th} {l : Launch} (hl0 : l.stackTraces = false) (hX : LX θ) {d : Nat} (hd : 0 ≤ d) (st : St) (p1 : Int32) (p2 : Nat) (hs_p2 : sh st p2 = 101) (hb_p2 : p2 < gBIG) (hl_p2 : ln st p2 = 3) {Φ : St → Prop} (h : w_X4_takes st p1 p2 Φ) : Ct θ l yX4_takes (ws_ yX4_takes cX4_takes 4 (none : Option Jvm.ClassFile.FieldType)) d [.int p1, .ref (ad θ p2)] st (pV Φ, noX) := by
  refine Ct_entry hl0 e_X4_takes (Nat.le_of_ble_eq_true rfl) (fun κ hκ _ C => ?_)
  have hn : ∀ st, Φ st → ((pV Φ, noX) : Ph).1 st none := fun st q => ⟨rfl, q⟩
  change X _ _ _ _ _ [(0, .int p1), (1, .ref (ad θ p2))] _
  unfold w_X4_takes at h
  refine X_iconst (v := 0) C dX4_takes_0 rfl ?_
  refine X_istore_n C dX4_takes_1 rfl (lo2 := [(2, _), (0, _), (1, _)]) (by decide) rfl ?_
  refine X_iconst (v := 0) C dX4_takes_2 rfl ?_
  refine X_istore_n C dX4_takes_3 rfl (lo2 := [(3, _), (2, _), (0, _), (1, _)]) (by decide) rfl ?_
  refine X_sub [2, 3, 1, 0] (lo2 := [(0, _), (1, _), (2, _), (3, _)]) rfl ?_
  refine t_X4_takes_l4 hX hd C hn ?_ gFU st p1 p2 0 0 hs_p2 hb_p2 hl_p2 h
  · intro s6 h
    exact t_X4_takes_b32 hX hd C hn s6 h

def w_X4_at (st0 : St) (p1 : Int32) (p2 : Int32) (Φ : Int64 → Prop) : Prop := vp_in ((3 * p1) + p2) 81 ∧ Φ (sL st0 188 ((3 * p1) + p2).toNatClampNeg)
theorem nm_X4_at : yX4_at.cls ≠ "java/lang/invoke/MethodHandle" ∧ yX4_at.cls ≠ "java/lang/invoke/VarHandle" ∧ (parseMethodDescriptor yX4_at.desc).map (fun d => d.parameters.length) = some 2 := by decide +kernel
theorem e_X4_at : plainFor yX4_at = true := plainFor_of_name (by decide +kernel)
theorem m_X4_at {θ : Th} {l : Launch} (hl0 : l.stackTraces = false) (hX : LX θ) {d : Nat} (hd : 0 ≤ d) (st0 : St) (p1 : Int32) (p2 : Int32) {Φ : Int64 → Prop} (h : w_X4_at st0 p1 p2 Φ) : Ct θ l yX4_at (ws_ yX4_at cX4_at 3 (some Jvm.ClassFile.FieldType.long)) d [.ref (ad θ 175), .int p1, .int p2] st0 (rL st0 Φ, noX) := by
  refine Ct_entry hl0 e_X4_at (Nat.le_of_ble_eq_true rfl) (fun κ hκ _ C => ?_)
  have hn : ∀ r, Φ r → ((rL st0 Φ, noX) : Ph).1 st0 (some (.long r)) := fun r q => ⟨r, rfl, rfl, q⟩
  change X _ _ _ _ _ [(0, .ref (ad θ 175)), (1, .int p1), (2, .int p2)] _
  unfold w_X4_at at h
  refine X_aload_n C dX4_at_0 rfl 0 rfl (isRV_r _) ?_
  refine X_getF (ci := 4) (j := 21) (q := (RX4, TX4, 54)) C rfl (by decide) q1787 rfl dX4_at_1 (b := 188) (LX_S hX (k := 175) rfl) (LX_F hX (k := 175) (j := 21) rfl) rfl ?_
  refine X_iconst (v := 3) C dX4_at_4 rfl ?_
  refine X_iload_n C dX4_at_5 rfl 1 rfl ?_
  refine X_imul C dX4_at_6 ?_
  refine X_iload_n C dX4_at_7 rfl 2 rfl ?_
  refine X_iadd C dX4_at_8 ?_
  have g1 := h.1
  have h := h.2
  refine X_laldS C (LX_S hX (k := 188) rfl) (LX_L hX (k := 188) rfl) g1 rfl dX4_at_9 ?_
  exact X_lret C rfl dX4_at_10 (hn _ h)

def w_X4_entry (st0 : St) (p1 : Int32) (p2 : Int32) (p3 : Int32) (p4 : Int32) (Φ : Int64 → Prop) : Prop := ((p2 ≠ p4) → ((p1 ≠ (sI st0 175 24)) → ((p2 ≠ (sI st0 175 24)) → ((p3 = 0) → vp_in p1 3 ∧ vp_in p2 3 ∧ w_X4_at st0 (sI st0 189 p1.toNatClampNeg) (sI st0 190 p2.toNatClampNeg) (fun (r7 : Int64) => Φ r7)) ∧ ((¬ p3 = 0) → vp_in p2 3 ∧ vp_in p1 3 ∧ w_X4_at st0 (sI st0 189 p2.toNatClampNeg) (sI st0 190 p1.toNatClampNeg) (fun (r17 : Int64) => Φ r17))) ∧ ((p2 = (sI st0 175 24)) → Φ (-1))) ∧ ((p1 = (sI st0 175 24)) → ((p2 ≠ (sI st0 175 24)) → Φ 1) ∧ ((p2 = (sI st0 175 24)) → Φ 0))) ∧ ((p2 = p4) → ((p1 ≠ (sI st0 175 24)) → Φ 0) ∧ ((p1 = (sI st0 175 24)) → Φ 1))
theorem nm_X4_entry : yX4_entry.cls ≠ "java/lang/invoke/MethodHandle" ∧ yX4_entry.cls ≠ "java/lang/invoke/VarHandle" ∧ (parseMethodDescriptor yX4_entry.desc).map (fun d => d.parameters.length) = some 4 := by decide +kernel
theorem e_X4_entry : plainFor yX4_entry = true := plainFor_of_name (by decide +kernel)
theorem m_X4_entry {θ : Th} {l : Launch} (hl0 : l.stackTraces = false) (hX : LX θ) {d : Nat} (hd : 1 ≤ d) (st0 : St) (p1 : Int32) (p2 : Int32) (p3 : Int32) (p4 : Int32) {Φ : Int64 → Prop} (h : w_X4_entry st0 p1 p2 p3 p4 Φ) : Ct θ l yX4_entry (ws_ yX4_entry cX4_entry 5 (some Jvm.ClassFile.FieldType.long)) d [.ref (ad θ 175), .int p1, .int p2, .int p3, .int p4] st0 (rL st0 Φ, noX) := by
  refine Ct_entry hl0 e_X4_entry (Nat.le_of_ble_eq_true rfl) (fun κ hκ _ C => ?_)
  have hn : ∀ r, Φ r → ((rL st0 Φ, noX) : Ph).1 st0 (some (.long r)) := fun r q => ⟨r, rfl, rfl, q⟩
  change X _ _ _ _ _ [(0, .ref (ad θ 175)), (1, .int p1), (2, .int p2), (3, .int p3), (4, .int p4)] _
  unfold w_X4_entry at h
  refine X_iload_n C dX4_entry_0 rfl 2 rfl ?_
  refine X_iload C dX4_entry_1 4 rfl ?_
  refine X_icmp_ne (tgt := 20) C dX4_entry_3 (by decide) (fun c1 => ?_) (fun c1 => ?_)
  · have h := h.1 c1
    refine X_iload_n C dX4_entry_20 rfl 1 rfl ?_
    refine X_aload_n C dX4_entry_21 rfl 0 rfl (isRV_r _) ?_
    refine X_getS (ci := 4) (j := 24) (q := (RX4, TX4, 54)) C rfl (by decide) q1790 rfl dX4_entry_22 (LX_S hX (k := 175) rfl) (v := .int (sI st0 175 24)) rfl ?_
    refine X_icmp_ne (tgt := 42) C dX4_entry_25 (by decide) (fun c2 => ?_) (fun c2 => ?_)
    · have h := h.1 c2
      refine X_iload_n C dX4_entry_42 rfl 2 rfl ?_
      refine X_aload_n C dX4_entry_43 rfl 0 rfl (isRV_r _) ?_
      refine X_getS (ci := 4) (j := 24) (q := (RX4, TX4, 54)) C rfl (by decide) q1790 rfl dX4_entry_44 (LX_S hX (k := 175) rfl) (v := .int (sI st0 175 24)) rfl ?_
      refine X_icmp_ne (tgt := 54) C dX4_entry_47 (by decide) (fun c3 => ?_) (fun c3 => ?_)
      · have h := h.1 c3
        refine X_iload_n C dX4_entry_54 rfl 3 rfl ?_
        refine X_if_eq (tgt := 77) C dX4_entry_55 (by decide) (fun c4 => ?_) (fun c4 => ?_)
        · have h := h.1 c4
          refine X_aload_n C dX4_entry_77 rfl 0 rfl (isRV_r _) ?_
          refine X_aload_n C dX4_entry_78 rfl 0 rfl (isRV_r _) ?_
          refine X_getF (ci := 4) (j := 25) (q := (RX4, TX4, 54)) C rfl (by decide) q1791 rfl dX4_entry_79 (b := 189) (LX_S hX (k := 175) rfl) (LX_F hX (k := 175) (j := 25) rfl) rfl ?_
          refine X_iload_n C dX4_entry_82 rfl 1 rfl ?_
          have g5 := h.1
          have h := h.2
          refine X_ialdS C (LX_S hX (k := 189) rfl) (LX_L hX (k := 189) rfl) g5 rfl dX4_entry_83 ?_
          refine X_aload_n C dX4_entry_84 rfl 0 rfl (isRV_r _) ?_
          refine X_getF (ci := 4) (j := 26) (q := (RX4, TX4, 54)) C rfl (by decide) q1792 rfl dX4_entry_85 (b := 190) (LX_S hX (k := 175) rfl) (LX_F hX (k := 175) (j := 26) rfl) rfl ?_
          refine X_iload_n C dX4_entry_88 rfl 2 rfl ?_
          have g6 := h.1
          have h := h.2
          refine X_ialdS C (LX_S hX (k := 190) rfl) (LX_L hX (k := 190) rfl) g6 rfl dX4_entry_89 ?_
          refine X_callVS (ci := 4) (q := (RX4, TX4, 54)) (As := [_, _]) (rest := []) C rfl (LX_S hX (k := 175) rfl) q2073 q2075 qs80 q136 q2076 ⟨rfl, nm_X4_at⟩ rfl dX4_entry_90 (m_X4_at (Cx_l C) hX (d := d - 1) (by omega) st0 (sI st0 189 p1.toNatClampNeg) (sI st0 190 p2.toNatClampNeg) h) (by omega) (by decide) (Nat.le_of_ble_eq_true rfl) (fun s13 w8 hE9 hP10 => ?_) (fun s14 E11 q12 hE9 hP10 => ?_)
          rotate_left
          · exact False.elim hP10
          obtain ⟨r7, rfl, rfl, h⟩ := hP10
          refine X_tls ?_
          exact X_lret C rfl dX4_entry_93 (hn _ h)
        · have h := h.2 c4
          refine X_aload_n C dX4_entry_58 rfl 0 rfl (isRV_r _) ?_
          refine X_aload_n C dX4_entry_59 rfl 0 rfl (isRV_r _) ?_
          refine X_getF (ci := 4) (j := 25) (q := (RX4, TX4, 54)) C rfl (by decide) q1791 rfl dX4_entry_60 (b := 189) (LX_S hX (k := 175) rfl) (LX_F hX (k := 175) (j := 25) rfl) rfl ?_
          refine X_iload_n C dX4_entry_63 rfl 2 rfl ?_
          have g15 := h.1
          have h := h.2
          refine X_ialdS C (LX_S hX (k := 189) rfl) (LX_L hX (k := 189) rfl) g15 rfl dX4_entry_64 ?_
          refine X_aload_n C dX4_entry_65 rfl 0 rfl (isRV_r _) ?_
          refine X_getF (ci := 4) (j := 26) (q := (RX4, TX4, 54)) C rfl (by decide) q1792 rfl dX4_entry_66 (b := 190) (LX_S hX (k := 175) rfl) (LX_F hX (k := 175) (j := 26) rfl) rfl ?_
          refine X_iload_n C dX4_entry_69 rfl 1 rfl ?_
          have g16 := h.1
          have h := h.2
          refine X_ialdS C (LX_S hX (k := 190) rfl) (LX_L hX (k := 190) rfl) g16 rfl dX4_entry_70 ?_
          refine X_callVS (ci := 4) (q := (RX4, TX4, 54)) (As := [_, _]) (rest := []) C rfl (LX_S hX (k := 175) rfl) q2073 q2075 qs80 q136 q2076 ⟨rfl, nm_X4_at⟩ rfl dX4_entry_71 (m_X4_at (Cx_l C) hX (d := d - 1) (by omega) st0 (sI st0 189 p2.toNatClampNeg) (sI st0 190 p1.toNatClampNeg) h) (by omega) (by decide) (Nat.le_of_ble_eq_true rfl) (fun s23 w18 hE19 hP20 => ?_) (fun s24 E21 q22 hE19 hP20 => ?_)
          rotate_left
          · exact False.elim hP20
          obtain ⟨r17, rfl, rfl, h⟩ := hP20
          refine X_tls ?_
          refine X_goto (tgt := 93) C dX4_entry_74 (by decide) ?_
          exact X_lret C rfl dX4_entry_93 (hn _ h)
      · have h := h.2 c3
        refine X_ldc2 C q2072 dX4_entry_50 ?_
        exact X_lret C rfl dX4_entry_53 (hn _ h)
    · have h := h.2 c2
      refine X_iload_n C dX4_entry_28 rfl 2 rfl ?_
      refine X_aload_n C dX4_entry_29 rfl 0 rfl (isRV_r _) ?_
      refine X_getS (ci := 4) (j := 24) (q := (RX4, TX4, 54)) C rfl (by decide) q1790 rfl dX4_entry_30 (LX_S hX (k := 175) rfl) (v := .int (sI st0 175 24)) rfl ?_
      refine X_icmp_ne (tgt := 40) C dX4_entry_33 (by decide) (fun c25 => ?_) (fun c25 => ?_)
      · have h := h.1 c25
        refine X_lconst (v := 1) C dX4_entry_40 rfl ?_
        exact X_lret C rfl dX4_entry_41 (hn _ h)
      · have h := h.2 c25
        refine X_lconst (v := 0) C dX4_entry_36 rfl ?_
        refine X_goto (tgt := 41) C dX4_entry_37 (by decide) ?_
        exact X_lret C rfl dX4_entry_41 (hn _ h)
  · have h := h.2 c1
    refine X_iload_n C dX4_entry_6 rfl 1 rfl ?_
    refine X_aload_n C dX4_entry_7 rfl 0 rfl (isRV_r _) ?_
    refine X_getS (ci := 4) (j := 24) (q := (RX4, TX4, 54)) C rfl (by decide) q1790 rfl dX4_entry_8 (LX_S hX (k := 175) rfl) (v := .int (sI st0 175 24)) rfl ?_
    refine X_icmp_ne (tgt := 18) C dX4_entry_11 (by decide) (fun c26 => ?_) (fun c26 => ?_)
    · have h := h.1 c26
      refine X_lconst (v := 0) C dX4_entry_18 rfl ?_
      exact X_lret C rfl dX4_entry_19 (hn _ h)
    · have h := h.2 c26
      refine X_lconst (v := 1) C dX4_entry_14 rfl ?_
      refine X_goto (tgt := 19) C dX4_entry_15 (by decide) ?_
      exact X_lret C rfl dX4_entry_19 (hn _ h)

def w_X4_determinant_l39 (Φ : St → Int64 → Prop) (E66 : St → Int32 → Int32 → Int32 → Int32 → Int32 → Prop) : Nat → St → Int32 → Int32 → Int32 → Int32 → Int32 → Int32 → Prop
  | 0, _, _, _, _, _, _, _ => False
  | n + 1, st, x1, x2, x3, x4, x5, x6 => (((sI st 175 24) < x6) → E66 st x1 x2 x3 x4 x5) ∧ ((¬ (sI st 175 24) < x6) → ∀ v10 : Int32, v10 = (x5 + ((x4 >>> (x6 &&& 31)) &&& 1)) → w_X4_determinant_l39 Φ E66 n st x1 x2 x3 x4 v10 (x6 + 1))
theorem t_X4_determinant_l39 {θ : Th} {κ : Kx} {Ph : Ph} (hX : LX θ) {d : Nat} (hd : 2 ≤ d) (C : Cx θ κ yX4_determinant cX4_determinant 10 (some Jvm.ClassFile.FieldType.long) [] d) {Φ : St → Int64 → Prop} (hn : ∀ st r, Φ st r → Ph.1 st (some (.long r))) {E66 : St → Int32 → Int32 → Int32 → Int32 → Int32 → Prop} (hE66 : ∀ (st : St) (x1 : Int32) (x2 : Int32) (x3 : Int32) (x4 : Int32) (x5 : Int32), E66 st x1 x2 x3 x4 x5 → X θ κ Ph st 66 [(0, .ref (ad θ 175)), (1, .int x1), (2, .int x2), (3, .int x3), (4, .int x4), (5, .int x5)] []) : ∀ (n : Nat) (st : St) (x1 : Int32) (x2 : Int32) (x3 : Int32) (x4 : Int32) (x5 : Int32) (x6 : Int32), w_X4_determinant_l39 Φ E66 n st x1 x2 x3 x4 x5 x6 → X θ κ Ph st 39 [(0, .ref (ad θ 175)), (1, .int x1), (2, .int x2), (3, .int x3), (4, .int x4), (5, .int x5), (6, .int x6)] [] := by
  intro n
  induction n with
  | zero => intro st x1 x2 x3 x4 x5 x6 h; exact h.elim
  | succ n hK39 =>
    intro st x1 x2 x3 x4 x5 x6 h
    rw [w_X4_determinant_l39] at h
    refine X_iload C dX4_determinant_39 6 rfl ?_
    refine X_aload_n C dX4_determinant_41 rfl 0 rfl (isRV_r _) ?_
    refine X_getS (ci := 4) (j := 24) (q := (RX4, TX4, 54)) C rfl (by decide) q1790 rfl dX4_determinant_42 (LX_S hX (k := 175) rfl) (v := .int (sI st 175 24)) rfl ?_
    refine X_icmp_gt (tgt := 66) C dX4_determinant_45 (by decide) (fun c9 => ?_) (fun c9 => ?_)
    · have h := h.1 c9
      refine X_sub [0, 1, 2, 3, 4, 5] (lo2 := [(0, _), (1, _), (2, _), (3, _), (4, _), (5, _)]) rfl ?_
      exact hE66 st x1 x2 x3 x4 x5 h
    · have h := h.2 c9
      refine X_iload C dX4_determinant_48 5 rfl ?_
      refine X_iload C dX4_determinant_50 4 rfl ?_
      refine X_iload C dX4_determinant_52 6 rfl ?_
      refine X_ishr C dX4_determinant_54 ?_
      refine X_iconst (v := 1) C dX4_determinant_55 rfl ?_
      refine X_iand C dX4_determinant_56 ?_
      refine X_iadd C dX4_determinant_57 ?_
      refine X_topi (fun v10 e11 => ?_)
      have h := h v10 e11
      refine X_istore C dX4_determinant_58 (lo2 := [(5, _), (0, _), (1, _), (2, _), (3, _), (4, _), (6, _)]) (by decide) rfl ?_
      refine X_iinc (v := (x6 + 1)) C (j := 6) dX4_determinant_60 rfl rfl (lo2 := [(6, _), (5, _), (0, _), (1, _), (2, _), (3, _), (4, _)]) (by decide) rfl ?_
      refine X_goto (tgt := 39) C dX4_determinant_63 (by decide) ?_
      refine X_sub [2, 3, 4, 5, 6, 1, 0] (lo2 := [(0, _), (1, _), (2, _), (3, _), (4, _), (5, _), (6, _)]) rfl ?_
      exact hK39 st x1 x2 x3 x4 v10 (x6 + 1) h
def w_X4_determinant_b146 (Φ : St → Int64 → Prop) (K75 : St → Int32 → Int32 → Int32 → Int32 → Int32 → Int32 → Int32 → Prop) (st : St) (x1 : Int32) (x2 : Int32) (x3 : Int32) (x4 : Int32) (x5 : Int32) (x6 : Int32) (x7 : Int32) : Prop := K75 st x1 x2 x3 x4 x5 x6 (x7 + (-1))
theorem t_X4_determinant_b146 {θ : Th} {κ : Kx} {Ph : Ph} (hX : LX θ) {d : Nat} (hd : 2 ≤ d) (C : Cx θ κ yX4_determinant cX4_determinant 10 (some Jvm.ClassFile.FieldType.long) [] d) {Φ : St → Int64 → Prop} (hn : ∀ st r, Φ st r → Ph.1 st (some (.long r))) {K75 : St → Int32 → Int32 → Int32 → Int32 → Int32 → Int32 → Int32 → Prop} (hK75 : ∀ (st : St) (x1 : Int32) (x2 : Int32) (x3 : Int32) (x4 : Int32) (x5 : Int32) (x6 : Int32) (x7 : Int32), K75 st x1 x2 x3 x4 x5 x6 x7 → X θ κ Ph st 75 [(0, .ref (ad θ 175)), (1, .int x1), (2, .int x2), (3, .int x3), (4, .int x4), (5, .int x5), (6, .int x6), (7, .int x7)] []) (st : St) (x1 : Int32) (x2 : Int32) (x3 : Int32) (x4 : Int32) (x5 : Int32) (x6 : Int32) (x7 : Int32) (h : w_X4_determinant_b146 Φ K75 st x1 x2 x3 x4 x5 x6 x7) : X θ κ Ph st 146 [(0, .ref (ad θ 175)), (1, .int x1), (2, .int x2), (3, .int x3), (4, .int x4), (5, .int x5), (6, .int x6), (7, .int x7)] [] := by
  unfold w_X4_determinant_b146 at h
  refine X_iinc (v := (x7 + (-1))) C (j := 7) dX4_determinant_146 rfl rfl (lo2 := [(7, _), (0, _), (1, _), (2, _), (3, _), (4, _), (5, _), (6, _)]) (by decide) rfl ?_
  refine X_goto (tgt := 75) C dX4_determinant_149 (by decide) ?_
  refine X_sub [1, 2, 3, 4, 5, 6, 7, 0] (lo2 := [(0, _), (1, _), (2, _), (3, _), (4, _), (5, _), (6, _), (7, _)]) rfl ?_
  exact hK75 st x1 x2 x3 x4 x5 x6 (x7 + (-1)) h
def w_X4_determinant_b141 (Φ : St → Int64 → Prop) (K75 : St → Int32 → Int32 → Int32 → Int32 → Int32 → Int32 → Int32 → Prop) (st : St) (x1 : Int32) (x2 : Int32) (x3 : Int32) (x4 : Int32) (x5 : Int32) (x6 : Int32) (x7 : Int32) (z0 : Int64) (z1 : Int64) (z2 : Int32) : Prop := vp_in z2 16 ∧ ∀ s31, s31 = putL st 193 (z2.toNatClampNeg) (z1 + z0) → w_X4_determinant_b146 Φ K75 s31 x1 x2 x3 x4 x5 (x6 + 1) x7
theorem t_X4_determinant_b141 {θ : Th} {κ : Kx} {Ph : Ph} (hX : LX θ) {d : Nat} (hd : 2 ≤ d) (C : Cx θ κ yX4_determinant cX4_determinant 10 (some Jvm.ClassFile.FieldType.long) [] d) {Φ : St → Int64 → Prop} (hn : ∀ st r, Φ st r → Ph.1 st (some (.long r))) {K75 : St → Int32 → Int32 → Int32 → Int32 → Int32 → Int32 → Int32 → Prop} (hK75 : ∀ (st : St) (x1 : Int32) (x2 : Int32) (x3 : Int32) (x4 : Int32) (x5 : Int32) (x6 : Int32) (x7 : Int32), K75 st x1 x2 x3 x4 x5 x6 x7 → X θ κ Ph st 75 [(0, .ref (ad θ 175)), (1, .int x1), (2, .int x2), (3, .int x3), (4, .int x4), (5, .int x5), (6, .int x6), (7, .int x7)] []) (st : St) (x1 : Int32) (x2 : Int32) (x3 : Int32) (x4 : Int32) (x5 : Int32) (x6 : Int32) (x7 : Int32) (z0 : Int64) (z1 : Int64) (z2 : Int32) (h : w_X4_determinant_b141 Φ K75 st x1 x2 x3 x4 x5 x6 x7 z0 z1 z2) : X θ κ Ph st 141 [(0, .ref (ad θ 175)), (1, .int x1), (2, .int x2), (3, .int x3), (4, .int x4), (5, .int x5), (6, .int x6), (7, .int x7)] [.long z0, .long z1, .int z2, .ref (ad θ 193)] := by
  unfold w_X4_determinant_b141 at h
  refine X_ladd C dX4_determinant_141 ?_
  have g30 := h.1
  have h := h.2
  refine X_lastS C (LX_S hX (k := 193) rfl) (LX_L hX (k := 193) rfl) g30 rfl dX4_determinant_142 ?_
  refine X_nm (fun s31 e32 => ?_)
  have h := h s31 e32
  refine X_iinc (v := (x6 + 1)) C (j := 6) dX4_determinant_143 rfl rfl (lo2 := [(6, _), (0, _), (1, _), (2, _), (3, _), (4, _), (5, _), (7, _)]) (by decide) rfl ?_
  refine X_sub [1, 2, 3, 4, 5, 6, 0, 7] (lo2 := [(0, _), (1, _), (2, _), (3, _), (4, _), (5, _), (6, _), (7, _)]) rfl ?_
  exact t_X4_determinant_b146 hX hd C hn hK75 s31 x1 x2 x3 x4 x5 (x6 + 1) x7 h
def w_X4_determinant_l75 (Φ : St → Int64 → Prop) (E152 : St → Int32 → Int32 → Int32 → Int32 → Prop) : Nat → St → Int32 → Int32 → Int32 → Int32 → Int32 → Int32 → Int32 → Prop
  | 0, _, _, _, _, _, _, _, _ => False
  | n + 1, st, x1, x2, x3, x4, x5, x6, x7 => ((x7 < 0) → E152 st x1 x2 x3 x4) ∧ ((¬ x7 < 0) → ((((x4 >>> (x7 &&& 31)) &&& 1) ≠ 1) → w_X4_determinant_b146 Φ (w_X4_determinant_l75 Φ E152 n) st x1 x2 x3 x4 x5 x6 x7) ∧ ((((x4 >>> (x7 &&& 31)) &&& 1) = 1) → w_X4_entry st x5 x7 x1 x2 (fun (r17 : Int64) => vp_in (x4 &&& (((1 : Int32) <<< (x7 &&& 31)) ^^^ (-1))) 16 ∧ ∀ v26 : Int64, v26 = (r17 * (sL st 193 (x4 &&& (((1 : Int32) <<< (x7 &&& 31)) ^^^ (-1))).toNatClampNeg)) → vp_in x4 16 ∧ (((x6 - x6 / 2 * 2) ≠ 0) → w_X4_determinant_b141 Φ (w_X4_determinant_l75 Φ E152 n) st x1 x2 x3 x4 x5 x6 x7 (-v26) (sL st 193 x4.toNatClampNeg) x4) ∧ (((x6 - x6 / 2 * 2) = 0) → w_X4_determinant_b141 Φ (w_X4_determinant_l75 Φ E152 n) st x1 x2 x3 x4 x5 x6 x7 v26 (sL st 193 x4.toNatClampNeg) x4))))
theorem t_X4_determinant_l75 {θ : Th} {κ : Kx} {Ph : Ph} (hX : LX θ) {d : Nat} (hd : 2 ≤ d) (C : Cx θ κ yX4_determinant cX4_determinant 10 (some Jvm.ClassFile.FieldType.long) [] d) {Φ : St → Int64 → Prop} (hn : ∀ st r, Φ st r → Ph.1 st (some (.long r))) {E152 : St → Int32 → Int32 → Int32 → Int32 → Prop} (hE152 : ∀ (st : St) (x1 : Int32) (x2 : Int32) (x3 : Int32) (x4 : Int32), E152 st x1 x2 x3 x4 → X θ κ Ph st 152 [(0, .ref (ad θ 175)), (1, .int x1), (2, .int x2), (3, .int x3), (4, .int x4)] []) : ∀ (n : Nat) (st : St) (x1 : Int32) (x2 : Int32) (x3 : Int32) (x4 : Int32) (x5 : Int32) (x6 : Int32) (x7 : Int32), w_X4_determinant_l75 Φ E152 n st x1 x2 x3 x4 x5 x6 x7 → X θ κ Ph st 75 [(0, .ref (ad θ 175)), (1, .int x1), (2, .int x2), (3, .int x3), (4, .int x4), (5, .int x5), (6, .int x6), (7, .int x7)] [] := by
  intro n
  induction n with
  | zero => intro st x1 x2 x3 x4 x5 x6 x7 h; exact h.elim
  | succ n hK75 =>
    intro st x1 x2 x3 x4 x5 x6 x7 h
    rw [w_X4_determinant_l75] at h
    refine X_iload C dX4_determinant_75 7 rfl ?_
    refine X_if_lt (tgt := 152) C dX4_determinant_77 (by decide) (fun c15 => ?_) (fun c15 => ?_)
    · have h := h.1 c15
      refine X_sub [0, 1, 2, 3, 4] (lo2 := [(0, _), (1, _), (2, _), (3, _), (4, _)]) rfl ?_
      exact hE152 st x1 x2 x3 x4 h
    · have h := h.2 c15
      refine X_iload C dX4_determinant_80 4 rfl ?_
      refine X_iload C dX4_determinant_82 7 rfl ?_
      refine X_ishr C dX4_determinant_84 ?_
      refine X_iconst (v := 1) C dX4_determinant_85 rfl ?_
      refine X_iand C dX4_determinant_86 ?_
      refine X_iconst (v := 1) C dX4_determinant_87 rfl ?_
      refine X_icmp_ne (tgt := 146) C dX4_determinant_88 (by decide) (fun c16 => ?_) (fun c16 => ?_)
      · have h := h.1 c16
        exact t_X4_determinant_b146 hX hd C hn hK75 st x1 x2 x3 x4 x5 x6 x7 h
      · have h := h.2 c16
        refine X_aload_n C dX4_determinant_91 rfl 0 rfl (isRV_r _) ?_
        refine X_iload C dX4_determinant_92 5 rfl ?_
        refine X_iload C dX4_determinant_94 7 rfl ?_
        refine X_iload_n C dX4_determinant_96 rfl 1 rfl ?_
        refine X_iload_n C dX4_determinant_97 rfl 2 rfl ?_
        refine X_callVS (ci := 4) (q := (RX4, TX4, 54)) (As := [_, _, _, _]) (rest := []) C rfl (LX_S hX (k := 175) rfl) q2068 q2070 qs79 q136 q2071 ⟨rfl, nm_X4_entry⟩ rfl dX4_determinant_98 (m_X4_entry (Cx_l C) hX (d := d - 1) (by omega) st x5 x7 x1 x2 h) (by omega) (by decide) (Nat.le_of_ble_eq_true rfl) (fun s23 w18 hE19 hP20 => ?_) (fun s24 E21 q22 hE19 hP20 => ?_)
        rotate_left
        · exact False.elim hP20
        obtain ⟨r17, rfl, rfl, h⟩ := hP20
        refine X_tls ?_
        refine X_aload_n C dX4_determinant_101 rfl 0 rfl (isRV_r _) ?_
        refine X_getF (ci := 4) (j := 31) (q := (RX4, TX4, 54)) C rfl (by decide) q1797 rfl dX4_determinant_102 (b := 193) (LX_S hX (k := 175) rfl) (LX_F hX (k := 175) (j := 31) rfl) rfl ?_
        refine X_iload C dX4_determinant_105 4 rfl ?_
        refine X_iconst (v := 1) C dX4_determinant_107 rfl ?_
        refine X_iload C dX4_determinant_108 7 rfl ?_
        refine X_ishl C dX4_determinant_110 ?_
        refine X_iconst (v := (-1)) C dX4_determinant_111 rfl ?_
        refine X_ixor C dX4_determinant_112 ?_
        refine X_iand C dX4_determinant_113 ?_
        have g25 := h.1
        have h := h.2
        refine X_laldS C (LX_S hX (k := 193) rfl) (LX_L hX (k := 193) rfl) g25 rfl dX4_determinant_114 ?_
        refine X_lmul C dX4_determinant_115 ?_
        refine X_topl (fun v26 e27 => ?_)
        have h := h v26 e27
        refine X_lstore C dX4_determinant_116 (lo2 := [(8, _), (0, _), (1, _), (2, _), (3, _), (4, _), (5, _), (6, _), (7, _)]) (by decide) rfl ?_
        refine X_aload_n C dX4_determinant_118 rfl 1 rfl (isRV_r _) ?_
        refine X_getF (ci := 4) (j := 31) (q := (RX4, TX4, 54)) C rfl (by decide) q1797 rfl dX4_determinant_119 (b := 193) (LX_S hX (k := 175) rfl) (LX_F hX (k := 175) (j := 31) rfl) rfl ?_
        refine X_iload C dX4_determinant_122 5 rfl ?_
        refine X_dup2 C dX4_determinant_124 rfl rfl ?_
        have g28 := h.1
        have h := h.2
        refine X_laldS C (LX_S hX (k := 193) rfl) (LX_L hX (k := 193) rfl) g28 rfl dX4_determinant_125 ?_
        refine X_iload C dX4_determinant_126 7 rfl ?_
        refine X_iconst (v := 2) C dX4_determinant_128 rfl ?_
        refine X_irem C dX4_determinant_129 (by decide) ?_
        refine X_if_ne (tgt := 138) C dX4_determinant_130 (by decide) (fun c29 => ?_) (fun c29 => ?_)
        · have h := h.1 c29
          refine X_lload C dX4_determinant_138 0 rfl ?_
          refine X_lneg C dX4_determinant_140 ?_
          refine X_sub [1, 2, 3, 4, 5, 6, 7, 8] (lo2 := [(0, _), (1, _), (2, _), (3, _), (4, _), (5, _), (6, _), (7, _)]) rfl ?_
          exact t_X4_determinant_b141 hX hd C hn hK75 st x1 x2 x3 x4 x5 x6 x7 (-v26) (sL st 193 x4.toNatClampNeg) x4 h
        · have h := h.2 c29
          refine X_lload C dX4_determinant_133 0 rfl ?_
          refine X_goto (tgt := 141) C dX4_determinant_135 (by decide) ?_
          refine X_sub [1, 2, 3, 4, 5, 6, 7, 8] (lo2 := [(0, _), (1, _), (2, _), (3, _), (4, _), (5, _), (6, _), (7, _)]) rfl ?_
          exact t_X4_determinant_b141 hX hd C hn hK75 st x1 x2 x3 x4 x5 x6 x7 v26 (sL st 193 x4.toNatClampNeg) x4 h
def w_X4_determinant_b152 (Φ : St → Int64 → Prop) (K19 : St → Int32 → Int32 → Int32 → Int32 → Prop) (st : St) (x1 : Int32) (x2 : Int32) (x3 : Int32) (x4 : Int32) : Prop := K19 st x1 x2 x3 (x4 + 1)
theorem t_X4_determinant_b152 {θ : Th} {κ : Kx} {Ph : Ph} (hX : LX θ) {d : Nat} (hd : 2 ≤ d) (C : Cx θ κ yX4_determinant cX4_determinant 10 (some Jvm.ClassFile.FieldType.long) [] d) {Φ : St → Int64 → Prop} (hn : ∀ st r, Φ st r → Ph.1 st (some (.long r))) {K19 : St → Int32 → Int32 → Int32 → Int32 → Prop} (hK19 : ∀ (st : St) (x1 : Int32) (x2 : Int32) (x3 : Int32) (x4 : Int32), K19 st x1 x2 x3 x4 → X θ κ Ph st 19 [(0, .ref (ad θ 175)), (1, .int x1), (2, .int x2), (3, .int x3), (4, .int x4)] []) (st : St) (x1 : Int32) (x2 : Int32) (x3 : Int32) (x4 : Int32) (h : w_X4_determinant_b152 Φ K19 st x1 x2 x3 x4) : X θ κ Ph st 152 [(0, .ref (ad θ 175)), (1, .int x1), (2, .int x2), (3, .int x3), (4, .int x4)] [] := by
  unfold w_X4_determinant_b152 at h
  refine X_iinc (v := (x4 + 1)) C (j := 4) dX4_determinant_152 rfl rfl (lo2 := [(4, _), (0, _), (1, _), (2, _), (3, _)]) (by decide) rfl ?_
  refine X_goto (tgt := 19) C dX4_determinant_155 (by decide) ?_
  refine X_sub [1, 2, 3, 4, 0] (lo2 := [(0, _), (1, _), (2, _), (3, _), (4, _)]) rfl ?_
  exact hK19 st x1 x2 x3 (x4 + 1) h
def w_X4_determinant_b66 (Φ : St → Int64 → Prop) (K19 : St → Int32 → Int32 → Int32 → Int32 → Prop) (st : St) (x1 : Int32) (x2 : Int32) (x3 : Int32) (x4 : Int32) (x5 : Int32) : Prop := ∀ v13 : Int32, v13 = (sI st 175 24) → w_X4_determinant_l75 Φ (fun (s33 : St) (x1 : Int32) (x2 : Int32) (x3 : Int32) (x4 : Int32) => w_X4_determinant_b152 Φ K19 s33 x1 x2 x3 x4) gFU st x1 x2 x3 x4 x5 0 v13
theorem t_X4_determinant_b66 {θ : Th} {κ : Kx} {Ph : Ph} (hX : LX θ) {d : Nat} (hd : 2 ≤ d) (C : Cx θ κ yX4_determinant cX4_determinant 10 (some Jvm.ClassFile.FieldType.long) [] d) {Φ : St → Int64 → Prop} (hn : ∀ st r, Φ st r → Ph.1 st (some (.long r))) {K19 : St → Int32 → Int32 → Int32 → Int32 → Prop} (hK19 : ∀ (st : St) (x1 : Int32) (x2 : Int32) (x3 : Int32) (x4 : Int32), K19 st x1 x2 x3 x4 → X θ κ Ph st 19 [(0, .ref (ad θ 175)), (1, .int x1), (2, .int x2), (3, .int x3), (4, .int x4)] []) (st : St) (x1 : Int32) (x2 : Int32) (x3 : Int32) (x4 : Int32) (x5 : Int32) (h : w_X4_determinant_b66 Φ K19 st x1 x2 x3 x4 x5) : X θ κ Ph st 66 [(0, .ref (ad θ 175)), (1, .int x1), (2, .int x2), (3, .int x3), (4, .int x4), (5, .int x5)] [] := by
  unfold w_X4_determinant_b66 at h
  refine X_iconst (v := 0) C dX4_determinant_66 rfl ?_
  refine X_istore C dX4_determinant_67 (lo2 := [(6, _), (0, _), (1, _), (2, _), (3, _), (4, _), (5, _)]) (by decide) rfl ?_
  refine X_aload_n C dX4_determinant_69 rfl 1 rfl (isRV_r _) ?_
  refine X_getS (ci := 4) (j := 24) (q := (RX4, TX4, 54)) C rfl (by decide) q1790 rfl dX4_determinant_70 (LX_S hX (k := 175) rfl) (v := .int (sI st 175 24)) rfl ?_
  refine X_topi (fun v13 e14 => ?_)
  have h := h v13 e14
  refine X_istore C dX4_determinant_73 (lo2 := [(7, _), (6, _), (0, _), (1, _), (2, _), (3, _), (4, _), (5, _)]) (by decide) rfl ?_
  refine X_sub [2, 3, 4, 5, 6, 7, 1, 0] (lo2 := [(0, _), (1, _), (2, _), (3, _), (4, _), (5, _), (6, _), (7, _)]) rfl ?_
  refine t_X4_determinant_l75 hX hd C hn ?_ gFU st x1 x2 x3 x4 x5 0 v13 h
  · intro s33 x1 x2 x3 x4 h
    exact t_X4_determinant_b152 hX hd C hn hK19 s33 x1 x2 x3 x4 h
def w_X4_determinant_l19 (Φ : St → Int64 → Prop) (E158 : St → Int32 → Prop) : Nat → St → Int32 → Int32 → Int32 → Int32 → Prop
  | 0, _, _, _, _, _ => False
  | n + 1, st, x1, x2, x3, x4 => ((x3 ≤ x4) → E158 st x3) ∧ ((¬ x3 ≤ x4) → vp_in x4 16 ∧ ∀ s7, s7 = putL st 193 (x4.toNatClampNeg) 0 → w_X4_determinant_l39 Φ (fun (s12 : St) (x1 : Int32) (x2 : Int32) (x3 : Int32) (x4 : Int32) (x5 : Int32) => w_X4_determinant_b66 Φ (w_X4_determinant_l19 Φ E158 n) s12 x1 x2 x3 x4 x5) gFU s7 x1 x2 x3 x4 (-1) 0)
theorem t_X4_determinant_l19 {θ : Th} {κ : Kx} {Ph : Ph} (hX : LX θ) {d : Nat} (hd : 2 ≤ d) (C : Cx θ κ yX4_determinant cX4_determinant 10 (some Jvm.ClassFile.FieldType.long) [] d) {Φ : St → Int64 → Prop} (hn : ∀ st r, Φ st r → Ph.1 st (some (.long r))) {E158 : St → Int32 → Prop} (hE158 : ∀ (st : St) (x3 : Int32), E158 st x3 → X θ κ Ph st 158 [(0, .ref (ad θ 175)), (3, .int x3)] []) : ∀ (n : Nat) (st : St) (x1 : Int32) (x2 : Int32) (x3 : Int32) (x4 : Int32), w_X4_determinant_l19 Φ E158 n st x1 x2 x3 x4 → X θ κ Ph st 19 [(0, .ref (ad θ 175)), (1, .int x1), (2, .int x2), (3, .int x3), (4, .int x4)] [] := by
  intro n
  induction n with
  | zero => intro st x1 x2 x3 x4 h; exact h.elim
  | succ n hK19 =>
    intro st x1 x2 x3 x4 h
    rw [w_X4_determinant_l19] at h
    refine X_iload C dX4_determinant_19 4 rfl ?_
    refine X_iload_n C dX4_determinant_21 rfl 3 rfl ?_
    refine X_icmp_ge (tgt := 158) C dX4_determinant_22 (by decide) (fun c5 => ?_) (fun c5 => ?_)
    · have h := h.1 c5
      refine X_sub [0, 3] (lo2 := [(0, _), (3, _)]) rfl ?_
      exact hE158 st x3 h
    · have h := h.2 c5
      refine X_aload_n C dX4_determinant_25 rfl 0 rfl (isRV_r _) ?_
      refine X_getF (ci := 4) (j := 31) (q := (RX4, TX4, 54)) C rfl (by decide) q1797 rfl dX4_determinant_26 (b := 193) (LX_S hX (k := 175) rfl) (LX_F hX (k := 175) (j := 31) rfl) rfl ?_
      refine X_iload C dX4_determinant_29 4 rfl ?_
      refine X_lconst (v := 0) C dX4_determinant_31 rfl ?_
      have g6 := h.1
      have h := h.2
      refine X_lastS C (LX_S hX (k := 193) rfl) (LX_L hX (k := 193) rfl) g6 rfl dX4_determinant_32 ?_
      refine X_nm (fun s7 e8 => ?_)
      have h := h s7 e8
      refine X_iconst (v := (-1)) C dX4_determinant_33 rfl ?_
      refine X_istore C dX4_determinant_34 (lo2 := [(5, _), (0, _), (1, _), (2, _), (3, _), (4, _)]) (by decide) rfl ?_
      refine X_iconst (v := 0) C dX4_determinant_36 rfl ?_
      refine X_istore C dX4_determinant_37 (lo2 := [(6, _), (5, _), (0, _), (1, _), (2, _), (3, _), (4, _)]) (by decide) rfl ?_
      refine X_sub [2, 3, 4, 5, 6, 1, 0] (lo2 := [(0, _), (1, _), (2, _), (3, _), (4, _), (5, _), (6, _)]) rfl ?_
      refine t_X4_determinant_l39 hX hd C hn ?_ gFU s7 x1 x2 x3 x4 (-1) 0 h
      · intro s12 x1 x2 x3 x4 x5 h
        exact t_X4_determinant_b66 hX hd C hn hK19 s12 x1 x2 x3 x4 x5 h
def w_X4_determinant_b158 (Φ : St → Int64 → Prop) (st : St) (x3 : Int32) : Prop := vp_in (x3 - 1) 16 ∧ Φ st (sL st 193 (x3 - 1).toNatClampNeg)
theorem t_X4_determinant_b158 {θ : Th} {κ : Kx} {Ph : Ph} (hX : LX θ) {d : Nat} (hd : 2 ≤ d) (C : Cx θ κ yX4_determinant cX4_determinant 10 (some Jvm.ClassFile.FieldType.long) [] d) {Φ : St → Int64 → Prop} (hn : ∀ st r, Φ st r → Ph.1 st (some (.long r))) (st : St) (x3 : Int32) (h : w_X4_determinant_b158 Φ st x3) : X θ κ Ph st 158 [(0, .ref (ad θ 175)), (3, .int x3)] [] := by
  unfold w_X4_determinant_b158 at h
  refine X_aload_n C dX4_determinant_158 rfl 0 rfl (isRV_r _) ?_
  refine X_getF (ci := 4) (j := 31) (q := (RX4, TX4, 54)) C rfl (by decide) q1797 rfl dX4_determinant_159 (b := 193) (LX_S hX (k := 175) rfl) (LX_F hX (k := 175) (j := 31) rfl) rfl ?_
  refine X_iload_n C dX4_determinant_162 rfl 1 rfl ?_
  refine X_iconst (v := 1) C dX4_determinant_163 rfl ?_
  refine X_isub C dX4_determinant_164 ?_
  have g35 := h.1
  have h := h.2
  refine X_laldS C (LX_S hX (k := 193) rfl) (LX_L hX (k := 193) rfl) g35 rfl dX4_determinant_165 ?_
  exact X_lret C rfl dX4_determinant_166 (hn st _ h)
def w_X4_determinant (st : St) (p1 : Int32) (p2 : Int32) (Φ : St → Int64 → Prop) : Prop := ∀ v1 : Int32, v1 = ((1 : Int32) <<< (((sI st 175 24) + 1) &&& 31)) → ∀ s3, s3 = putL st 193 0 1 → w_X4_determinant_l19 Φ (fun (s34 : St) (x3 : Int32) => w_X4_determinant_b158 Φ s34 x3) gFU s3 p1 p2 v1 1
theorem nm_X4_determinant : yX4_determinant.cls ≠ "java/lang/invoke/MethodHandle" ∧ yX4_determinant.cls ≠ "java/lang/invoke/VarHandle" ∧ (parseMethodDescriptor yX4_determinant.desc).map (fun d => d.parameters.length) = some 2 := by decide +kernel
theorem e_X4_determinant : plainFor yX4_determinant = true := plainFor_of_name (by decide +kernel)
theorem m_X4_determinant {θ : Th} {l : Launch} (hl0 : l.stackTraces = false) (hX : LX θ) {d : Nat} (hd : 2 ≤ d) (st : St) (p1 : Int32) (p2 : Int32) {Φ : St → Int64 → Prop} (h : w_X4_determinant st p1 p2 Φ) : Ct θ l yX4_determinant (ws_ yX4_determinant cX4_determinant 10 (some Jvm.ClassFile.FieldType.long)) d [.ref (ad θ 175), .int p1, .int p2] st (pL Φ, noX) := by
  refine Ct_entry hl0 e_X4_determinant (Nat.le_of_ble_eq_true rfl) (fun κ hκ _ C => ?_)
  have hn : ∀ st r, Φ st r → ((pL Φ, noX) : Ph).1 st (some (.long r)) := fun st r q => ⟨r, rfl, q⟩
  change X _ _ _ _ _ [(0, .ref (ad θ 175)), (1, .int p1), (2, .int p2)] _
  unfold w_X4_determinant at h
  refine X_iconst (v := 1) C dX4_determinant_0 rfl ?_
  refine X_aload_n C dX4_determinant_1 rfl 0 rfl (isRV_r _) ?_
  refine X_getS (ci := 4) (j := 24) (q := (RX4, TX4, 54)) C rfl (by decide) q1790 rfl dX4_determinant_2 (LX_S hX (k := 175) rfl) (v := .int (sI st 175 24)) rfl ?_
  refine X_iconst (v := 1) C dX4_determinant_5 rfl ?_
  refine X_iadd C dX4_determinant_6 ?_
  refine X_ishl C dX4_determinant_7 ?_
  refine X_topi (fun v1 e2 => ?_)
  have h := h v1 e2
  refine X_istore_n C dX4_determinant_8 rfl (lo2 := [(3, _), (0, _), (1, _), (2, _)]) (by decide) rfl ?_
  refine X_aload_n C dX4_determinant_9 rfl 1 rfl (isRV_r _) ?_
  refine X_getF (ci := 4) (j := 31) (q := (RX4, TX4, 54)) C rfl (by decide) q1797 rfl dX4_determinant_10 (b := 193) (LX_S hX (k := 175) rfl) (LX_F hX (k := 175) (j := 31) rfl) rfl ?_
  refine X_iconst (v := 0) C dX4_determinant_13 rfl ?_
  refine X_lconst (v := 1) C dX4_determinant_14 rfl ?_
  refine X_lastS C (LX_S hX (k := 193) rfl) (LX_L hX (k := 193) rfl) (vp_dec rfl) rfl dX4_determinant_15 ?_
  refine X_nm (fun s3 e4 => ?_)
  have h := h s3 e4
  refine X_iconst (v := 1) C dX4_determinant_16 rfl ?_
  refine X_istore C dX4_determinant_17 (lo2 := [(4, _), (3, _), (0, _), (1, _), (2, _)]) (by decide) rfl ?_
  refine X_sub [2, 3, 4, 1, 0] (lo2 := [(0, _), (1, _), (2, _), (3, _), (4, _)]) rfl ?_
  refine t_X4_determinant_l19 hX hd C hn ?_ gFU s3 p1 p2 v1 1 h
  · intro s34 x3 h
    exact t_X4_determinant_b158 hX hd C hn s34 x3 h

def w_X4_isKernel_l65 (Φ : St → Int32 → Prop) (E84 : St → Int64 → Prop) : Nat → St → Int64 → Int32 → Prop
  | 0, _, _, _ => False
  | n + 1, st, x1, x3 => ((27 ≤ x3) → E84 st x1) ∧ ((¬ 27 ≤ x3) → vp_in x3 27 ∧ ∀ s27, s27 = putL st 191 (x3.toNatClampNeg) 0 → w_X4_isKernel_l65 Φ E84 n s27 x1 (x3 + 1))
theorem t_X4_isKernel_l65 {θ : Th} {κ : Kx} {Ph : Ph} (hX : LX θ) {d : Nat} (hd : 3 ≤ d) (C : Cx θ κ yX4_isKernel cX4_isKernel 7 (some Jvm.ClassFile.FieldType.boolean) [] d) {Φ : St → Int32 → Prop} (hn : ∀ st r, Φ st r → Ph.1 st (some (.int r))) {E84 : St → Int64 → Prop} (hE84 : ∀ (st : St) (x1 : Int64), E84 st x1 → X θ κ Ph st 84 [(0, .ref (ad θ 175)), (1, .long x1)] []) : ∀ (n : Nat) (st : St) (x1 : Int64) (x3 : Int32), w_X4_isKernel_l65 Φ E84 n st x1 x3 → X θ κ Ph st 65 [(0, .ref (ad θ 175)), (1, .long x1), (3, .int x3)] [] := by
  intro n
  induction n with
  | zero => intro st x1 x3 h; exact h.elim
  | succ n hK65 =>
    intro st x1 x3 h
    rw [w_X4_isKernel_l65] at h
    refine X_iload_n C dX4_isKernel_65 rfl 2 rfl ?_
    refine X_bipush (v := 27) C dX4_isKernel_66 rfl ?_
    refine X_icmp_ge (tgt := 84) C dX4_isKernel_68 (by decide) (fun c25 => ?_) (fun c25 => ?_)
    · have h := h.1 c25
      refine X_sub [0, 1] (lo2 := [(0, _), (1, _)]) rfl ?_
      exact hE84 st x1 h
    · have h := h.2 c25
      refine X_aload_n C dX4_isKernel_71 rfl 0 rfl (isRV_r _) ?_
      refine X_getF (ci := 4) (j := 27) (q := (RX4, TX4, 54)) C rfl (by decide) q1793 rfl dX4_isKernel_72 (b := 191) (LX_S hX (k := 175) rfl) (LX_F hX (k := 175) (j := 27) rfl) rfl ?_
      refine X_iload_n C dX4_isKernel_75 rfl 2 rfl ?_
      refine X_lconst (v := 0) C dX4_isKernel_76 rfl ?_
      have g26 := h.1
      have h := h.2
      refine X_lastS C (LX_S hX (k := 191) rfl) (LX_L hX (k := 191) rfl) g26 rfl dX4_isKernel_77 ?_
      refine X_nm (fun s27 e28 => ?_)
      have h := h s27 e28
      refine X_iinc (v := (x3 + 1)) C (j := 2) dX4_isKernel_78 rfl rfl (lo2 := [(3, _), (0, _), (1, _)]) (by decide) rfl ?_
      refine X_goto (tgt := 65) C dX4_isKernel_81 (by decide) ?_
      refine X_sub [1, 2, 0] (lo2 := [(0, _), (1, _), (3, _)]) rfl ?_
      exact hK65 s27 x1 (x3 + 1) h
def w_X4_isKernel_l86 (Φ : St → Int32 → Prop) (E104 : St → Int64 → Prop) : Nat → St → Int64 → Int32 → Prop
  | 0, _, _, _ => False
  | n + 1, st, x1, x3 => ((3 ≤ x3) → E104 st x1) ∧ ((¬ 3 ≤ x3) → vp_in x3 3 ∧ ∀ s32, s32 = putL st 192 (x3.toNatClampNeg) 0 → w_X4_isKernel_l86 Φ E104 n s32 x1 (x3 + 1))
theorem t_X4_isKernel_l86 {θ : Th} {κ : Kx} {Ph : Ph} (hX : LX θ) {d : Nat} (hd : 3 ≤ d) (C : Cx θ κ yX4_isKernel cX4_isKernel 7 (some Jvm.ClassFile.FieldType.boolean) [] d) {Φ : St → Int32 → Prop} (hn : ∀ st r, Φ st r → Ph.1 st (some (.int r))) {E104 : St → Int64 → Prop} (hE104 : ∀ (st : St) (x1 : Int64), E104 st x1 → X θ κ Ph st 104 [(0, .ref (ad θ 175)), (1, .long x1)] []) : ∀ (n : Nat) (st : St) (x1 : Int64) (x3 : Int32), w_X4_isKernel_l86 Φ E104 n st x1 x3 → X θ κ Ph st 86 [(0, .ref (ad θ 175)), (1, .long x1), (3, .int x3)] [] := by
  intro n
  induction n with
  | zero => intro st x1 x3 h; exact h.elim
  | succ n hK86 =>
    intro st x1 x3 h
    rw [w_X4_isKernel_l86] at h
    refine X_iload_n C dX4_isKernel_86 rfl 2 rfl ?_
    refine X_iconst (v := 3) C dX4_isKernel_87 rfl ?_
    refine X_icmp_ge (tgt := 104) C dX4_isKernel_88 (by decide) (fun c30 => ?_) (fun c30 => ?_)
    · have h := h.1 c30
      refine X_sub [0, 1] (lo2 := [(0, _), (1, _)]) rfl ?_
      exact hE104 st x1 h
    · have h := h.2 c30
      refine X_aload_n C dX4_isKernel_91 rfl 0 rfl (isRV_r _) ?_
      refine X_getF (ci := 4) (j := 28) (q := (RX4, TX4, 54)) C rfl (by decide) q1794 rfl dX4_isKernel_92 (b := 192) (LX_S hX (k := 175) rfl) (LX_F hX (k := 175) (j := 28) rfl) rfl ?_
      refine X_iload_n C dX4_isKernel_95 rfl 2 rfl ?_
      refine X_lconst (v := 0) C dX4_isKernel_96 rfl ?_
      have g31 := h.1
      have h := h.2
      refine X_lastS C (LX_S hX (k := 192) rfl) (LX_L hX (k := 192) rfl) g31 rfl dX4_isKernel_97 ?_
      refine X_nm (fun s32 e33 => ?_)
      have h := h s32 e33
      refine X_iinc (v := (x3 + 1)) C (j := 2) dX4_isKernel_98 rfl rfl (lo2 := [(3, _), (0, _), (1, _)]) (by decide) rfl ?_
      refine X_goto (tgt := 86) C dX4_isKernel_101 (by decide) ?_
      refine X_sub [1, 2, 0] (lo2 := [(0, _), (1, _), (3, _)]) rfl ?_
      exact hK86 s32 x1 (x3 + 1) h
def w_X4_isKernel_l106 (Φ : St → Int32 → Prop) (E184 : St → Prop) (E192 : St → Prop) : Nat → St → Int64 → Int32 → Prop
  | 0, _, _, _ => False
  | n + 1, st, x1, x3 => (((sI st 175 24) ≤ x3) → E192 st) ∧ ((¬ (sI st 175 24) ≤ x3) → vp_in x3 3 ∧ w_X4_determinant st 0 x3 (fun (s38 : St) (r37 : Int64) => vp_in (sI st 190 x3.toNatClampNeg) 3 ∧ ∀ s46, s46 = putL s38 192 ((sI st 190 x3.toNatClampNeg).toNatClampNeg) (x1 * r37) → w_X4_determinant s46 1 x3 (fun (s49 : St) (r48 : Int64) => vp_in (sI s46 189 x3.toNatClampNeg) 27 ∧ ∀ s57, s57 = putL s49 191 ((sI s46 189 x3.toNatClampNeg).toNatClampNeg) (x1 * r48) → vp_in (sI s57 190 x3.toNatClampNeg) 3 ∧ (((sL s57 192 (sI s57 190 x3.toNatClampNeg).toNatClampNeg) < 0) → E184 s57) ∧ ((¬ (sL s57 192 (sI s57 190 x3.toNatClampNeg).toNatClampNeg) < 0) → vp_in (sI s57 189 x3.toNatClampNeg) 27 ∧ ((0 ≤ (sL s57 191 (sI s57 189 x3.toNatClampNeg).toNatClampNeg)) → w_X4_isKernel_l106 Φ E184 E192 n s57 x1 (x3 + 1)) ∧ ((¬ 0 ≤ (sL s57 191 (sI s57 189 x3.toNatClampNeg).toNatClampNeg)) → E184 s57)))))
theorem t_X4_isKernel_l106 {θ : Th} {κ : Kx} {Ph : Ph} (hX : LX θ) {d : Nat} (hd : 3 ≤ d) (C : Cx θ κ yX4_isKernel cX4_isKernel 7 (some Jvm.ClassFile.FieldType.boolean) [] d) {Φ : St → Int32 → Prop} (hn : ∀ st r, Φ st r → Ph.1 st (some (.int r))) {E184 : St → Prop} {E192 : St → Prop} (hE184 : ∀ (st : St), E184 st → X θ κ Ph st 184 [] []) (hE192 : ∀ (st : St), E192 st → X θ κ Ph st 192 [(0, .ref (ad θ 175))] []) : ∀ (n : Nat) (st : St) (x1 : Int64) (x3 : Int32), w_X4_isKernel_l106 Φ E184 E192 n st x1 x3 → X θ κ Ph st 106 [(0, .ref (ad θ 175)), (1, .long x1), (3, .int x3)] [] := by
  intro n
  induction n with
  | zero => intro st x1 x3 h; exact h.elim
  | succ n hK106 =>
    intro st x1 x3 h
    rw [w_X4_isKernel_l106] at h
    refine X_iload_n C dX4_isKernel_106 rfl 2 rfl ?_
    refine X_aload_n C dX4_isKernel_107 rfl 0 rfl (isRV_r _) ?_
    refine X_getS (ci := 4) (j := 24) (q := (RX4, TX4, 54)) C rfl (by decide) q1790 rfl dX4_isKernel_108 (LX_S hX (k := 175) rfl) (v := .int (sI st 175 24)) rfl ?_
    refine X_icmp_ge (tgt := 192) C dX4_isKernel_111 (by decide) (fun c35 => ?_) (fun c35 => ?_)
    · have h := h.1 c35
      refine X_sub [0] (lo2 := [(0, _)]) rfl ?_
      exact hE192 st h
    · have h := h.2 c35
      refine X_aload_n C dX4_isKernel_114 rfl 0 rfl (isRV_r _) ?_
      refine X_getF (ci := 4) (j := 28) (q := (RX4, TX4, 54)) C rfl (by decide) q1794 rfl dX4_isKernel_115 (b := 192) (LX_S hX (k := 175) rfl) (LX_F hX (k := 175) (j := 28) rfl) rfl ?_
      refine X_aload_n C dX4_isKernel_118 rfl 0 rfl (isRV_r _) ?_
      refine X_getF (ci := 4) (j := 26) (q := (RX4, TX4, 54)) C rfl (by decide) q1792 rfl dX4_isKernel_119 (b := 190) (LX_S hX (k := 175) rfl) (LX_F hX (k := 175) (j := 26) rfl) rfl ?_
      refine X_iload_n C dX4_isKernel_122 rfl 2 rfl ?_
      have g36 := h.1
      have h := h.2
      refine X_ialdS C (LX_S hX (k := 190) rfl) (LX_L hX (k := 190) rfl) g36 rfl dX4_isKernel_123 ?_
      refine X_lload_n C dX4_isKernel_124 rfl 1 rfl ?_
      refine X_aload_n C dX4_isKernel_125 rfl 0 rfl (isRV_r _) ?_
      refine X_iconst (v := 0) C dX4_isKernel_126 rfl ?_
      refine X_iload_n C dX4_isKernel_127 rfl 2 rfl ?_
      refine X_callVS (ci := 4) (q := (RX4, TX4, 54)) (As := [_, _]) (rest := [_, _, _]) C rfl (LX_S hX (k := 175) rfl) q2064 q2066 qs78 q136 q2067 ⟨rfl, nm_X4_determinant⟩ rfl dX4_isKernel_128 (m_X4_determinant (Cx_l C) hX (d := d - 1) (by omega) st 0 x3 h) (by omega) (by decide) (Nat.le_of_ble_eq_true rfl) (fun s38 w39 hE40 hP41 => ?_) (fun s44 E42 q43 hE40 hP41 => ?_)
      rotate_left
      · exact False.elim hP41
      obtain ⟨r37, rfl, h⟩ := hP41
      refine X_tls ?_
      refine X_lmul C dX4_isKernel_131 ?_
      have g45 := h.1
      have h := h.2
      refine X_lastS C (LX_S hX (k := 192) rfl) (LX_L hX (k := 192) rfl) g45 rfl dX4_isKernel_132 ?_
      refine X_nm (fun s46 e47 => ?_)
      have h := h s46 e47
      refine X_aload_n C dX4_isKernel_133 rfl 0 rfl (isRV_r _) ?_
      refine X_getF (ci := 4) (j := 27) (q := (RX4, TX4, 54)) C rfl (by decide) q1793 rfl dX4_isKernel_134 (b := 191) (LX_S hX (k := 175) rfl) (LX_F hX (k := 175) (j := 27) rfl) rfl ?_
      refine X_aload_n C dX4_isKernel_137 rfl 0 rfl (isRV_r _) ?_
      refine X_getF (ci := 4) (j := 25) (q := (RX4, TX4, 54)) C rfl (by decide) q1791 rfl dX4_isKernel_138 (b := 189) (LX_S hX (k := 175) rfl) (LX_F hX (k := 175) (j := 25) rfl) rfl ?_
      refine X_iload_n C dX4_isKernel_141 rfl 2 rfl ?_
      refine X_ialdS C (LX_S hX (k := 189) rfl) (LX_L hX (k := 189) rfl) g36 rfl dX4_isKernel_142 ?_
      refine X_lload_n C dX4_isKernel_143 rfl 1 rfl ?_
      refine X_aload_n C dX4_isKernel_144 rfl 0 rfl (isRV_r _) ?_
      refine X_iconst (v := 1) C dX4_isKernel_145 rfl ?_
      refine X_iload_n C dX4_isKernel_146 rfl 2 rfl ?_
      refine X_callVS (ci := 4) (q := (RX4, TX4, 54)) (As := [_, _]) (rest := [_, _, _]) C rfl (LX_S hX (k := 175) rfl) q2064 q2066 qs78 q136 q2067 ⟨rfl, nm_X4_determinant⟩ rfl dX4_isKernel_147 (m_X4_determinant (Cx_l C) hX (d := d - 1) (by omega) s46 1 x3 h) (by omega) (by decide) (Nat.le_of_ble_eq_true rfl) (fun s49 w50 hE51 hP52 => ?_) (fun s55 E53 q54 hE51 hP52 => ?_)
      rotate_left
      · exact False.elim hP52
      obtain ⟨r48, rfl, h⟩ := hP52
      refine X_tls ?_
      refine X_lmul C dX4_isKernel_150 ?_
      have g56 := h.1
      have h := h.2
      refine X_lastS C (LX_S hX (k := 191) rfl) (LX_L hX (k := 191) rfl) g56 rfl dX4_isKernel_151 ?_
      refine X_nm (fun s57 e58 => ?_)
      have h := h s57 e58
      refine X_aload_n C dX4_isKernel_152 rfl 0 rfl (isRV_r _) ?_
      refine X_getF (ci := 4) (j := 28) (q := (RX4, TX4, 54)) C rfl (by decide) q1794 rfl dX4_isKernel_153 (b := 192) (LX_S hX (k := 175) rfl) (LX_F hX (k := 175) (j := 28) rfl) rfl ?_
      refine X_aload_n C dX4_isKernel_156 rfl 0 rfl (isRV_r _) ?_
      refine X_getF (ci := 4) (j := 26) (q := (RX4, TX4, 54)) C rfl (by decide) q1792 rfl dX4_isKernel_157 (b := 190) (LX_S hX (k := 175) rfl) (LX_F hX (k := 175) (j := 26) rfl) rfl ?_
      refine X_iload_n C dX4_isKernel_160 rfl 2 rfl ?_
      refine X_ialdS C (LX_S hX (k := 190) rfl) (LX_L hX (k := 190) rfl) g36 rfl dX4_isKernel_161 ?_
      have g59 := h.1
      have h := h.2
      refine X_laldS C (LX_S hX (k := 192) rfl) (LX_L hX (k := 192) rfl) g59 rfl dX4_isKernel_162 ?_
      refine X_lconst (v := 0) C dX4_isKernel_163 rfl ?_
      refine X_lcmp_lt (tgt := 184) C dX4_isKernel_164 dX4_isKernel_165 (by decide) (fun c60 => ?_) (fun c60 => ?_)
      · have h := h.1 c60
        refine X_sub [] (lo2 := []) rfl ?_
        exact hE184 s57 h
      · have h := h.2 c60
        refine X_aload_n C dX4_isKernel_168 rfl 0 rfl (isRV_r _) ?_
        refine X_getF (ci := 4) (j := 27) (q := (RX4, TX4, 54)) C rfl (by decide) q1793 rfl dX4_isKernel_169 (b := 191) (LX_S hX (k := 175) rfl) (LX_F hX (k := 175) (j := 27) rfl) rfl ?_
        refine X_aload_n C dX4_isKernel_172 rfl 0 rfl (isRV_r _) ?_
        refine X_getF (ci := 4) (j := 25) (q := (RX4, TX4, 54)) C rfl (by decide) q1791 rfl dX4_isKernel_173 (b := 189) (LX_S hX (k := 175) rfl) (LX_F hX (k := 175) (j := 25) rfl) rfl ?_
        refine X_iload_n C dX4_isKernel_176 rfl 2 rfl ?_
        refine X_ialdS C (LX_S hX (k := 189) rfl) (LX_L hX (k := 189) rfl) g36 rfl dX4_isKernel_177 ?_
        have g61 := h.1
        have h := h.2
        refine X_laldS C (LX_S hX (k := 191) rfl) (LX_L hX (k := 191) rfl) g61 rfl dX4_isKernel_178 ?_
        refine X_lconst (v := 0) C dX4_isKernel_179 rfl ?_
        refine X_lcmp_ge (tgt := 186) C dX4_isKernel_180 dX4_isKernel_181 (by decide) (fun c62 => ?_) (fun c62 => ?_)
        · have h := h.1 c62
          refine X_iinc (v := (x3 + 1)) C (j := 2) dX4_isKernel_186 rfl rfl (lo2 := [(3, _), (0, _), (1, _)]) (by decide) rfl ?_
          refine X_goto (tgt := 106) C dX4_isKernel_189 (by decide) ?_
          refine X_sub [1, 2, 0] (lo2 := [(0, _), (1, _), (3, _)]) rfl ?_
          exact hK106 s57 x1 (x3 + 1) h
        · have h := h.2 c62
          refine X_sub [] (lo2 := []) rfl ?_
          exact hE184 s57 h
def w_X4_isKernel_b184 (Φ : St → Int32 → Prop) (st : St) : Prop := Φ st 0
theorem t_X4_isKernel_b184 {θ : Th} {κ : Kx} {Ph : Ph} (hX : LX θ) {d : Nat} (hd : 3 ≤ d) (C : Cx θ κ yX4_isKernel cX4_isKernel 7 (some Jvm.ClassFile.FieldType.boolean) [] d) {Φ : St → Int32 → Prop} (hn : ∀ st r, Φ st r → Ph.1 st (some (.int r))) (st : St) (h : w_X4_isKernel_b184 Φ st) : X θ κ Ph st 184 [] [] := by
  unfold w_X4_isKernel_b184 at h
  refine X_iconst (v := 0) C dX4_isKernel_184 rfl ?_
  exact X_zret C rfl rfl dX4_isKernel_185 (hn st _ h)
def w_X4_isKernel_l208 (Φ : St → Int32 → Prop) (E243 : St → Int32 → Int64 → Prop) : Nat → St → Int32 → Int64 → Int32 → Prop
  | 0, _, _, _, _ => False
  | n + 1, st, x3, x4, x6 => (((sI st 175 23) ≤ x6) → E243 st x3 x4) ∧ ((¬ (sI st 175 23) ≤ x6) → w_X4_at st x3 x6 (fun (r67 : Int64) => vp_in x6 3 ∧ ∀ v76 : Int64, v76 = (x4 + (r67 * (sL st 192 x6.toNatClampNeg))) → w_X4_isKernel_l208 Φ E243 n st x3 v76 (x6 + 1)))
theorem t_X4_isKernel_l208 {θ : Th} {κ : Kx} {Ph : Ph} (hX : LX θ) {d : Nat} (hd : 3 ≤ d) (C : Cx θ κ yX4_isKernel cX4_isKernel 7 (some Jvm.ClassFile.FieldType.boolean) [] d) {Φ : St → Int32 → Prop} (hn : ∀ st r, Φ st r → Ph.1 st (some (.int r))) {E243 : St → Int32 → Int64 → Prop} (hE243 : ∀ (st : St) (x3 : Int32) (x4 : Int64), E243 st x3 x4 → X θ κ Ph st 243 [(0, .ref (ad θ 175)), (3, .int x3), (4, .long x4)] []) : ∀ (n : Nat) (st : St) (x3 : Int32) (x4 : Int64) (x6 : Int32), w_X4_isKernel_l208 Φ E243 n st x3 x4 x6 → X θ κ Ph st 208 [(0, .ref (ad θ 175)), (3, .int x3), (4, .long x4), (6, .int x6)] [] := by
  intro n
  induction n with
  | zero => intro st x3 x4 x6 h; exact h.elim
  | succ n hK208 =>
    intro st x3 x4 x6 h
    rw [w_X4_isKernel_l208] at h
    refine X_iload C dX4_isKernel_208 3 rfl ?_
    refine X_aload_n C dX4_isKernel_210 rfl 0 rfl (isRV_r _) ?_
    refine X_getS (ci := 4) (j := 23) (q := (RX4, TX4, 54)) C rfl (by decide) q1789 rfl dX4_isKernel_211 (LX_S hX (k := 175) rfl) (v := .int (sI st 175 23)) rfl ?_
    refine X_icmp_ge (tgt := 243) C dX4_isKernel_214 (by decide) (fun c66 => ?_) (fun c66 => ?_)
    · have h := h.1 c66
      refine X_sub [0, 1, 2] (lo2 := [(0, _), (3, _), (4, _)]) rfl ?_
      exact hE243 st x3 x4 h
    · have h := h.2 c66
      refine X_lload C dX4_isKernel_217 2 rfl ?_
      refine X_aload_n C dX4_isKernel_219 rfl 0 rfl (isRV_r _) ?_
      refine X_iload_n C dX4_isKernel_220 rfl 1 rfl ?_
      refine X_iload C dX4_isKernel_221 3 rfl ?_
      refine X_callVS (ci := 4) (q := (RX4, TX4, 54)) (As := [_, _]) (rest := [_]) C rfl (LX_S hX (k := 175) rfl) q2073 q2075 qs80 q136 q2076 ⟨rfl, nm_X4_at⟩ rfl dX4_isKernel_223 (m_X4_at (Cx_l C) hX (d := d - 1) (by omega) st x3 x6 h) (by omega) (by decide) (Nat.le_of_ble_eq_true rfl) (fun s73 w68 hE69 hP70 => ?_) (fun s74 E71 q72 hE69 hP70 => ?_)
      rotate_left
      · exact False.elim hP70
      obtain ⟨r67, rfl, rfl, h⟩ := hP70
      refine X_tls ?_
      refine X_aload_n C dX4_isKernel_226 rfl 0 rfl (isRV_r _) ?_
      refine X_getF (ci := 4) (j := 28) (q := (RX4, TX4, 54)) C rfl (by decide) q1794 rfl dX4_isKernel_227 (b := 192) (LX_S hX (k := 175) rfl) (LX_F hX (k := 175) (j := 28) rfl) rfl ?_
      refine X_iload C dX4_isKernel_230 3 rfl ?_
      have g75 := h.1
      have h := h.2
      refine X_laldS C (LX_S hX (k := 192) rfl) (LX_L hX (k := 192) rfl) g75 rfl dX4_isKernel_232 ?_
      refine X_lmul C dX4_isKernel_233 ?_
      refine X_ladd C dX4_isKernel_234 ?_
      refine X_topl (fun v76 e77 => ?_)
      have h := h v76 e77
      refine X_lstore C dX4_isKernel_235 (lo2 := [(4, _), (0, _), (3, _), (6, _)]) (by decide) rfl ?_
      refine X_iinc (v := (x6 + 1)) C (j := 3) dX4_isKernel_237 rfl rfl (lo2 := [(6, _), (4, _), (0, _), (3, _)]) (by decide) rfl ?_
      refine X_goto (tgt := 208) C dX4_isKernel_240 (by decide) ?_
      refine X_sub [2, 3, 1, 0] (lo2 := [(0, _), (3, _), (4, _), (6, _)]) rfl ?_
      exact hK208 st x3 v76 (x6 + 1) h
def w_X4_isKernel_b243 (Φ : St → Int32 → Prop) (E253 : St → Prop) (K194 : St → Int32 → Prop) (st : St) (x3 : Int32) (x4 : Int64) : Prop := ((x4 ≤ (sL st 175 30)) → K194 st (x3 + 1)) ∧ ((¬ x4 ≤ (sL st 175 30)) → E253 st)
theorem t_X4_isKernel_b243 {θ : Th} {κ : Kx} {Ph : Ph} (hX : LX θ) {d : Nat} (hd : 3 ≤ d) (C : Cx θ κ yX4_isKernel cX4_isKernel 7 (some Jvm.ClassFile.FieldType.boolean) [] d) {Φ : St → Int32 → Prop} (hn : ∀ st r, Φ st r → Ph.1 st (some (.int r))) {E253 : St → Prop} {K194 : St → Int32 → Prop} (hE253 : ∀ (st : St), E253 st → X θ κ Ph st 253 [] []) (hK194 : ∀ (st : St) (x3 : Int32), K194 st x3 → X θ κ Ph st 194 [(0, .ref (ad θ 175)), (3, .int x3)] []) (st : St) (x3 : Int32) (x4 : Int64) (h : w_X4_isKernel_b243 Φ E253 K194 st x3 x4) : X θ κ Ph st 243 [(0, .ref (ad θ 175)), (3, .int x3), (4, .long x4)] [] := by
  unfold w_X4_isKernel_b243 at h
  refine X_lload C dX4_isKernel_243 2 rfl ?_
  refine X_aload_n C dX4_isKernel_245 rfl 0 rfl (isRV_r _) ?_
  refine X_getS (ci := 4) (j := 30) (q := (RX4, TX4, 54)) C rfl (by decide) q1796 rfl dX4_isKernel_246 (LX_S hX (k := 175) rfl) (v := .long (sL st 175 30)) rfl ?_
  refine X_lcmp_le (tgt := 255) C dX4_isKernel_249 dX4_isKernel_250 (by decide) (fun c79 => ?_) (fun c79 => ?_)
  · have h := h.1 c79
    refine X_iinc (v := (x3 + 1)) C (j := 1) dX4_isKernel_255 rfl rfl (lo2 := [(3, _), (0, _), (4, _)]) (by decide) rfl ?_
    refine X_goto (tgt := 194) C dX4_isKernel_258 (by decide) ?_
    refine X_sub [1, 0] (lo2 := [(0, _), (3, _)]) rfl ?_
    exact hK194 st (x3 + 1) h
  · have h := h.2 c79
    refine X_sub [] (lo2 := []) rfl ?_
    exact hE253 st h
def w_X4_isKernel_l194 (Φ : St → Int32 → Prop) (E253 : St → Prop) (E261 : St → Prop) : Nat → St → Int32 → Prop
  | 0, _, _ => False
  | n + 1, st, x3 => (((sI st 175 22) ≤ x3) → E261 st) ∧ ((¬ (sI st 175 22) ≤ x3) → w_X4_isKernel_l208 Φ (fun (s78 : St) (x3 : Int32) (x4 : Int64) => w_X4_isKernel_b243 Φ E253 (w_X4_isKernel_l194 Φ E253 E261 n) s78 x3 x4) gFU st x3 0 0)
theorem t_X4_isKernel_l194 {θ : Th} {κ : Kx} {Ph : Ph} (hX : LX θ) {d : Nat} (hd : 3 ≤ d) (C : Cx θ κ yX4_isKernel cX4_isKernel 7 (some Jvm.ClassFile.FieldType.boolean) [] d) {Φ : St → Int32 → Prop} (hn : ∀ st r, Φ st r → Ph.1 st (some (.int r))) {E253 : St → Prop} {E261 : St → Prop} (hE253 : ∀ (st : St), E253 st → X θ κ Ph st 253 [] []) (hE261 : ∀ (st : St), E261 st → X θ κ Ph st 261 [(0, .ref (ad θ 175))] []) : ∀ (n : Nat) (st : St) (x3 : Int32), w_X4_isKernel_l194 Φ E253 E261 n st x3 → X θ κ Ph st 194 [(0, .ref (ad θ 175)), (3, .int x3)] [] := by
  intro n
  induction n with
  | zero => intro st x3 h; exact h.elim
  | succ n hK194 =>
    intro st x3 h
    rw [w_X4_isKernel_l194] at h
    refine X_iload_n C dX4_isKernel_194 rfl 1 rfl ?_
    refine X_aload_n C dX4_isKernel_195 rfl 0 rfl (isRV_r _) ?_
    refine X_getS (ci := 4) (j := 22) (q := (RX4, TX4, 54)) C rfl (by decide) q1788 rfl dX4_isKernel_196 (LX_S hX (k := 175) rfl) (v := .int (sI st 175 22)) rfl ?_
    refine X_icmp_ge (tgt := 261) C dX4_isKernel_199 (by decide) (fun c65 => ?_) (fun c65 => ?_)
    · have h := h.1 c65
      refine X_sub [0] (lo2 := [(0, _)]) rfl ?_
      exact hE261 st h
    · have h := h.2 c65
      refine X_lconst (v := 0) C dX4_isKernel_202 rfl ?_
      refine X_lstore C dX4_isKernel_203 (lo2 := [(4, _), (0, _), (3, _)]) (by decide) rfl ?_
      refine X_iconst (v := 0) C dX4_isKernel_205 rfl ?_
      refine X_istore C dX4_isKernel_206 (lo2 := [(6, _), (4, _), (0, _), (3, _)]) (by decide) rfl ?_
      refine X_sub [2, 3, 1, 0] (lo2 := [(0, _), (3, _), (4, _), (6, _)]) rfl ?_
      refine t_X4_isKernel_l208 hX hd C hn ?_ gFU st x3 0 0 h
      · intro s78 x3 x4 h
        exact t_X4_isKernel_b243 hX hd C hn hE253 hK194 s78 x3 x4 h
def w_X4_isKernel_b253 (Φ : St → Int32 → Prop) (st : St) : Prop := Φ st 0
theorem t_X4_isKernel_b253 {θ : Th} {κ : Kx} {Ph : Ph} (hX : LX θ) {d : Nat} (hd : 3 ≤ d) (C : Cx θ κ yX4_isKernel cX4_isKernel 7 (some Jvm.ClassFile.FieldType.boolean) [] d) {Φ : St → Int32 → Prop} (hn : ∀ st r, Φ st r → Ph.1 st (some (.int r))) (st : St) (h : w_X4_isKernel_b253 Φ st) : X θ κ Ph st 253 [] [] := by
  unfold w_X4_isKernel_b253 at h
  refine X_iconst (v := 0) C dX4_isKernel_253 rfl ?_
  exact X_zret C rfl rfl dX4_isKernel_254 (hn st _ h)
def w_X4_isKernel_l277 (Φ : St → Int32 → Prop) (E312 : St → Int32 → Int64 → Prop) : Nat → St → Int32 → Int64 → Int32 → Prop
  | 0, _, _, _, _ => False
  | n + 1, st, x3, x4, x6 => (((sI st 175 22) ≤ x6) → E312 st x3 x4) ∧ ((¬ (sI st 175 22) ≤ x6) → w_X4_at st x6 x3 (fun (r84 : Int64) => vp_in x6 27 ∧ ∀ v93 : Int64, v93 = (x4 + (r84 * (sL st 191 x6.toNatClampNeg))) → w_X4_isKernel_l277 Φ E312 n st x3 v93 (x6 + 1)))
theorem t_X4_isKernel_l277 {θ : Th} {κ : Kx} {Ph : Ph} (hX : LX θ) {d : Nat} (hd : 3 ≤ d) (C : Cx θ κ yX4_isKernel cX4_isKernel 7 (some Jvm.ClassFile.FieldType.boolean) [] d) {Φ : St → Int32 → Prop} (hn : ∀ st r, Φ st r → Ph.1 st (some (.int r))) {E312 : St → Int32 → Int64 → Prop} (hE312 : ∀ (st : St) (x3 : Int32) (x4 : Int64), E312 st x3 x4 → X θ κ Ph st 312 [(0, .ref (ad θ 175)), (3, .int x3), (4, .long x4)] []) : ∀ (n : Nat) (st : St) (x3 : Int32) (x4 : Int64) (x6 : Int32), w_X4_isKernel_l277 Φ E312 n st x3 x4 x6 → X θ κ Ph st 277 [(0, .ref (ad θ 175)), (3, .int x3), (4, .long x4), (6, .int x6)] [] := by
  intro n
  induction n with
  | zero => intro st x3 x4 x6 h; exact h.elim
  | succ n hK277 =>
    intro st x3 x4 x6 h
    rw [w_X4_isKernel_l277] at h
    refine X_iload C dX4_isKernel_277 3 rfl ?_
    refine X_aload_n C dX4_isKernel_279 rfl 0 rfl (isRV_r _) ?_
    refine X_getS (ci := 4) (j := 22) (q := (RX4, TX4, 54)) C rfl (by decide) q1788 rfl dX4_isKernel_280 (LX_S hX (k := 175) rfl) (v := .int (sI st 175 22)) rfl ?_
    refine X_icmp_ge (tgt := 312) C dX4_isKernel_283 (by decide) (fun c83 => ?_) (fun c83 => ?_)
    · have h := h.1 c83
      refine X_sub [0, 1, 2] (lo2 := [(0, _), (3, _), (4, _)]) rfl ?_
      exact hE312 st x3 x4 h
    · have h := h.2 c83
      refine X_lload C dX4_isKernel_286 2 rfl ?_
      refine X_aload_n C dX4_isKernel_288 rfl 0 rfl (isRV_r _) ?_
      refine X_iload C dX4_isKernel_289 3 rfl ?_
      refine X_iload_n C dX4_isKernel_291 rfl 1 rfl ?_
      refine X_callVS (ci := 4) (q := (RX4, TX4, 54)) (As := [_, _]) (rest := [_]) C rfl (LX_S hX (k := 175) rfl) q2073 q2075 qs80 q136 q2076 ⟨rfl, nm_X4_at⟩ rfl dX4_isKernel_292 (m_X4_at (Cx_l C) hX (d := d - 1) (by omega) st x6 x3 h) (by omega) (by decide) (Nat.le_of_ble_eq_true rfl) (fun s90 w85 hE86 hP87 => ?_) (fun s91 E88 q89 hE86 hP87 => ?_)
      rotate_left
      · exact False.elim hP87
      obtain ⟨r84, rfl, rfl, h⟩ := hP87
      refine X_tls ?_
      refine X_aload_n C dX4_isKernel_295 rfl 0 rfl (isRV_r _) ?_
      refine X_getF (ci := 4) (j := 27) (q := (RX4, TX4, 54)) C rfl (by decide) q1793 rfl dX4_isKernel_296 (b := 191) (LX_S hX (k := 175) rfl) (LX_F hX (k := 175) (j := 27) rfl) rfl ?_
      refine X_iload C dX4_isKernel_299 3 rfl ?_
      have g92 := h.1
      have h := h.2
      refine X_laldS C (LX_S hX (k := 191) rfl) (LX_L hX (k := 191) rfl) g92 rfl dX4_isKernel_301 ?_
      refine X_lmul C dX4_isKernel_302 ?_
      refine X_ladd C dX4_isKernel_303 ?_
      refine X_topl (fun v93 e94 => ?_)
      have h := h v93 e94
      refine X_lstore C dX4_isKernel_304 (lo2 := [(4, _), (0, _), (3, _), (6, _)]) (by decide) rfl ?_
      refine X_iinc (v := (x6 + 1)) C (j := 3) dX4_isKernel_306 rfl rfl (lo2 := [(6, _), (4, _), (0, _), (3, _)]) (by decide) rfl ?_
      refine X_goto (tgt := 277) C dX4_isKernel_309 (by decide) ?_
      refine X_sub [2, 3, 1, 0] (lo2 := [(0, _), (3, _), (4, _), (6, _)]) rfl ?_
      exact hK277 st x3 v93 (x6 + 1) h
def w_X4_isKernel_b312 (Φ : St → Int32 → Prop) (E322 : St → Prop) (K263 : St → Int32 → Prop) (st : St) (x3 : Int32) (x4 : Int64) : Prop := (((sL st 175 30) ≤ x4) → K263 st (x3 + 1)) ∧ ((¬ (sL st 175 30) ≤ x4) → E322 st)
theorem t_X4_isKernel_b312 {θ : Th} {κ : Kx} {Ph : Ph} (hX : LX θ) {d : Nat} (hd : 3 ≤ d) (C : Cx θ κ yX4_isKernel cX4_isKernel 7 (some Jvm.ClassFile.FieldType.boolean) [] d) {Φ : St → Int32 → Prop} (hn : ∀ st r, Φ st r → Ph.1 st (some (.int r))) {E322 : St → Prop} {K263 : St → Int32 → Prop} (hE322 : ∀ (st : St), E322 st → X θ κ Ph st 322 [] []) (hK263 : ∀ (st : St) (x3 : Int32), K263 st x3 → X θ κ Ph st 263 [(0, .ref (ad θ 175)), (3, .int x3)] []) (st : St) (x3 : Int32) (x4 : Int64) (h : w_X4_isKernel_b312 Φ E322 K263 st x3 x4) : X θ κ Ph st 312 [(0, .ref (ad θ 175)), (3, .int x3), (4, .long x4)] [] := by
  unfold w_X4_isKernel_b312 at h
  refine X_lload C dX4_isKernel_312 2 rfl ?_
  refine X_aload_n C dX4_isKernel_314 rfl 0 rfl (isRV_r _) ?_
  refine X_getS (ci := 4) (j := 30) (q := (RX4, TX4, 54)) C rfl (by decide) q1796 rfl dX4_isKernel_315 (LX_S hX (k := 175) rfl) (v := .long (sL st 175 30)) rfl ?_
  refine X_lcmp_ge (tgt := 324) C dX4_isKernel_318 dX4_isKernel_319 (by decide) (fun c96 => ?_) (fun c96 => ?_)
  · have h := h.1 c96
    refine X_iinc (v := (x3 + 1)) C (j := 1) dX4_isKernel_324 rfl rfl (lo2 := [(3, _), (0, _), (4, _)]) (by decide) rfl ?_
    refine X_goto (tgt := 263) C dX4_isKernel_327 (by decide) ?_
    refine X_sub [1, 0] (lo2 := [(0, _), (3, _)]) rfl ?_
    exact hK263 st (x3 + 1) h
  · have h := h.2 c96
    refine X_sub [] (lo2 := []) rfl ?_
    exact hE322 st h
def w_X4_isKernel_l263 (Φ : St → Int32 → Prop) (E322 : St → Prop) (E330 : St → Prop) : Nat → St → Int32 → Prop
  | 0, _, _ => False
  | n + 1, st, x3 => (((sI st 175 23) ≤ x3) → E330 st) ∧ ((¬ (sI st 175 23) ≤ x3) → w_X4_isKernel_l277 Φ (fun (s95 : St) (x3 : Int32) (x4 : Int64) => w_X4_isKernel_b312 Φ E322 (w_X4_isKernel_l263 Φ E322 E330 n) s95 x3 x4) gFU st x3 0 0)
theorem t_X4_isKernel_l263 {θ : Th} {κ : Kx} {Ph : Ph} (hX : LX θ) {d : Nat} (hd : 3 ≤ d) (C : Cx θ κ yX4_isKernel cX4_isKernel 7 (some Jvm.ClassFile.FieldType.boolean) [] d) {Φ : St → Int32 → Prop} (hn : ∀ st r, Φ st r → Ph.1 st (some (.int r))) {E322 : St → Prop} {E330 : St → Prop} (hE322 : ∀ (st : St), E322 st → X θ κ Ph st 322 [] []) (hE330 : ∀ (st : St), E330 st → X θ κ Ph st 330 [] []) : ∀ (n : Nat) (st : St) (x3 : Int32), w_X4_isKernel_l263 Φ E322 E330 n st x3 → X θ κ Ph st 263 [(0, .ref (ad θ 175)), (3, .int x3)] [] := by
  intro n
  induction n with
  | zero => intro st x3 h; exact h.elim
  | succ n hK263 =>
    intro st x3 h
    rw [w_X4_isKernel_l263] at h
    refine X_iload_n C dX4_isKernel_263 rfl 1 rfl ?_
    refine X_aload_n C dX4_isKernel_264 rfl 0 rfl (isRV_r _) ?_
    refine X_getS (ci := 4) (j := 23) (q := (RX4, TX4, 54)) C rfl (by decide) q1789 rfl dX4_isKernel_265 (LX_S hX (k := 175) rfl) (v := .int (sI st 175 23)) rfl ?_
    refine X_icmp_ge (tgt := 330) C dX4_isKernel_268 (by decide) (fun c82 => ?_) (fun c82 => ?_)
    · have h := h.1 c82
      refine X_sub [] (lo2 := []) rfl ?_
      exact hE330 st h
    · have h := h.2 c82
      refine X_lconst (v := 0) C dX4_isKernel_271 rfl ?_
      refine X_lstore C dX4_isKernel_272 (lo2 := [(4, _), (0, _), (3, _)]) (by decide) rfl ?_
      refine X_iconst (v := 0) C dX4_isKernel_274 rfl ?_
      refine X_istore C dX4_isKernel_275 (lo2 := [(6, _), (4, _), (0, _), (3, _)]) (by decide) rfl ?_
      refine X_sub [2, 3, 1, 0] (lo2 := [(0, _), (3, _), (4, _), (6, _)]) rfl ?_
      refine t_X4_isKernel_l277 hX hd C hn ?_ gFU st x3 0 0 h
      · intro s95 x3 x4 h
        exact t_X4_isKernel_b312 hX hd C hn hE322 hK263 s95 x3 x4 h
def w_X4_isKernel_b322 (Φ : St → Int32 → Prop) (st : St) : Prop := Φ st 0
theorem t_X4_isKernel_b322 {θ : Th} {κ : Kx} {Ph : Ph} (hX : LX θ) {d : Nat} (hd : 3 ≤ d) (C : Cx θ κ yX4_isKernel cX4_isKernel 7 (some Jvm.ClassFile.FieldType.boolean) [] d) {Φ : St → Int32 → Prop} (hn : ∀ st r, Φ st r → Ph.1 st (some (.int r))) (st : St) (h : w_X4_isKernel_b322 Φ st) : X θ κ Ph st 322 [] [] := by
  unfold w_X4_isKernel_b322 at h
  refine X_iconst (v := 0) C dX4_isKernel_322 rfl ?_
  exact X_zret C rfl rfl dX4_isKernel_323 (hn st _ h)
def w_X4_isKernel_b330 (Φ : St → Int32 → Prop) (st : St) : Prop := Φ st 1
theorem t_X4_isKernel_b330 {θ : Th} {κ : Kx} {Ph : Ph} (hX : LX θ) {d : Nat} (hd : 3 ≤ d) (C : Cx θ κ yX4_isKernel cX4_isKernel 7 (some Jvm.ClassFile.FieldType.boolean) [] d) {Φ : St → Int32 → Prop} (hn : ∀ st r, Φ st r → Ph.1 st (some (.int r))) (st : St) (h : w_X4_isKernel_b330 Φ st) : X θ κ Ph st 330 [] [] := by
  unfold w_X4_isKernel_b330 at h
  refine X_iconst (v := 1) C dX4_isKernel_330 rfl ?_
  exact X_zret C rfl rfl dX4_isKernel_331 (hn st _ h)
def w_X4_isKernel_b261 (Φ : St → Int32 → Prop) (st : St) : Prop := w_X4_isKernel_l263 Φ (fun (s97 : St) => w_X4_isKernel_b322 Φ s97) (fun (s98 : St) => w_X4_isKernel_b330 Φ s98) gFU st 0
theorem t_X4_isKernel_b261 {θ : Th} {κ : Kx} {Ph : Ph} (hX : LX θ) {d : Nat} (hd : 3 ≤ d) (C : Cx θ κ yX4_isKernel cX4_isKernel 7 (some Jvm.ClassFile.FieldType.boolean) [] d) {Φ : St → Int32 → Prop} (hn : ∀ st r, Φ st r → Ph.1 st (some (.int r))) (st : St) (h : w_X4_isKernel_b261 Φ st) : X θ κ Ph st 261 [(0, .ref (ad θ 175))] [] := by
  unfold w_X4_isKernel_b261 at h
  refine X_iconst (v := 0) C dX4_isKernel_261 rfl ?_
  refine X_istore_n C dX4_isKernel_262 rfl (lo2 := [(3, _), (0, _)]) (by decide) rfl ?_
  refine X_sub [1, 0] (lo2 := [(0, _), (3, _)]) rfl ?_
  refine t_X4_isKernel_l263 hX hd C hn ?_ ?_ gFU st 0 h
  · intro s97 h
    exact t_X4_isKernel_b322 hX hd C hn s97 h
  · intro s98 h
    exact t_X4_isKernel_b330 hX hd C hn s98 h
def w_X4_isKernel_b192 (Φ : St → Int32 → Prop) (st : St) : Prop := w_X4_isKernel_l194 Φ (fun (s80 : St) => w_X4_isKernel_b253 Φ s80) (fun (s81 : St) => w_X4_isKernel_b261 Φ s81) gFU st 0
theorem t_X4_isKernel_b192 {θ : Th} {κ : Kx} {Ph : Ph} (hX : LX θ) {d : Nat} (hd : 3 ≤ d) (C : Cx θ κ yX4_isKernel cX4_isKernel 7 (some Jvm.ClassFile.FieldType.boolean) [] d) {Φ : St → Int32 → Prop} (hn : ∀ st r, Φ st r → Ph.1 st (some (.int r))) (st : St) (h : w_X4_isKernel_b192 Φ st) : X θ κ Ph st 192 [(0, .ref (ad θ 175))] [] := by
  unfold w_X4_isKernel_b192 at h
  refine X_iconst (v := 0) C dX4_isKernel_192 rfl ?_
  refine X_istore_n C dX4_isKernel_193 rfl (lo2 := [(3, _), (0, _)]) (by decide) rfl ?_
  refine X_sub [1, 0] (lo2 := [(0, _), (3, _)]) rfl ?_
  refine t_X4_isKernel_l194 hX hd C hn ?_ ?_ gFU st 0 h
  · intro s80 h
    exact t_X4_isKernel_b253 hX hd C hn s80 h
  · intro s81 h
    exact t_X4_isKernel_b261 hX hd C hn s81 h
def w_X4_isKernel_b104 (Φ : St → Int32 → Prop) (st : St) (x1 : Int64) : Prop := w_X4_isKernel_l106 Φ (fun (s63 : St) => w_X4_isKernel_b184 Φ s63) (fun (s64 : St) => w_X4_isKernel_b192 Φ s64) gFU st x1 0
theorem t_X4_isKernel_b104 {θ : Th} {κ : Kx} {Ph : Ph} (hX : LX θ) {d : Nat} (hd : 3 ≤ d) (C : Cx θ κ yX4_isKernel cX4_isKernel 7 (some Jvm.ClassFile.FieldType.boolean) [] d) {Φ : St → Int32 → Prop} (hn : ∀ st r, Φ st r → Ph.1 st (some (.int r))) (st : St) (x1 : Int64) (h : w_X4_isKernel_b104 Φ st x1) : X θ κ Ph st 104 [(0, .ref (ad θ 175)), (1, .long x1)] [] := by
  unfold w_X4_isKernel_b104 at h
  refine X_iconst (v := 0) C dX4_isKernel_104 rfl ?_
  refine X_istore_n C dX4_isKernel_105 rfl (lo2 := [(3, _), (0, _), (1, _)]) (by decide) rfl ?_
  refine X_sub [1, 2, 0] (lo2 := [(0, _), (1, _), (3, _)]) rfl ?_
  refine t_X4_isKernel_l106 hX hd C hn ?_ ?_ gFU st x1 0 h
  · intro s63 h
    exact t_X4_isKernel_b184 hX hd C hn s63 h
  · intro s64 h
    exact t_X4_isKernel_b192 hX hd C hn s64 h
def w_X4_isKernel_b84 (Φ : St → Int32 → Prop) (st : St) (x1 : Int64) : Prop := w_X4_isKernel_l86 Φ (fun (s34 : St) (x1 : Int64) => w_X4_isKernel_b104 Φ s34 x1) gFU st x1 0
theorem t_X4_isKernel_b84 {θ : Th} {κ : Kx} {Ph : Ph} (hX : LX θ) {d : Nat} (hd : 3 ≤ d) (C : Cx θ κ yX4_isKernel cX4_isKernel 7 (some Jvm.ClassFile.FieldType.boolean) [] d) {Φ : St → Int32 → Prop} (hn : ∀ st r, Φ st r → Ph.1 st (some (.int r))) (st : St) (x1 : Int64) (h : w_X4_isKernel_b84 Φ st x1) : X θ κ Ph st 84 [(0, .ref (ad θ 175)), (1, .long x1)] [] := by
  unfold w_X4_isKernel_b84 at h
  refine X_iconst (v := 0) C dX4_isKernel_84 rfl ?_
  refine X_istore_n C dX4_isKernel_85 rfl (lo2 := [(3, _), (0, _), (1, _)]) (by decide) rfl ?_
  refine X_sub [1, 2, 0] (lo2 := [(0, _), (1, _), (3, _)]) rfl ?_
  refine t_X4_isKernel_l86 hX hd C hn ?_ gFU st x1 0 h
  · intro s34 x1 h
    exact t_X4_isKernel_b104 hX hd C hn s34 x1 h
def w_X4_isKernel_b37 (Φ : St → Int32 → Prop) (st : St) (z0 : Int64) : Prop := ∀ s13, s13 = putL st 175 29 ((sL st 175 29) * z0) → w_X4_determinant s13 0 (sI s13 175 24) (fun (s16 : St) (r15 : Int64) => ∀ s23, s23 = putL s16 175 30 (z0 * r15) → w_X4_isKernel_l65 Φ (fun (s29 : St) (x1 : Int64) => w_X4_isKernel_b84 Φ s29 x1) gFU s23 z0 0)
theorem t_X4_isKernel_b37 {θ : Th} {κ : Kx} {Ph : Ph} (hX : LX θ) {d : Nat} (hd : 3 ≤ d) (C : Cx θ κ yX4_isKernel cX4_isKernel 7 (some Jvm.ClassFile.FieldType.boolean) [] d) {Φ : St → Int32 → Prop} (hn : ∀ st r, Φ st r → Ph.1 st (some (.int r))) (st : St) (z0 : Int64) (h : w_X4_isKernel_b37 Φ st z0) : X θ κ Ph st 37 [(0, .ref (ad θ 175))] [.long z0] := by
  unfold w_X4_isKernel_b37 at h
  refine X_lstore_n C dX4_isKernel_37 rfl (lo2 := [(1, _), (0, _)]) (by decide) rfl ?_
  refine X_aload_n C dX4_isKernel_38 rfl 1 rfl (isRV_r _) ?_
  refine X_dup C dX4_isKernel_39 rfl ?_
  refine X_getS (ci := 4) (j := 29) (q := (RX4, TX4, 54)) C rfl (by decide) q1795 rfl dX4_isKernel_40 (LX_S hX (k := 175) rfl) (v := .long (sL st 175 29)) rfl ?_
  refine X_lload_n C dX4_isKernel_43 rfl 0 rfl ?_
  refine X_lmul C dX4_isKernel_44 ?_
  refine X_putSL (ci := 4) (j := 29) (q := (RX4, TX4, 54)) C rfl (by decide) q1795 rfl rfl dX4_isKernel_45 (LX_S hX (k := 175) rfl) rfl ?_
  refine X_nm (fun s13 e14 => ?_)
  have h := h s13 e14
  refine X_aload_n C dX4_isKernel_48 rfl 1 rfl (isRV_r _) ?_
  refine X_lload_n C dX4_isKernel_49 rfl 0 rfl ?_
  refine X_aload_n C dX4_isKernel_50 rfl 1 rfl (isRV_r _) ?_
  refine X_iconst (v := 0) C dX4_isKernel_51 rfl ?_
  refine X_aload_n C dX4_isKernel_52 rfl 1 rfl (isRV_r _) ?_
  refine X_getS (ci := 4) (j := 24) (q := (RX4, TX4, 54)) C rfl (by decide) q1790 rfl dX4_isKernel_53 (LX_S hX (k := 175) rfl) (v := .int (sI s13 175 24)) rfl ?_
  refine X_callVS (ci := 4) (q := (RX4, TX4, 54)) (As := [_, _]) (rest := [_, _]) C rfl (LX_S hX (k := 175) rfl) q2064 q2066 qs78 q136 q2067 ⟨rfl, nm_X4_determinant⟩ rfl dX4_isKernel_56 (m_X4_determinant (Cx_l C) hX (d := d - 1) (by omega) s13 0 (sI s13 175 24) h) (by omega) (by decide) (Nat.le_of_ble_eq_true rfl) (fun s16 w17 hE18 hP19 => ?_) (fun s22 E20 q21 hE18 hP19 => ?_)
  rotate_left
  · exact False.elim hP19
  obtain ⟨r15, rfl, h⟩ := hP19
  refine X_tls ?_
  refine X_lmul C dX4_isKernel_59 ?_
  refine X_putSL (ci := 4) (j := 30) (q := (RX4, TX4, 54)) C rfl (by decide) q1796 rfl rfl dX4_isKernel_60 (LX_S hX (k := 175) rfl) rfl ?_
  refine X_nm (fun s23 e24 => ?_)
  have h := h s23 e24
  refine X_iconst (v := 0) C dX4_isKernel_63 rfl ?_
  refine X_istore_n C dX4_isKernel_64 rfl (lo2 := [(3, _), (1, _), (0, _)]) (by decide) rfl ?_
  refine X_sub [2, 1, 0] (lo2 := [(0, _), (1, _), (3, _)]) rfl ?_
  refine t_X4_isKernel_l65 hX hd C hn ?_ gFU s23 z0 0 h
  · intro s29 x1 h
    exact t_X4_isKernel_b84 hX hd C hn s29 x1 h
def w_X4_isKernel (st : St) (Φ : St → Int32 → Prop) : Prop := w_X4_determinant st 0 (-1) (fun (s2 : St) (r1 : Int64) => ∀ s9, s9 = putL s2 175 29 r1 → (((sL s9 175 29) ≠ 0) → ((0 ≤ (sL s9 175 29)) → w_X4_isKernel_b37 Φ s9 1) ∧ ((¬ 0 ≤ (sL s9 175 29)) → w_X4_isKernel_b37 Φ s9 (-1))) ∧ (((sL s9 175 29) = 0) → Φ s9 0))
theorem nm_X4_isKernel : yX4_isKernel.cls ≠ "java/lang/invoke/MethodHandle" ∧ yX4_isKernel.cls ≠ "java/lang/invoke/VarHandle" ∧ (parseMethodDescriptor yX4_isKernel.desc).map (fun d => d.parameters.length) = some 0 := by decide +kernel
theorem e_X4_isKernel : plainFor yX4_isKernel = true := plainFor_of_name (by decide +kernel)
theorem m_X4_isKernel {θ : Th} {l : Launch} (hl0 : l.stackTraces = false) (hX : LX θ) {d : Nat} (hd : 3 ≤ d) (st : St) {Φ : St → Int32 → Prop} (h : w_X4_isKernel st Φ) : Ct θ l yX4_isKernel (ws_ yX4_isKernel cX4_isKernel 7 (some Jvm.ClassFile.FieldType.boolean)) d [.ref (ad θ 175)] st (pI Φ, noX) := by
  refine Ct_entry hl0 e_X4_isKernel (Nat.le_of_ble_eq_true rfl) (fun κ hκ _ C => ?_)
  have hn : ∀ st r, Φ st r → ((pI Φ, noX) : Ph).1 st (some (.int r)) := fun st r q => ⟨r, rfl, q⟩
  change X _ _ _ _ _ [(0, .ref (ad θ 175))] _
  unfold w_X4_isKernel at h
  refine X_aload_n C dX4_isKernel_0 rfl 0 rfl (isRV_r _) ?_
  refine X_aload_n C dX4_isKernel_1 rfl 0 rfl (isRV_r _) ?_
  refine X_iconst (v := 0) C dX4_isKernel_2 rfl ?_
  refine X_iconst (v := (-1)) C dX4_isKernel_3 rfl ?_
  refine X_callVS (ci := 4) (q := (RX4, TX4, 54)) (As := [_, _]) (rest := [_]) C rfl (LX_S hX (k := 175) rfl) q2064 q2066 qs78 q136 q2067 ⟨rfl, nm_X4_determinant⟩ rfl dX4_isKernel_4 (m_X4_determinant (Cx_l C) hX (d := d - 1) (by omega) st 0 (-1) h) (by omega) (by decide) (Nat.le_of_ble_eq_true rfl) (fun s2 w3 hE4 hP5 => ?_) (fun s8 E6 q7 hE4 hP5 => ?_)
  rotate_left
  · exact False.elim hP5
  obtain ⟨r1, rfl, h⟩ := hP5
  refine X_tls ?_
  refine X_putSL (ci := 4) (j := 29) (q := (RX4, TX4, 54)) C rfl (by decide) q1795 rfl rfl dX4_isKernel_7 (LX_S hX (k := 175) rfl) rfl ?_
  refine X_nm (fun s9 e10 => ?_)
  have h := h s9 e10
  refine X_aload_n C dX4_isKernel_10 rfl 0 rfl (isRV_r _) ?_
  refine X_getS (ci := 4) (j := 29) (q := (RX4, TX4, 54)) C rfl (by decide) q1795 rfl dX4_isKernel_11 (LX_S hX (k := 175) rfl) (v := .long (sL s9 175 29)) rfl ?_
  refine X_lconst (v := 0) C dX4_isKernel_14 rfl ?_
  refine X_lcmp_ne (tgt := 21) C dX4_isKernel_15 dX4_isKernel_16 (by decide) (fun c11 => ?_) (fun c11 => ?_)
  · have h := h.1 c11
    refine X_aload_n C dX4_isKernel_21 rfl 0 rfl (isRV_r _) ?_
    refine X_getS (ci := 4) (j := 29) (q := (RX4, TX4, 54)) C rfl (by decide) q1795 rfl dX4_isKernel_22 (LX_S hX (k := 175) rfl) (v := .long (sL s9 175 29)) rfl ?_
    refine X_lconst (v := 0) C dX4_isKernel_25 rfl ?_
    refine X_lcmp_ge (tgt := 36) C dX4_isKernel_26 dX4_isKernel_27 (by decide) (fun c12 => ?_) (fun c12 => ?_)
    · have h := h.1 c12
      refine X_lconst (v := 1) C dX4_isKernel_36 rfl ?_
      exact t_X4_isKernel_b37 hX hd C hn s9 1 h
    · have h := h.2 c12
      refine X_ldc2 C q2072 dX4_isKernel_30 ?_
      refine X_goto (tgt := 37) C dX4_isKernel_33 (by decide) ?_
      exact t_X4_isKernel_b37 hX hd C hn s9 (-1) h
  · have h := h.2 c11
    refine X_iconst (v := 0) C dX4_isKernel_19 rfl ?_
    exact X_zret C rfl rfl dX4_isKernel_20 (hn s9 _ h)

def w_X4_kernel_l63 (Φ : St → Prop) (E101 : St → Int32 → Prop) (E88 : St → Prop) : Nat → St → Int32 → Int32 → Prop
  | 0, _, _, _ => False
  | n + 1, st, x1, x2 => ((((1 : Int32) <<< ((sI st 175 23) &&& 31)) ≤ x2) → E101 st x1) ∧ ((¬ ((1 : Int32) <<< ((sI st 175 23) &&& 31)) ≤ x2) → w_X4_takes st x2 190 (fun (s38 : St) => w_X4_isKernel s38 (fun (s46 : St) (r45 : Int32) => ((r45 = 0) → w_X4_nextSet x2 (sI s46 175 24) (fun (r54 : Int32) => w_X4_kernel_l63 Φ E101 E88 n s46 x1 r54)) ∧ ((¬ r45 = 0) → E88 s46))))
theorem t_X4_kernel_l63 {θ : Th} {κ : Kx} {Ph : Ph} (hX : LX θ) {d : Nat} (hd : 4 ≤ d) (C : Cx θ κ yX4_kernel cX4_kernel 3 (none : Option Jvm.ClassFile.FieldType) [] d) {Φ : St → Prop} (hn : ∀ st, Φ st → Ph.1 st none) {E101 : St → Int32 → Prop} {E88 : St → Prop} (hE101 : ∀ (st : St) (x1 : Int32), E101 st x1 → X θ κ Ph st 101 [(0, .ref (ad θ 175)), (1, .int x1)] []) (hE88 : ∀ (st : St), E88 st → X θ κ Ph st 88 [] []) : ∀ (n : Nat) (st : St) (x1 : Int32) (x2 : Int32), w_X4_kernel_l63 Φ E101 E88 n st x1 x2 → X θ κ Ph st 63 [(0, .ref (ad θ 175)), (1, .int x1), (2, .int x2)] [] := by
  intro n
  induction n with
  | zero => intro st x1 x2 h; exact h.elim
  | succ n hK63 =>
    intro st x1 x2 h
    rw [w_X4_kernel_l63] at h
    refine X_iload_n C dX4_kernel_63 rfl 2 rfl ?_
    refine X_iconst (v := 1) C dX4_kernel_64 rfl ?_
    refine X_aload_n C dX4_kernel_65 rfl 0 rfl (isRV_r _) ?_
    refine X_getS (ci := 4) (j := 23) (q := (RX4, TX4, 54)) C rfl (by decide) q1789 rfl dX4_kernel_66 (LX_S hX (k := 175) rfl) (v := .int (sI st 175 23)) rfl ?_
    refine X_ishl C dX4_kernel_69 ?_
    refine X_icmp_ge (tgt := 101) C dX4_kernel_70 (by decide) (fun c33 => ?_) (fun c33 => ?_)
    · have h := h.1 c33
      refine X_sub [0, 1] (lo2 := [(0, _), (1, _)]) rfl ?_
      exact hE101 st x1 h
    · have h := h.2 c33
      refine X_iload_n C dX4_kernel_73 rfl 2 rfl ?_
      refine X_aload_n C dX4_kernel_74 rfl 0 rfl (isRV_r _) ?_
      refine X_getF (ci := 4) (j := 26) (q := (RX4, TX4, 54)) C rfl (by decide) q1792 rfl dX4_kernel_75 (b := 190) (LX_S hX (k := 175) rfl) (LX_F hX (k := 175) (j := 26) rfl) rfl ?_
      refine X_shl (LX_S hX (k := 190) rfl) (by decide) (LX_L hX (k := 190) rfl) (fun hs34 hl36 hb35 => ?_)
      refine X_callS (As := [_, _]) (rest := []) C q2057 q2058 q136 q2059 nm_X4_takes rfl dX4_kernel_78 (m_X4_takes (Cx_l C) hX (d := d - 1) (by omega) st x2 190 hs34 hb35 hl36 h) (by omega) (by decide) (Nat.le_of_ble_eq_true rfl) (fun s38 w39 hE40 hP41 => ?_) (fun s44 E42 q43 hE40 hP41 => ?_)
      rotate_left
      · exact False.elim hP41
      obtain ⟨rfl, h⟩ := hP41
      refine X_tln ?_
      refine X_aload_n C dX4_kernel_81 rfl 0 rfl (isRV_r _) ?_
      refine X_callVS (ci := 4) (q := (RX4, TX4, 54)) (As := []) (rest := []) C rfl (LX_S hX (k := 175) rfl) q2060 q2062 qs77 q136 q2063 ⟨rfl, nm_X4_isKernel⟩ rfl dX4_kernel_82 (m_X4_isKernel (Cx_l C) hX (d := d - 1) (by omega) s38 h) (by omega) (by decide) (Nat.le_of_ble_eq_true rfl) (fun s46 w47 hE48 hP49 => ?_) (fun s52 E50 q51 hE48 hP49 => ?_)
      rotate_left
      · exact False.elim hP49
      obtain ⟨r45, rfl, h⟩ := hP49
      refine X_tls ?_
      refine X_if_eq (tgt := 89) C dX4_kernel_85 (by decide) (fun c53 => ?_) (fun c53 => ?_)
      · have h := h.1 c53
        refine X_iload_n C dX4_kernel_89 rfl 2 rfl ?_
        refine X_aload_n C dX4_kernel_90 rfl 0 rfl (isRV_r _) ?_
        refine X_getS (ci := 4) (j := 24) (q := (RX4, TX4, 54)) C rfl (by decide) q1790 rfl dX4_kernel_91 (LX_S hX (k := 175) rfl) (v := .int (sI s46 175 24)) rfl ?_
        refine X_callS (As := [_, _]) (rest := []) C q2054 q2055 q136 q2056 nm_X4_nextSet rfl dX4_kernel_94 (m_X4_nextSet (Cx_l C) hX (d := d - 1) (by omega) s46 x2 (sI s46 175 24) h) (by omega) (by decide) (Nat.le_of_ble_eq_true rfl) (fun s60 w55 hE56 hP57 => ?_) (fun s61 E58 q59 hE56 hP57 => ?_)
        rotate_left
        · exact False.elim hP57
        obtain ⟨r54, rfl, rfl, h⟩ := hP57
        refine X_tls ?_
        refine X_istore_n C dX4_kernel_97 rfl (lo2 := [(2, _), (0, _), (1, _)]) (by decide) rfl ?_
        refine X_goto (tgt := 63) C dX4_kernel_98 (by decide) ?_
        refine X_sub [1, 2, 0] (lo2 := [(0, _), (1, _), (2, _)]) rfl ?_
        exact hK63 s46 x1 r54 h
      · have h := h.2 c53
        refine X_sub [] (lo2 := []) rfl ?_
        exact hE88 s46 h
def w_X4_kernel_b101 (Φ : St → Prop) (K36 : St → Int32 → Prop) (st : St) (x1 : Int32) : Prop := w_X4_nextSet x1 (sI st 175 24) (fun (r63 : Int32) => K36 st r63)
theorem t_X4_kernel_b101 {θ : Th} {κ : Kx} {Ph : Ph} (hX : LX θ) {d : Nat} (hd : 4 ≤ d) (C : Cx θ κ yX4_kernel cX4_kernel 3 (none : Option Jvm.ClassFile.FieldType) [] d) {Φ : St → Prop} (hn : ∀ st, Φ st → Ph.1 st none) {K36 : St → Int32 → Prop} (hK36 : ∀ (st : St) (x1 : Int32), K36 st x1 → X θ κ Ph st 36 [(0, .ref (ad θ 175)), (1, .int x1)] []) (st : St) (x1 : Int32) (h : w_X4_kernel_b101 Φ K36 st x1) : X θ κ Ph st 101 [(0, .ref (ad θ 175)), (1, .int x1)] [] := by
  unfold w_X4_kernel_b101 at h
  refine X_iload_n C dX4_kernel_101 rfl 1 rfl ?_
  refine X_aload_n C dX4_kernel_102 rfl 0 rfl (isRV_r _) ?_
  refine X_getS (ci := 4) (j := 24) (q := (RX4, TX4, 54)) C rfl (by decide) q1790 rfl dX4_kernel_103 (LX_S hX (k := 175) rfl) (v := .int (sI st 175 24)) rfl ?_
  refine X_callS (As := [_, _]) (rest := []) C q2054 q2055 q136 q2056 nm_X4_nextSet rfl dX4_kernel_106 (m_X4_nextSet (Cx_l C) hX (d := d - 1) (by omega) st x1 (sI st 175 24) h) (by omega) (by decide) (Nat.le_of_ble_eq_true rfl) (fun s69 w64 hE65 hP66 => ?_) (fun s70 E67 q68 hE65 hP66 => ?_)
  rotate_left
  · exact False.elim hP66
  obtain ⟨r63, rfl, rfl, h⟩ := hP66
  refine X_tls ?_
  refine X_istore_n C dX4_kernel_109 rfl (lo2 := [(1, _), (0, _)]) (by decide) rfl ?_
  refine X_goto (tgt := 36) C dX4_kernel_110 (by decide) ?_
  refine X_sub [1, 0] (lo2 := [(0, _), (1, _)]) rfl ?_
  exact hK36 st r63 h
def w_X4_kernel_l36 (Φ : St → Prop) (E113 : St → Prop) (E88 : St → Prop) : Nat → St → Int32 → Prop
  | 0, _, _ => False
  | n + 1, st, x1 => ((((1 : Int32) <<< ((sI st 175 22) &&& 31)) ≤ x1) → E113 st) ∧ ((¬ ((1 : Int32) <<< ((sI st 175 22) &&& 31)) ≤ x1) → w_X4_takes st x1 189 (fun (s18 : St) => w_X4_nextSet 0 (sI s18 175 24) (fun (r25 : Int32) => w_X4_kernel_l63 Φ (fun (s62 : St) (x1 : Int32) => w_X4_kernel_b101 Φ (w_X4_kernel_l36 Φ E113 E88 n) s62 x1) (fun (s71 : St) => E88 s71) gFU s18 x1 r25)))
theorem t_X4_kernel_l36 {θ : Th} {κ : Kx} {Ph : Ph} (hX : LX θ) {d : Nat} (hd : 4 ≤ d) (C : Cx θ κ yX4_kernel cX4_kernel 3 (none : Option Jvm.ClassFile.FieldType) [] d) {Φ : St → Prop} (hn : ∀ st, Φ st → Ph.1 st none) {E113 : St → Prop} {E88 : St → Prop} (hE113 : ∀ (st : St), E113 st → X θ κ Ph st 113 [(0, .ref (ad θ 175))] []) (hE88 : ∀ (st : St), E88 st → X θ κ Ph st 88 [] []) : ∀ (n : Nat) (st : St) (x1 : Int32), w_X4_kernel_l36 Φ E113 E88 n st x1 → X θ κ Ph st 36 [(0, .ref (ad θ 175)), (1, .int x1)] [] := by
  intro n
  induction n with
  | zero => intro st x1 h; exact h.elim
  | succ n hK36 =>
    intro st x1 h
    rw [w_X4_kernel_l36] at h
    refine X_iload_n C dX4_kernel_36 rfl 1 rfl ?_
    refine X_iconst (v := 1) C dX4_kernel_37 rfl ?_
    refine X_aload_n C dX4_kernel_38 rfl 0 rfl (isRV_r _) ?_
    refine X_getS (ci := 4) (j := 22) (q := (RX4, TX4, 54)) C rfl (by decide) q1788 rfl dX4_kernel_39 (LX_S hX (k := 175) rfl) (v := .int (sI st 175 22)) rfl ?_
    refine X_ishl C dX4_kernel_42 ?_
    refine X_icmp_ge (tgt := 113) C dX4_kernel_43 (by decide) (fun c13 => ?_) (fun c13 => ?_)
    · have h := h.1 c13
      refine X_sub [0] (lo2 := [(0, _)]) rfl ?_
      exact hE113 st h
    · have h := h.2 c13
      refine X_iload_n C dX4_kernel_46 rfl 1 rfl ?_
      refine X_aload_n C dX4_kernel_47 rfl 0 rfl (isRV_r _) ?_
      refine X_getF (ci := 4) (j := 25) (q := (RX4, TX4, 54)) C rfl (by decide) q1791 rfl dX4_kernel_48 (b := 189) (LX_S hX (k := 175) rfl) (LX_F hX (k := 175) (j := 25) rfl) rfl ?_
      refine X_shl (LX_S hX (k := 189) rfl) (by decide) (LX_L hX (k := 189) rfl) (fun hs14 hl16 hb15 => ?_)
      refine X_callS (As := [_, _]) (rest := []) C q2057 q2058 q136 q2059 nm_X4_takes rfl dX4_kernel_51 (m_X4_takes (Cx_l C) hX (d := d - 1) (by omega) st x1 189 hs14 hb15 hl16 h) (by omega) (by decide) (Nat.le_of_ble_eq_true rfl) (fun s18 w19 hE20 hP21 => ?_) (fun s24 E22 q23 hE20 hP21 => ?_)
      rotate_left
      · exact False.elim hP21
      obtain ⟨rfl, h⟩ := hP21
      refine X_tln ?_
      refine X_iconst (v := 0) C dX4_kernel_54 rfl ?_
      refine X_aload_n C dX4_kernel_55 rfl 0 rfl (isRV_r _) ?_
      refine X_getS (ci := 4) (j := 24) (q := (RX4, TX4, 54)) C rfl (by decide) q1790 rfl dX4_kernel_56 (LX_S hX (k := 175) rfl) (v := .int (sI s18 175 24)) rfl ?_
      refine X_callS (As := [_, _]) (rest := []) C q2054 q2055 q136 q2056 nm_X4_nextSet rfl dX4_kernel_59 (m_X4_nextSet (Cx_l C) hX (d := d - 1) (by omega) s18 0 (sI s18 175 24) h) (by omega) (by decide) (Nat.le_of_ble_eq_true rfl) (fun s31 w26 hE27 hP28 => ?_) (fun s32 E29 q30 hE27 hP28 => ?_)
      rotate_left
      · exact False.elim hP28
      obtain ⟨r25, rfl, rfl, h⟩ := hP28
      refine X_tls ?_
      refine X_istore_n C dX4_kernel_62 rfl (lo2 := [(2, _), (0, _), (1, _)]) (by decide) rfl ?_
      refine X_sub [1, 2, 0] (lo2 := [(0, _), (1, _), (2, _)]) rfl ?_
      refine t_X4_kernel_l63 hX hd C hn ?_ ?_ gFU s18 x1 r25 h
      · intro s62 x1 h
        exact t_X4_kernel_b101 hX hd C hn hK36 s62 x1 h
      · intro s71 h
        exact hE88 s71 h
def w_X4_kernel_b113 (Φ : St → Prop) (K5 : St → Prop) (st : St) : Prop := ∀ s73, s73 = putI st 175 24 ((sI st 175 24) + 1) → K5 s73
theorem t_X4_kernel_b113 {θ : Th} {κ : Kx} {Ph : Ph} (hX : LX θ) {d : Nat} (hd : 4 ≤ d) (C : Cx θ κ yX4_kernel cX4_kernel 3 (none : Option Jvm.ClassFile.FieldType) [] d) {Φ : St → Prop} (hn : ∀ st, Φ st → Ph.1 st none) {K5 : St → Prop} (hK5 : ∀ (st : St), K5 st → X θ κ Ph st 5 [(0, .ref (ad θ 175))] []) (st : St) (h : w_X4_kernel_b113 Φ K5 st) : X θ κ Ph st 113 [(0, .ref (ad θ 175))] [] := by
  unfold w_X4_kernel_b113 at h
  refine X_aload_n C dX4_kernel_113 rfl 0 rfl (isRV_r _) ?_
  refine X_dup C dX4_kernel_114 rfl ?_
  refine X_getS (ci := 4) (j := 24) (q := (RX4, TX4, 54)) C rfl (by decide) q1790 rfl dX4_kernel_115 (LX_S hX (k := 175) rfl) (v := .int (sI st 175 24)) rfl ?_
  refine X_iconst (v := 1) C dX4_kernel_118 rfl ?_
  refine X_iadd C dX4_kernel_119 ?_
  refine X_putSI (ci := 4) (j := 24) (q := (RX4, TX4, 54)) C rfl (by decide) q1790 rfl rfl dX4_kernel_120 (LX_S hX (k := 175) rfl) rfl rfl rfl ?_
  refine X_nm (fun s73 e74 => ?_)
  have h := h s73 e74
  refine X_goto (tgt := 5) C dX4_kernel_123 (by decide) ?_
  exact hK5 s73 h
def w_X4_kernel_l5 (Φ : St → Prop) (E126 : St → Prop) (E88 : St → Prop) : Nat → St → Prop
  | 0, _ => False
  | n + 1, st => (((sI st 175 23) < (sI st 175 24)) → E126 st) ∧ ((¬ (sI st 175 23) < (sI st 175 24)) → (((sI st 175 22) < (sI st 175 24)) → E126 st) ∧ ((¬ (sI st 175 22) < (sI st 175 24)) → w_X4_nextSet 0 (sI st 175 24) (fun (r5 : Int32) => w_X4_kernel_l36 Φ (fun (s72 : St) => w_X4_kernel_b113 Φ (w_X4_kernel_l5 Φ E126 E88 n) s72) (fun (s75 : St) => E88 s75) gFU st r5)))
theorem t_X4_kernel_l5 {θ : Th} {κ : Kx} {Ph : Ph} (hX : LX θ) {d : Nat} (hd : 4 ≤ d) (C : Cx θ κ yX4_kernel cX4_kernel 3 (none : Option Jvm.ClassFile.FieldType) [] d) {Φ : St → Prop} (hn : ∀ st, Φ st → Ph.1 st none) {E126 : St → Prop} {E88 : St → Prop} (hE126 : ∀ (st : St), E126 st → X θ κ Ph st 126 [] []) (hE88 : ∀ (st : St), E88 st → X θ κ Ph st 88 [] []) : ∀ (n : Nat) (st : St), w_X4_kernel_l5 Φ E126 E88 n st → X θ κ Ph st 5 [(0, .ref (ad θ 175))] [] := by
  intro n
  induction n with
  | zero => intro st h; exact h.elim
  | succ n hK5 =>
    intro st h
    rw [w_X4_kernel_l5] at h
    refine X_aload_n C dX4_kernel_5 rfl 0 rfl (isRV_r _) ?_
    refine X_getS (ci := 4) (j := 24) (q := (RX4, TX4, 54)) C rfl (by decide) q1790 rfl dX4_kernel_6 (LX_S hX (k := 175) rfl) (v := .int (sI st 175 24)) rfl ?_
    refine X_aload_n C dX4_kernel_9 rfl 0 rfl (isRV_r _) ?_
    refine X_getS (ci := 4) (j := 23) (q := (RX4, TX4, 54)) C rfl (by decide) q1789 rfl dX4_kernel_10 (LX_S hX (k := 175) rfl) (v := .int (sI st 175 23)) rfl ?_
    refine X_icmp_gt (tgt := 126) C dX4_kernel_13 (by decide) (fun c3 => ?_) (fun c3 => ?_)
    · have h := h.1 c3
      refine X_sub [] (lo2 := []) rfl ?_
      exact hE126 st h
    · have h := h.2 c3
      refine X_aload_n C dX4_kernel_16 rfl 0 rfl (isRV_r _) ?_
      refine X_getS (ci := 4) (j := 24) (q := (RX4, TX4, 54)) C rfl (by decide) q1790 rfl dX4_kernel_17 (LX_S hX (k := 175) rfl) (v := .int (sI st 175 24)) rfl ?_
      refine X_aload_n C dX4_kernel_20 rfl 0 rfl (isRV_r _) ?_
      refine X_getS (ci := 4) (j := 22) (q := (RX4, TX4, 54)) C rfl (by decide) q1788 rfl dX4_kernel_21 (LX_S hX (k := 175) rfl) (v := .int (sI st 175 22)) rfl ?_
      refine X_icmp_gt (tgt := 126) C dX4_kernel_24 (by decide) (fun c4 => ?_) (fun c4 => ?_)
      · have h := h.1 c4
        refine X_sub [] (lo2 := []) rfl ?_
        exact hE126 st h
      · have h := h.2 c4
        refine X_iconst (v := 0) C dX4_kernel_27 rfl ?_
        refine X_aload_n C dX4_kernel_28 rfl 0 rfl (isRV_r _) ?_
        refine X_getS (ci := 4) (j := 24) (q := (RX4, TX4, 54)) C rfl (by decide) q1790 rfl dX4_kernel_29 (LX_S hX (k := 175) rfl) (v := .int (sI st 175 24)) rfl ?_
        refine X_callS (As := [_, _]) (rest := []) C q2054 q2055 q136 q2056 nm_X4_nextSet rfl dX4_kernel_32 (m_X4_nextSet (Cx_l C) hX (d := d - 1) (by omega) st 0 (sI st 175 24) h) (by omega) (by decide) (Nat.le_of_ble_eq_true rfl) (fun s11 w6 hE7 hP8 => ?_) (fun s12 E9 q10 hE7 hP8 => ?_)
        rotate_left
        · exact False.elim hP8
        obtain ⟨r5, rfl, rfl, h⟩ := hP8
        refine X_tls ?_
        refine X_istore_n C dX4_kernel_35 rfl (lo2 := [(1, _), (0, _)]) (by decide) rfl ?_
        refine X_sub [1, 0] (lo2 := [(0, _), (1, _)]) rfl ?_
        refine t_X4_kernel_l36 hX hd C hn ?_ ?_ gFU st r5 h
        · intro s72 h
          exact t_X4_kernel_b113 hX hd C hn hK5 s72 h
        · intro s75 h
          exact hE88 s75 h
def w_X4_kernel_b126 (Φ : St → Prop) (st : St) : Prop := Φ st
theorem t_X4_kernel_b126 {θ : Th} {κ : Kx} {Ph : Ph} (hX : LX θ) {d : Nat} (hd : 4 ≤ d) (C : Cx θ κ yX4_kernel cX4_kernel 3 (none : Option Jvm.ClassFile.FieldType) [] d) {Φ : St → Prop} (hn : ∀ st, Φ st → Ph.1 st none) (st : St) (h : w_X4_kernel_b126 Φ st) : X θ κ Ph st 126 [] [] := by
  unfold w_X4_kernel_b126 at h
  exact X_vret C rfl dX4_kernel_126 (hn st h)
def w_X4_kernel_b88 (Φ : St → Prop) (st : St) : Prop := Φ st
theorem t_X4_kernel_b88 {θ : Th} {κ : Kx} {Ph : Ph} (hX : LX θ) {d : Nat} (hd : 4 ≤ d) (C : Cx θ κ yX4_kernel cX4_kernel 3 (none : Option Jvm.ClassFile.FieldType) [] d) {Φ : St → Prop} (hn : ∀ st, Φ st → Ph.1 st none) (st : St) (h : w_X4_kernel_b88 Φ st) : X θ κ Ph st 88 [] [] := by
  unfold w_X4_kernel_b88 at h
  exact X_vret C rfl dX4_kernel_88 (hn st h)
def w_X4_kernel (st : St) (Φ : St → Prop) : Prop := ∀ s1, s1 = putI st 175 24 1 → w_X4_kernel_l5 Φ (fun (s76 : St) => w_X4_kernel_b126 Φ s76) (fun (s77 : St) => w_X4_kernel_b88 Φ s77) gFU s1
theorem nm_X4_kernel : yX4_kernel.cls ≠ "java/lang/invoke/MethodHandle" ∧ yX4_kernel.cls ≠ "java/lang/invoke/VarHandle" ∧ (parseMethodDescriptor yX4_kernel.desc).map (fun d => d.parameters.length) = some 0 := by decide +kernel
theorem e_X4_kernel : plainFor yX4_kernel = true := plainFor_of_name (by decide +kernel)
theorem m_X4_kernel {θ : Th} {l : Launch} (hl0 : l.stackTraces = false) (hX : LX θ) {d : Nat} (hd : 4 ≤ d) (st : St) {Φ : St → Prop} (h : w_X4_kernel st Φ) : Ct θ l yX4_kernel (ws_ yX4_kernel cX4_kernel 3 (none : Option Jvm.ClassFile.FieldType)) d [.ref (ad θ 175)] st (pV Φ, noX) := by
  refine Ct_entry hl0 e_X4_kernel (Nat.le_of_ble_eq_true rfl) (fun κ hκ _ C => ?_)
  have hn : ∀ st, Φ st → ((pV Φ, noX) : Ph).1 st none := fun st q => ⟨rfl, q⟩
  change X _ _ _ _ _ [(0, .ref (ad θ 175))] _
  unfold w_X4_kernel at h
  refine X_aload_n C dX4_kernel_0 rfl 0 rfl (isRV_r _) ?_
  refine X_iconst (v := 1) C dX4_kernel_1 rfl ?_
  refine X_putSI (ci := 4) (j := 24) (q := (RX4, TX4, 54)) C rfl (by decide) q1790 rfl rfl dX4_kernel_2 (LX_S hX (k := 175) rfl) rfl rfl rfl ?_
  refine X_nm (fun s1 e2 => ?_)
  have h := h s1 e2
  refine t_X4_kernel_l5 hX hd C hn ?_ ?_ gFU s1 h
  · intro s76 h
    exact t_X4_kernel_b126 hX hd C hn s76 h
  · intro s77 h
    exact t_X4_kernel_b88 hX hd C hn s77 h

def w_X4_averages_l34 (Φ : St → Prop) (E68 : St → Int32 → Int32 → Prop) : Nat → St → Int32 → Int32 → Int32 → Prop
  | 0, _, _, _, _ => False
  | n + 1, st, x1, x2, x3 => (((sI st 177 3) ≤ x3) → E68 st x1 x2) ∧ ((¬ (sI st 177 3) ≤ x3) → w_X4_averageAt st x1 x2 x3 (fun (r7 : Int32) => vp_in ((3 * x2) + x3) 81 ∧ ∀ s16, s16 = putL st 188 (((3 * x2) + x3).toNatClampNeg) r7.toInt64 → w_X4_averages_l34 Φ E68 n s16 x1 x2 (x3 + 1)))
theorem t_X4_averages_l34 {θ : Th} {κ : Kx} {Ph : Ph} (hX : LX θ) {d : Nat} (hd : 5 ≤ d) (C : Cx θ κ yX4_averages cX4_averages 4 (none : Option Jvm.ClassFile.FieldType) [] d) {Φ : St → Prop} (hn : ∀ st, Φ st → Ph.1 st none) {E68 : St → Int32 → Int32 → Prop} (hE68 : ∀ (st : St) (x1 : Int32) (x2 : Int32), E68 st x1 x2 → X θ κ Ph st 68 [(0, .ref (ad θ 175)), (1, .int x1), (2, .int x2)] []) : ∀ (n : Nat) (st : St) (x1 : Int32) (x2 : Int32) (x3 : Int32), w_X4_averages_l34 Φ E68 n st x1 x2 x3 → X θ κ Ph st 34 [(0, .ref (ad θ 175)), (1, .int x1), (2, .int x2), (3, .int x3)] [] := by
  intro n
  induction n with
  | zero => intro st x1 x2 x3 h; exact h.elim
  | succ n hK34 =>
    intro st x1 x2 x3 h
    rw [w_X4_averages_l34] at h
    refine X_iload_n C dX4_averages_34 rfl 3 rfl ?_
    refine X_aload_n C dX4_averages_35 rfl 0 rfl (isRV_r _) ?_
    refine X_getF (ci := 4) (j := 1) (q := (RX4, TX4, 54)) C rfl (by decide) q1767 rfl dX4_averages_36 (b := 177) (LX_S hX (k := 175) rfl) (LX_F hX (k := 175) (j := 1) rfl) rfl ?_
    refine X_iconst (v := 3) C dX4_averages_39 rfl ?_
    refine X_ialdS C (LX_S hX (k := 177) rfl) (LX_L hX (k := 177) rfl) (vp_dec rfl) rfl dX4_averages_40 ?_
    refine X_icmp_ge (tgt := 68) C dX4_averages_41 (by decide) (fun c6 => ?_) (fun c6 => ?_)
    · have h := h.1 c6
      refine X_sub [0, 1, 2] (lo2 := [(0, _), (1, _), (2, _)]) rfl ?_
      exact hE68 st x1 x2 h
    · have h := h.2 c6
      refine X_aload_n C dX4_averages_44 rfl 0 rfl (isRV_r _) ?_
      refine X_getF (ci := 4) (j := 21) (q := (RX4, TX4, 54)) C rfl (by decide) q1787 rfl dX4_averages_45 (b := 188) (LX_S hX (k := 175) rfl) (LX_F hX (k := 175) (j := 21) rfl) rfl ?_
      refine X_iconst (v := 3) C dX4_averages_48 rfl ?_
      refine X_iload_n C dX4_averages_49 rfl 2 rfl ?_
      refine X_imul C dX4_averages_50 ?_
      refine X_iload_n C dX4_averages_51 rfl 3 rfl ?_
      refine X_iadd C dX4_averages_52 ?_
      refine X_aload_n C dX4_averages_53 rfl 0 rfl (isRV_r _) ?_
      refine X_iload_n C dX4_averages_54 rfl 1 rfl ?_
      refine X_iload_n C dX4_averages_55 rfl 2 rfl ?_
      refine X_iload_n C dX4_averages_56 rfl 3 rfl ?_
      refine X_callVS (ci := 4) (q := (RX4, TX4, 54)) (As := [_, _, _]) (rest := [_, _]) C rfl (LX_S hX (k := 175) rfl) q2022 q2024 qs71 q136 q2025 ⟨rfl, nm_X4_averageAt⟩ rfl dX4_averages_57 (m_X4_averageAt (Cx_l C) hX (d := d - 1) (by omega) st x1 x2 x3 h) (by omega) (by decide) (Nat.le_of_ble_eq_true rfl) (fun s13 w8 hE9 hP10 => ?_) (fun s14 E11 q12 hE9 hP10 => ?_)
      rotate_left
      · exact False.elim hP10
      obtain ⟨r7, rfl, rfl, h⟩ := hP10
      refine X_tls ?_
      refine X_i2l C dX4_averages_60 ?_
      have g15 := h.1
      have h := h.2
      refine X_lastS C (LX_S hX (k := 188) rfl) (LX_L hX (k := 188) rfl) g15 rfl dX4_averages_61 ?_
      refine X_nm (fun s16 e17 => ?_)
      have h := h s16 e17
      refine X_iinc (v := (x3 + 1)) C (j := 3) dX4_averages_62 rfl rfl (lo2 := [(3, _), (0, _), (1, _), (2, _)]) (by decide) rfl ?_
      refine X_goto (tgt := 34) C dX4_averages_65 (by decide) ?_
      refine X_sub [1, 2, 3, 0] (lo2 := [(0, _), (1, _), (2, _), (3, _)]) rfl ?_
      exact hK34 s16 x1 x2 (x3 + 1) h
def w_X4_averages_b68 (Φ : St → Prop) (K22 : St → Int32 → Int32 → Prop) (st : St) (x1 : Int32) (x2 : Int32) : Prop := K22 st x1 (x2 + 1)
theorem t_X4_averages_b68 {θ : Th} {κ : Kx} {Ph : Ph} (hX : LX θ) {d : Nat} (hd : 5 ≤ d) (C : Cx θ κ yX4_averages cX4_averages 4 (none : Option Jvm.ClassFile.FieldType) [] d) {Φ : St → Prop} (hn : ∀ st, Φ st → Ph.1 st none) {K22 : St → Int32 → Int32 → Prop} (hK22 : ∀ (st : St) (x1 : Int32) (x2 : Int32), K22 st x1 x2 → X θ κ Ph st 22 [(0, .ref (ad θ 175)), (1, .int x1), (2, .int x2)] []) (st : St) (x1 : Int32) (x2 : Int32) (h : w_X4_averages_b68 Φ K22 st x1 x2) : X θ κ Ph st 68 [(0, .ref (ad θ 175)), (1, .int x1), (2, .int x2)] [] := by
  unfold w_X4_averages_b68 at h
  refine X_iinc (v := (x2 + 1)) C (j := 2) dX4_averages_68 rfl rfl (lo2 := [(2, _), (0, _), (1, _)]) (by decide) rfl ?_
  refine X_goto (tgt := 22) C dX4_averages_71 (by decide) ?_
  refine X_sub [1, 2, 0] (lo2 := [(0, _), (1, _), (2, _)]) rfl ?_
  exact hK22 st x1 (x2 + 1) h
def w_X4_averages_l22 (Φ : St → Prop) (E74 : St → Prop) : Nat → St → Int32 → Int32 → Prop
  | 0, _, _, _ => False
  | n + 1, st, x1, x2 => (((sI st 177 2) ≤ x2) → E74 st) ∧ ((¬ (sI st 177 2) ≤ x2) → w_X4_averages_l34 Φ (fun (s18 : St) (x1 : Int32) (x2 : Int32) => w_X4_averages_b68 Φ (w_X4_averages_l22 Φ E74 n) s18 x1 x2) gFU st x1 x2 0)
theorem t_X4_averages_l22 {θ : Th} {κ : Kx} {Ph : Ph} (hX : LX θ) {d : Nat} (hd : 5 ≤ d) (C : Cx θ κ yX4_averages cX4_averages 4 (none : Option Jvm.ClassFile.FieldType) [] d) {Φ : St → Prop} (hn : ∀ st, Φ st → Ph.1 st none) {E74 : St → Prop} (hE74 : ∀ (st : St), E74 st → X θ κ Ph st 74 [(0, .ref (ad θ 175))] []) : ∀ (n : Nat) (st : St) (x1 : Int32) (x2 : Int32), w_X4_averages_l22 Φ E74 n st x1 x2 → X θ κ Ph st 22 [(0, .ref (ad θ 175)), (1, .int x1), (2, .int x2)] [] := by
  intro n
  induction n with
  | zero => intro st x1 x2 h; exact h.elim
  | succ n hK22 =>
    intro st x1 x2 h
    rw [w_X4_averages_l22] at h
    refine X_iload_n C dX4_averages_22 rfl 2 rfl ?_
    refine X_aload_n C dX4_averages_23 rfl 0 rfl (isRV_r _) ?_
    refine X_getF (ci := 4) (j := 1) (q := (RX4, TX4, 54)) C rfl (by decide) q1767 rfl dX4_averages_24 (b := 177) (LX_S hX (k := 175) rfl) (LX_F hX (k := 175) (j := 1) rfl) rfl ?_
    refine X_iconst (v := 2) C dX4_averages_27 rfl ?_
    refine X_ialdS C (LX_S hX (k := 177) rfl) (LX_L hX (k := 177) rfl) (vp_dec rfl) rfl dX4_averages_28 ?_
    refine X_icmp_ge (tgt := 74) C dX4_averages_29 (by decide) (fun c5 => ?_) (fun c5 => ?_)
    · have h := h.1 c5
      refine X_sub [0] (lo2 := [(0, _)]) rfl ?_
      exact hE74 st h
    · have h := h.2 c5
      refine X_iconst (v := 0) C dX4_averages_32 rfl ?_
      refine X_istore_n C dX4_averages_33 rfl (lo2 := [(3, _), (0, _), (1, _), (2, _)]) (by decide) rfl ?_
      refine X_sub [1, 2, 3, 0] (lo2 := [(0, _), (1, _), (2, _), (3, _)]) rfl ?_
      refine t_X4_averages_l34 hX hd C hn ?_ gFU st x1 x2 0 h
      · intro s18 x1 x2 h
        exact t_X4_averages_b68 hX hd C hn hK22 s18 x1 x2 h
def w_X4_averages_b74 (Φ : St → Prop) (st : St) : Prop := w_X4_kernel st (fun (s21 : St) => Φ s21)
theorem t_X4_averages_b74 {θ : Th} {κ : Kx} {Ph : Ph} (hX : LX θ) {d : Nat} (hd : 5 ≤ d) (C : Cx θ κ yX4_averages cX4_averages 4 (none : Option Jvm.ClassFile.FieldType) [] d) {Φ : St → Prop} (hn : ∀ st, Φ st → Ph.1 st none) (st : St) (h : w_X4_averages_b74 Φ st) : X θ κ Ph st 74 [(0, .ref (ad θ 175))] [] := by
  unfold w_X4_averages_b74 at h
  refine X_aload_n C dX4_averages_74 rfl 0 rfl (isRV_r _) ?_
  refine X_callVS (ci := 4) (q := (RX4, TX4, 54)) (As := []) (rest := []) C rfl (LX_S hX (k := 175) rfl) q2050 q2052 qs76 q136 q2053 ⟨rfl, nm_X4_kernel⟩ rfl dX4_averages_75 (m_X4_kernel (Cx_l C) hX (d := d - 1) (by omega) st h) (by omega) (by decide) (Nat.le_of_ble_eq_true rfl) (fun s21 w22 hE23 hP24 => ?_) (fun s27 E25 q26 hE23 hP24 => ?_)
  rotate_left
  · exact False.elim hP24
  obtain ⟨rfl, h⟩ := hP24
  refine X_tln ?_
  exact X_vret C rfl dX4_averages_78 (hn s21 h)
def w_X4_averages (st : St) (p1 : Int32) (Φ : St → Prop) : Prop := ∀ s1, s1 = putI st 175 22 (sI st 177 2) → ∀ s3, s3 = putI s1 175 23 (sI s1 177 3) → w_X4_averages_l22 Φ (fun (s19 : St) => w_X4_averages_b74 Φ s19) gFU s3 p1 0
theorem nm_X4_averages : yX4_averages.cls ≠ "java/lang/invoke/MethodHandle" ∧ yX4_averages.cls ≠ "java/lang/invoke/VarHandle" ∧ (parseMethodDescriptor yX4_averages.desc).map (fun d => d.parameters.length) = some 1 := by decide +kernel
theorem e_X4_averages : plainFor yX4_averages = true := plainFor_of_name (by decide +kernel)
theorem m_X4_averages {θ : Th} {l : Launch} (hl0 : l.stackTraces = false) (hX : LX θ) {d : Nat} (hd : 5 ≤ d) (st : St) (p1 : Int32) {Φ : St → Prop} (h : w_X4_averages st p1 Φ) : Ct θ l yX4_averages (ws_ yX4_averages cX4_averages 4 (none : Option Jvm.ClassFile.FieldType)) d [.ref (ad θ 175), .int p1] st (pV Φ, noX) := by
  refine Ct_entry hl0 e_X4_averages (Nat.le_of_ble_eq_true rfl) (fun κ hκ _ C => ?_)
  have hn : ∀ st, Φ st → ((pV Φ, noX) : Ph).1 st none := fun st q => ⟨rfl, q⟩
  change X _ _ _ _ _ [(0, .ref (ad θ 175)), (1, .int p1)] _
  unfold w_X4_averages at h
  refine X_aload_n C dX4_averages_0 rfl 0 rfl (isRV_r _) ?_
  refine X_aload_n C dX4_averages_1 rfl 0 rfl (isRV_r _) ?_
  refine X_getF (ci := 4) (j := 1) (q := (RX4, TX4, 54)) C rfl (by decide) q1767 rfl dX4_averages_2 (b := 177) (LX_S hX (k := 175) rfl) (LX_F hX (k := 175) (j := 1) rfl) rfl ?_
  refine X_iconst (v := 2) C dX4_averages_5 rfl ?_
  refine X_ialdS C (LX_S hX (k := 177) rfl) (LX_L hX (k := 177) rfl) (vp_dec rfl) rfl dX4_averages_6 ?_
  refine X_putSI (ci := 4) (j := 22) (q := (RX4, TX4, 54)) C rfl (by decide) q1788 rfl rfl dX4_averages_7 (LX_S hX (k := 175) rfl) rfl rfl rfl ?_
  refine X_nm (fun s1 e2 => ?_)
  have h := h s1 e2
  refine X_aload_n C dX4_averages_10 rfl 0 rfl (isRV_r _) ?_
  refine X_aload_n C dX4_averages_11 rfl 0 rfl (isRV_r _) ?_
  refine X_getF (ci := 4) (j := 1) (q := (RX4, TX4, 54)) C rfl (by decide) q1767 rfl dX4_averages_12 (b := 177) (LX_S hX (k := 175) rfl) (LX_F hX (k := 175) (j := 1) rfl) rfl ?_
  refine X_iconst (v := 3) C dX4_averages_15 rfl ?_
  refine X_ialdS C (LX_S hX (k := 177) rfl) (LX_L hX (k := 177) rfl) (vp_dec rfl) rfl dX4_averages_16 ?_
  refine X_putSI (ci := 4) (j := 23) (q := (RX4, TX4, 54)) C rfl (by decide) q1789 rfl rfl dX4_averages_17 (LX_S hX (k := 175) rfl) rfl rfl rfl ?_
  refine X_nm (fun s3 e4 => ?_)
  have h := h s3 e4
  refine X_iconst (v := 0) C dX4_averages_20 rfl ?_
  refine X_istore_n C dX4_averages_21 rfl (lo2 := [(2, _), (0, _), (1, _)]) (by decide) rfl ?_
  refine X_sub [1, 2, 0] (lo2 := [(0, _), (1, _), (2, _)]) rfl ?_
  refine t_X4_averages_l22 hX hd C hn ?_ gFU s3 p1 0 h
  · intro s19 h
    exact t_X4_averages_b74 hX hd C hn s19 h

def w_X4_divisor_l6 (Φ : Int64 → Prop) (E31 : Int64 → Prop) : Nat → Int64 → Int64 → Prop
  | 0, _, _ => False
  | n + 1, x4, x6 => ((x6 = 0) → E31 x4) ∧ ((¬ x6 = 0) → ¬ x6 = 0 ∧ ∀ v3 : Int64, v3 = (x4 - x4 / x6 * x6) → w_X4_divisor_l6 Φ E31 n x6 v3)
theorem t_X4_divisor_l6 {θ : Th} {κ : Kx} {Ph : Ph} (hX : LX θ) {st0 : St} {d : Nat} (hd : 0 ≤ d) (C : Cx θ κ yX4_divisor cX4_divisor 10 (some Jvm.ClassFile.FieldType.long) [] d) {Φ : Int64 → Prop} (hn : ∀ r, Φ r → Ph.1 st0 (some (.long r))) {E31 : Int64 → Prop} (hE31 : ∀ (x4 : Int64), E31 x4 → X θ κ Ph st0 31 [(4, .long x4)] []) : ∀ (n : Nat) (x4 : Int64) (x6 : Int64), w_X4_divisor_l6 Φ E31 n x4 x6 → X θ κ Ph st0 6 [(4, .long x4), (6, .long x6)] [] := by
  intro n
  induction n with
  | zero => intro x4 x6 h; exact h.elim
  | succ n hK6 =>
    intro x4 x6 h
    rw [w_X4_divisor_l6] at h
    refine X_lload C dX4_divisor_6 1 rfl ?_
    refine X_lconst (v := 0) C dX4_divisor_8 rfl ?_
    refine X_lcmp_eq (tgt := 31) C dX4_divisor_9 dX4_divisor_10 (by decide) (fun c1 => ?_) (fun c1 => ?_)
    · have h := h.1 c1
      refine X_sub [0] (lo2 := [(4, _)]) rfl ?_
      exact hE31 x4 h
    · have h := h.2 c1
      refine X_lload C dX4_divisor_13 0 rfl ?_
      refine X_lload C dX4_divisor_15 1 rfl ?_
      have g2 := h.1
      have h := h.2
      refine X_lrem C dX4_divisor_17 g2 ?_
      refine X_topl (fun v3 e4 => ?_)
      have h := h v3 e4
      refine X_lstore C dX4_divisor_18 (lo2 := [(8, _), (4, _), (6, _)]) (by decide) rfl ?_
      refine X_lload C dX4_divisor_20 2 rfl ?_
      refine X_lstore C dX4_divisor_22 (lo2 := [(4, _), (8, _), (6, _)]) (by decide) rfl ?_
      refine X_lload C dX4_divisor_24 1 rfl ?_
      refine X_lstore C dX4_divisor_26 (lo2 := [(6, _), (4, _), (8, _)]) (by decide) rfl ?_
      refine X_goto (tgt := 6) C dX4_divisor_28 (by decide) ?_
      refine X_sub [1, 0] (lo2 := [(4, _), (6, _)]) rfl ?_
      exact hK6 x6 v3 h
def w_X4_divisor_b31 (Φ : Int64 → Prop) (x4 : Int64) : Prop := ((0 ≤ x4) → Φ x4) ∧ ((¬ 0 ≤ x4) → Φ (-x4))
theorem t_X4_divisor_b31 {θ : Th} {κ : Kx} {Ph : Ph} (hX : LX θ) {st0 : St} {d : Nat} (hd : 0 ≤ d) (C : Cx θ κ yX4_divisor cX4_divisor 10 (some Jvm.ClassFile.FieldType.long) [] d) {Φ : Int64 → Prop} (hn : ∀ r, Φ r → Ph.1 st0 (some (.long r))) (x4 : Int64) (h : w_X4_divisor_b31 Φ x4) : X θ κ Ph st0 31 [(4, .long x4)] [] := by
  unfold w_X4_divisor_b31 at h
  refine X_lload C dX4_divisor_31 0 rfl ?_
  refine X_lconst (v := 0) C dX4_divisor_33 rfl ?_
  refine X_lcmp_ge (tgt := 44) C dX4_divisor_34 dX4_divisor_35 (by decide) (fun c5 => ?_) (fun c5 => ?_)
  · have h := h.1 c5
    refine X_lload C dX4_divisor_44 0 rfl ?_
    exact X_lret C rfl dX4_divisor_46 (hn _ h)
  · have h := h.2 c5
    refine X_lload C dX4_divisor_38 0 rfl ?_
    refine X_lneg C dX4_divisor_40 ?_
    refine X_goto (tgt := 46) C dX4_divisor_41 (by decide) ?_
    exact X_lret C rfl dX4_divisor_46 (hn _ h)
def w_X4_divisor (p1 : Int64) (p2 : Int64) (Φ : Int64 → Prop) : Prop := w_X4_divisor_l6 Φ (fun (x4 : Int64) => w_X4_divisor_b31 Φ x4) gFU p1 p2
theorem nm_X4_divisor : yX4_divisor.cls ≠ "java/lang/invoke/MethodHandle" ∧ yX4_divisor.cls ≠ "java/lang/invoke/VarHandle" ∧ (parseMethodDescriptor yX4_divisor.desc).map (fun d => d.parameters.length) = some 2 := by decide +kernel
theorem e_X4_divisor : plainFor yX4_divisor = true := plainFor_of_name (by decide +kernel)
theorem m_X4_divisor {θ : Th} {l : Launch} (hl0 : l.stackTraces = false) (hX : LX θ) {d : Nat} (hd : 0 ≤ d) (st0 : St) (p1 : Int64) (p2 : Int64) {Φ : Int64 → Prop} (h : w_X4_divisor p1 p2 Φ) : Ct θ l yX4_divisor (ws_ yX4_divisor cX4_divisor 10 (some Jvm.ClassFile.FieldType.long)) d [.long p1, .long p2] st0 (rL st0 Φ, noX) := by
  refine Ct_entry hl0 e_X4_divisor (Nat.le_of_ble_eq_true rfl) (fun κ hκ _ C => ?_)
  have hn : ∀ r, Φ r → ((rL st0 Φ, noX) : Ph).1 st0 (some (.long r)) := fun r q => ⟨r, rfl, rfl, q⟩
  change X _ _ _ _ _ [(0, .long p1), (2, .long p2)] _
  unfold w_X4_divisor at h
  refine X_lload_n C dX4_divisor_0 rfl 0 rfl ?_
  refine X_lstore C dX4_divisor_1 (lo2 := [(4, _), (0, _), (2, _)]) (by decide) rfl ?_
  refine X_lload_n C dX4_divisor_3 rfl 2 rfl ?_
  refine X_lstore C dX4_divisor_4 (lo2 := [(6, _), (4, _), (0, _), (2, _)]) (by decide) rfl ?_
  refine X_sub [1, 0] (lo2 := [(4, _), (6, _)]) rfl ?_
  refine t_X4_divisor_l6 hX hd C hn ?_ gFU p1 p2 h
  · intro x4 h
    exact t_X4_divisor_b31 hX hd C hn x4 h

def w_X4_lowest (st : St) (p1 : Int64) (p2 : Int64) (Φ : St → Prop) : Prop := (((sI st 175 20) ≠ 0) → Φ st) ∧ (((sI st 175 20) = 0) → w_X4_divisor p1 p2 (fun (r2 : Int64) => ¬ r2 = 0 ∧ ∀ s11, s11 = putL st 175 18 (p1 / r2) → ∀ s13, s13 = putL s11 175 19 (p2 / r2) → Φ s13))
theorem nm_X4_lowest : yX4_lowest.cls ≠ "java/lang/invoke/MethodHandle" ∧ yX4_lowest.cls ≠ "java/lang/invoke/VarHandle" ∧ (parseMethodDescriptor yX4_lowest.desc).map (fun d => d.parameters.length) = some 2 := by decide +kernel
theorem e_X4_lowest : plainFor yX4_lowest = true := plainFor_of_name (by decide +kernel)
theorem m_X4_lowest {θ : Th} {l : Launch} (hl0 : l.stackTraces = false) (hX : LX θ) {d : Nat} (hd : 1 ≤ d) (st : St) (p1 : Int64) (p2 : Int64) {Φ : St → Prop} (h : w_X4_lowest st p1 p2 Φ) : Ct θ l yX4_lowest (ws_ yX4_lowest cX4_lowest 7 (none : Option Jvm.ClassFile.FieldType)) d [.ref (ad θ 175), .long p1, .long p2] st (pV Φ, noX) := by
  refine Ct_entry hl0 e_X4_lowest (Nat.le_of_ble_eq_true rfl) (fun κ hκ _ C => ?_)
  have hn : ∀ st, Φ st → ((pV Φ, noX) : Ph).1 st none := fun st q => ⟨rfl, q⟩
  change X _ _ _ _ _ [(0, .ref (ad θ 175)), (1, .long p1), (3, .long p2)] _
  unfold w_X4_lowest at h
  refine X_aload_n C dX4_lowest_0 rfl 0 rfl (isRV_r _) ?_
  refine X_getS (ci := 4) (j := 20) (q := (RX4, TX4, 54)) C rfl (by decide) q1786 rfl dX4_lowest_1 (LX_S hX (k := 175) rfl) (v := .int (sI st 175 20)) rfl ?_
  refine X_if_ne (tgt := 30) C dX4_lowest_4 (by decide) (fun c1 => ?_) (fun c1 => ?_)
  · have h := h.1 c1
    exact X_vret C rfl dX4_lowest_30 (hn st h)
  · have h := h.2 c1
    refine X_lload_n C dX4_lowest_7 rfl 1 rfl ?_
    refine X_lload_n C dX4_lowest_8 rfl 2 rfl ?_
    refine X_callS (As := [_, _]) (rest := []) C q2085 q2086 q136 q2087 nm_X4_divisor rfl dX4_lowest_9 (m_X4_divisor (Cx_l C) hX (d := d - 1) (by omega) st p1 p2 h) (by omega) (by decide) (Nat.le_of_ble_eq_true rfl) (fun s8 w3 hE4 hP5 => ?_) (fun s9 E6 q7 hE4 hP5 => ?_)
    rotate_left
    · exact False.elim hP5
    obtain ⟨r2, rfl, rfl, h⟩ := hP5
    refine X_tls ?_
    refine X_lstore C dX4_lowest_12 (lo2 := [(5, _), (0, _), (1, _), (3, _)]) (by decide) rfl ?_
    refine X_aload_n C dX4_lowest_14 rfl 1 rfl (isRV_r _) ?_
    refine X_lload_n C dX4_lowest_15 rfl 2 rfl ?_
    refine X_lload C dX4_lowest_16 0 rfl ?_
    have g10 := h.1
    have h := h.2
    refine X_ldiv C dX4_lowest_18 g10 ?_
    refine X_putSL (ci := 4) (j := 18) (q := (RX4, TX4, 54)) C rfl (by decide) q1784 rfl rfl dX4_lowest_19 (LX_S hX (k := 175) rfl) rfl ?_
    refine X_nm (fun s11 e12 => ?_)
    have h := h s11 e12
    refine X_aload_n C dX4_lowest_22 rfl 1 rfl (isRV_r _) ?_
    refine X_lload_n C dX4_lowest_23 rfl 3 rfl ?_
    refine X_lload C dX4_lowest_24 0 rfl ?_
    refine X_ldiv C dX4_lowest_26 g10 ?_
    refine X_putSL (ci := 4) (j := 19) (q := (RX4, TX4, 54)) C rfl (by decide) q1785 rfl rfl dX4_lowest_27 (LX_S hX (k := 175) rfl) rfl ?_
    refine X_nm (fun s13 e14 => ?_)
    have h := h s13 e14
    exact X_vret C rfl dX4_lowest_30 (hn s13 h)

def w_X4_product_b36 (Φ : St → Int64 → Prop) (st : St) (x7 : Int64) (z0 : Int32) : Prop := (z0 = 0 ∨ z0 = 1) ∧ ∀ s13, s13 = putI st 175 20 z0 → Φ s13 x7
theorem t_X4_product_b36 {θ : Th} {κ : Kx} {Ph : Ph} (hX : LX θ) {d : Nat} (hd : 1 ≤ d) (C : Cx θ κ yX4_product cX4_product 9 (some Jvm.ClassFile.FieldType.long) [] d) {Φ : St → Int64 → Prop} (hn : ∀ st r, Φ st r → Ph.1 st (some (.long r))) (st : St) (x7 : Int64) (z0 : Int32) (h : w_X4_product_b36 Φ st x7 z0) : X θ κ Ph st 36 [(7, .long x7)] [.int z0, .ref (ad θ 175)] := by
  unfold w_X4_product_b36 at h
  have g12 := h.1
  have h := h.2
  refine X_putSI (ci := 4) (j := 20) (q := (RX4, TX4, 54)) C rfl (by decide) q1786 rfl rfl dX4_product_36 (LX_S hX (k := 175) rfl) rfl (nb_01 g12).1 (nb_01 g12).2 ?_
  refine X_nm (fun s13 e14 => ?_)
  have h := h s13 e14
  refine X_lload C dX4_product_39 0 rfl ?_
  exact X_lret C rfl dX4_product_41 (hn s13 _ h)
def w_X4_product_b31 (Φ : St → Int64 → Prop) (st : St) (x7 : Int64) : Prop := w_X4_product_b36 Φ st x7 1
theorem t_X4_product_b31 {θ : Th} {κ : Kx} {Ph : Ph} (hX : LX θ) {d : Nat} (hd : 1 ≤ d) (C : Cx θ κ yX4_product cX4_product 9 (some Jvm.ClassFile.FieldType.long) [] d) {Φ : St → Int64 → Prop} (hn : ∀ st r, Φ st r → Ph.1 st (some (.long r))) (st : St) (x7 : Int64) (h : w_X4_product_b31 Φ st x7) : X θ κ Ph st 31 [(7, .long x7)] [.ref (ad θ 175)] := by
  unfold w_X4_product_b31 at h
  refine X_iconst (v := 1) C dX4_product_31 rfl ?_
  refine X_goto (tgt := 36) C dX4_product_32 (by decide) ?_
  exact t_X4_product_b36 hX hd C hn st x7 1 h
def w_X4_product (st : St) (p1 : Int64) (p2 : Int64) (Φ : St → Int64 → Prop) : Prop := w_J8_multiplyHigh p1 p2 (fun (r1 : Int64) => ∀ v9 : Int64, v9 = (p1 * p2) → (((sI st 175 20) ≠ 0) → w_X4_product_b31 Φ st v9) ∧ (((sI st 175 20) = 0) → ((r1 = (v9 >>> ((63 : Int32).toInt64 &&& 63))) → w_X4_product_b36 Φ st v9 0) ∧ ((¬ r1 = (v9 >>> ((63 : Int32).toInt64 &&& 63))) → w_X4_product_b31 Φ st v9)))
theorem nm_X4_product : yX4_product.cls ≠ "java/lang/invoke/MethodHandle" ∧ yX4_product.cls ≠ "java/lang/invoke/VarHandle" ∧ (parseMethodDescriptor yX4_product.desc).map (fun d => d.parameters.length) = some 2 := by decide +kernel
theorem e_X4_product : plainFor yX4_product = true := plainFor_of_name (by decide +kernel)
theorem m_X4_product {θ : Th} {l : Launch} (hl0 : l.stackTraces = false) (hX : LX θ) {d : Nat} (hd : 1 ≤ d) (st : St) (p1 : Int64) (p2 : Int64) {Φ : St → Int64 → Prop} (h : w_X4_product st p1 p2 Φ) : Ct θ l yX4_product (ws_ yX4_product cX4_product 9 (some Jvm.ClassFile.FieldType.long)) d [.ref (ad θ 175), .long p1, .long p2] st (pL Φ, noX) := by
  refine Ct_entry hl0 e_X4_product (Nat.le_of_ble_eq_true rfl) (fun κ hκ _ C => ?_)
  have hn : ∀ st r, Φ st r → ((pL Φ, noX) : Ph).1 st (some (.long r)) := fun st r q => ⟨r, rfl, q⟩
  change X _ _ _ _ _ [(0, .ref (ad θ 175)), (1, .long p1), (3, .long p2)] _
  unfold w_X4_product at h
  refine X_lload_n C dX4_product_0 rfl 1 rfl ?_
  refine X_lload_n C dX4_product_1 rfl 2 rfl ?_
  refine X_callS (As := [_, _]) (rest := []) C q2096 q2097 q147 q2098 nm_J8_multiplyHigh rfl dX4_product_2 (m_J8_multiplyHigh (Cx_l C) (d := d - 1) (by omega) st p1 p2 h) (by omega) (by decide) (Nat.le_of_ble_eq_true rfl) (fun s7 w2 hE3 hP4 => ?_) (fun s8 E5 q6 hE3 hP4 => ?_)
  rotate_left
  · exact False.elim hP4
  obtain ⟨r1, rfl, rfl, h⟩ := hP4
  refine X_tls ?_
  refine X_lstore C dX4_product_5 (lo2 := [(5, _), (0, _), (1, _), (3, _)]) (by decide) rfl ?_
  refine X_lload_n C dX4_product_7 rfl 2 rfl ?_
  refine X_lload_n C dX4_product_8 rfl 3 rfl ?_
  refine X_lmul C dX4_product_9 ?_
  refine X_topl (fun v9 e10 => ?_)
  have h := h v9 e10
  refine X_lstore C dX4_product_10 (lo2 := [(7, _), (5, _), (0, _), (1, _), (3, _)]) (by decide) rfl ?_
  refine X_aload_n C dX4_product_12 rfl 2 rfl (isRV_r _) ?_
  refine X_aload_n C dX4_product_13 rfl 2 rfl (isRV_r _) ?_
  refine X_getS (ci := 4) (j := 20) (q := (RX4, TX4, 54)) C rfl (by decide) q1786 rfl dX4_product_14 (LX_S hX (k := 175) rfl) (v := .int (sI st 175 20)) rfl ?_
  refine X_if_ne (tgt := 31) C dX4_product_17 (by decide) (fun c11 => ?_) (fun c11 => ?_)
  · have h := h.1 c11
    refine X_sub [0] (lo2 := [(7, _)]) rfl ?_
    exact t_X4_product_b31 hX hd C hn st v9 h
  · have h := h.2 c11
    refine X_lload C dX4_product_20 1 rfl ?_
    refine X_lload C dX4_product_22 0 rfl ?_
    refine X_bipush (v := 63) C dX4_product_24 rfl ?_
    refine X_lshr C dX4_product_26 ?_
    refine X_lcmp_eq (tgt := 35) C dX4_product_27 dX4_product_28 (by decide) (fun c15 => ?_) (fun c15 => ?_)
    · have h := h.1 c15
      refine X_iconst (v := 0) C dX4_product_35 rfl ?_
      refine X_sub [0] (lo2 := [(7, _)]) rfl ?_
      exact t_X4_product_b36 hX hd C hn st v9 0 h
    · have h := h.2 c15
      refine X_sub [0] (lo2 := [(7, _)]) rfl ?_
      exact t_X4_product_b31 hX hd C hn st v9 h

def w_X4_difference_b69 (Φ : St → Int64 → Prop) (st : St) (x5 : Int64) (z0 : Int32) : Prop := (z0 = 0 ∨ z0 = 1) ∧ ∀ s5, s5 = putI st 175 20 z0 → Φ s5 x5
theorem t_X4_difference_b69 {θ : Th} {κ : Kx} {Ph : Ph} (hX : LX θ) {d : Nat} (hd : 0 ≤ d) (C : Cx θ κ yX4_difference cX4_difference 7 (some Jvm.ClassFile.FieldType.long) [] d) {Φ : St → Int64 → Prop} (hn : ∀ st r, Φ st r → Ph.1 st (some (.long r))) (st : St) (x5 : Int64) (z0 : Int32) (h : w_X4_difference_b69 Φ st x5 z0) : X θ κ Ph st 69 [(5, .long x5)] [.int z0, .ref (ad θ 175)] := by
  unfold w_X4_difference_b69 at h
  have g4 := h.1
  have h := h.2
  refine X_putSI (ci := 4) (j := 20) (q := (RX4, TX4, 54)) C rfl (by decide) q1786 rfl rfl dX4_difference_69 (LX_S hX (k := 175) rfl) rfl (nb_01 g4).1 (nb_01 g4).2 ?_
  refine X_nm (fun s5 e6 => ?_)
  have h := h s5 e6
  refine X_lload C dX4_difference_72 0 rfl ?_
  exact X_lret C rfl dX4_difference_74 (hn s5 _ h)
def w_X4_difference_b64 (Φ : St → Int64 → Prop) (st : St) (x5 : Int64) : Prop := w_X4_difference_b69 Φ st x5 1
theorem t_X4_difference_b64 {θ : Th} {κ : Kx} {Ph : Ph} (hX : LX θ) {d : Nat} (hd : 0 ≤ d) (C : Cx θ κ yX4_difference cX4_difference 7 (some Jvm.ClassFile.FieldType.long) [] d) {Φ : St → Int64 → Prop} (hn : ∀ st r, Φ st r → Ph.1 st (some (.long r))) (st : St) (x5 : Int64) (h : w_X4_difference_b64 Φ st x5) : X θ κ Ph st 64 [(5, .long x5)] [.ref (ad θ 175)] := by
  unfold w_X4_difference_b64 at h
  refine X_iconst (v := 1) C dX4_difference_64 rfl ?_
  refine X_goto (tgt := 69) C dX4_difference_65 (by decide) ?_
  exact t_X4_difference_b69 hX hd C hn st x5 1 h
def w_X4_difference_b68 (Φ : St → Int64 → Prop) (st : St) (x5 : Int64) : Prop := w_X4_difference_b69 Φ st x5 0
theorem t_X4_difference_b68 {θ : Th} {κ : Kx} {Ph : Ph} (hX : LX θ) {d : Nat} (hd : 0 ≤ d) (C : Cx θ κ yX4_difference cX4_difference 7 (some Jvm.ClassFile.FieldType.long) [] d) {Φ : St → Int64 → Prop} (hn : ∀ st r, Φ st r → Ph.1 st (some (.long r))) (st : St) (x5 : Int64) (h : w_X4_difference_b68 Φ st x5) : X θ κ Ph st 68 [(5, .long x5)] [.ref (ad θ 175)] := by
  unfold w_X4_difference_b68 at h
  refine X_iconst (v := 0) C dX4_difference_68 rfl ?_
  exact t_X4_difference_b69 hX hd C hn st x5 0 h
def w_X4_difference_b61 (Φ : St → Int64 → Prop) (st : St) (x5 : Int64) (z0 : Int32) (z1 : Int32) : Prop := ((z1 = z0) → w_X4_difference_b68 Φ st x5) ∧ ((¬ z1 = z0) → w_X4_difference_b64 Φ st x5)
theorem t_X4_difference_b61 {θ : Th} {κ : Kx} {Ph : Ph} (hX : LX θ) {d : Nat} (hd : 0 ≤ d) (C : Cx θ κ yX4_difference cX4_difference 7 (some Jvm.ClassFile.FieldType.long) [] d) {Φ : St → Int64 → Prop} (hn : ∀ st r, Φ st r → Ph.1 st (some (.long r))) (st : St) (x5 : Int64) (z0 : Int32) (z1 : Int32) (h : w_X4_difference_b61 Φ st x5 z0 z1) : X θ κ Ph st 61 [(5, .long x5)] [.int z0, .int z1, .ref (ad θ 175)] := by
  unfold w_X4_difference_b61 at h
  refine X_icmp_eq (tgt := 68) C dX4_difference_61 (by decide) (fun c12 => ?_) (fun c12 => ?_)
  · have h := h.1 c12
    exact t_X4_difference_b68 hX hd C hn st x5 h
  · have h := h.2 c12
    exact t_X4_difference_b64 hX hd C hn st x5 h
def w_X4_difference_b49 (Φ : St → Int64 → Prop) (st : St) (x5 : Int64) (z0 : Int32) : Prop := ((x5 < 0) → w_X4_difference_b61 Φ st x5 0 z0) ∧ ((¬ x5 < 0) → w_X4_difference_b61 Φ st x5 1 z0)
theorem t_X4_difference_b49 {θ : Th} {κ : Kx} {Ph : Ph} (hX : LX θ) {d : Nat} (hd : 0 ≤ d) (C : Cx θ κ yX4_difference cX4_difference 7 (some Jvm.ClassFile.FieldType.long) [] d) {Φ : St → Int64 → Prop} (hn : ∀ st r, Φ st r → Ph.1 st (some (.long r))) (st : St) (x5 : Int64) (z0 : Int32) (h : w_X4_difference_b49 Φ st x5 z0) : X θ κ Ph st 49 [(5, .long x5)] [.int z0, .ref (ad θ 175)] := by
  unfold w_X4_difference_b49 at h
  refine X_lload C dX4_difference_49 0 rfl ?_
  refine X_lconst (v := 0) C dX4_difference_51 rfl ?_
  refine X_lcmp_lt (tgt := 60) C dX4_difference_52 dX4_difference_53 (by decide) (fun c11 => ?_) (fun c11 => ?_)
  · have h := h.1 c11
    refine X_iconst (v := 0) C dX4_difference_60 rfl ?_
    exact t_X4_difference_b61 hX hd C hn st x5 0 z0 h
  · have h := h.2 c11
    refine X_iconst (v := 1) C dX4_difference_56 rfl ?_
    refine X_goto (tgt := 61) C dX4_difference_57 (by decide) ?_
    exact t_X4_difference_b61 hX hd C hn st x5 1 z0 h
def w_X4_difference_b35 (Φ : St → Int64 → Prop) (st : St) (x1 : Int64) (x5 : Int64) (z0 : Int32) (z1 : Int32) : Prop := ((z1 = z0) → w_X4_difference_b68 Φ st x5) ∧ ((¬ z1 = z0) → ((x1 < 0) → w_X4_difference_b49 Φ st x5 0) ∧ ((¬ x1 < 0) → w_X4_difference_b49 Φ st x5 1))
theorem t_X4_difference_b35 {θ : Th} {κ : Kx} {Ph : Ph} (hX : LX θ) {d : Nat} (hd : 0 ≤ d) (C : Cx θ κ yX4_difference cX4_difference 7 (some Jvm.ClassFile.FieldType.long) [] d) {Φ : St → Int64 → Prop} (hn : ∀ st r, Φ st r → Ph.1 st (some (.long r))) (st : St) (x1 : Int64) (x5 : Int64) (z0 : Int32) (z1 : Int32) (h : w_X4_difference_b35 Φ st x1 x5 z0 z1) : X θ κ Ph st 35 [(1, .long x1), (5, .long x5)] [.int z0, .int z1, .ref (ad θ 175)] := by
  unfold w_X4_difference_b35 at h
  refine X_icmp_eq (tgt := 68) C dX4_difference_35 (by decide) (fun c9 => ?_) (fun c9 => ?_)
  · have h := h.1 c9
    refine X_sub [1] (lo2 := [(5, _)]) rfl ?_
    exact t_X4_difference_b68 hX hd C hn st x5 h
  · have h := h.2 c9
    refine X_lload_n C dX4_difference_38 rfl 0 rfl ?_
    refine X_lconst (v := 0) C dX4_difference_39 rfl ?_
    refine X_lcmp_lt (tgt := 48) C dX4_difference_40 dX4_difference_41 (by decide) (fun c10 => ?_) (fun c10 => ?_)
    · have h := h.1 c10
      refine X_iconst (v := 0) C dX4_difference_48 rfl ?_
      refine X_sub [1] (lo2 := [(5, _)]) rfl ?_
      exact t_X4_difference_b49 hX hd C hn st x5 0 h
    · have h := h.2 c10
      refine X_iconst (v := 1) C dX4_difference_44 rfl ?_
      refine X_goto (tgt := 49) C dX4_difference_45 (by decide) ?_
      refine X_sub [1] (lo2 := [(5, _)]) rfl ?_
      exact t_X4_difference_b49 hX hd C hn st x5 1 h
def w_X4_difference_b24 (Φ : St → Int64 → Prop) (st : St) (x1 : Int64) (x3 : Int64) (x5 : Int64) (z0 : Int32) : Prop := ((x3 < 0) → w_X4_difference_b35 Φ st x1 x5 0 z0) ∧ ((¬ x3 < 0) → w_X4_difference_b35 Φ st x1 x5 1 z0)
theorem t_X4_difference_b24 {θ : Th} {κ : Kx} {Ph : Ph} (hX : LX θ) {d : Nat} (hd : 0 ≤ d) (C : Cx θ κ yX4_difference cX4_difference 7 (some Jvm.ClassFile.FieldType.long) [] d) {Φ : St → Int64 → Prop} (hn : ∀ st r, Φ st r → Ph.1 st (some (.long r))) (st : St) (x1 : Int64) (x3 : Int64) (x5 : Int64) (z0 : Int32) (h : w_X4_difference_b24 Φ st x1 x3 x5 z0) : X θ κ Ph st 24 [(1, .long x1), (3, .long x3), (5, .long x5)] [.int z0, .ref (ad θ 175)] := by
  unfold w_X4_difference_b24 at h
  refine X_lload_n C dX4_difference_24 rfl 1 rfl ?_
  refine X_lconst (v := 0) C dX4_difference_25 rfl ?_
  refine X_lcmp_lt (tgt := 34) C dX4_difference_26 dX4_difference_27 (by decide) (fun c8 => ?_) (fun c8 => ?_)
  · have h := h.1 c8
    refine X_iconst (v := 0) C dX4_difference_34 rfl ?_
    refine X_sub [0, 2] (lo2 := [(1, _), (5, _)]) rfl ?_
    exact t_X4_difference_b35 hX hd C hn st x1 x5 0 z0 h
  · have h := h.2 c8
    refine X_iconst (v := 1) C dX4_difference_30 rfl ?_
    refine X_goto (tgt := 35) C dX4_difference_31 (by decide) ?_
    refine X_sub [0, 2] (lo2 := [(1, _), (5, _)]) rfl ?_
    exact t_X4_difference_b35 hX hd C hn st x1 x5 1 z0 h
def w_X4_difference (st : St) (p1 : Int64) (p2 : Int64) (Φ : St → Int64 → Prop) : Prop := ∀ v1 : Int64, v1 = (p1 - p2) → (((sI st 175 20) ≠ 0) → w_X4_difference_b64 Φ st v1) ∧ (((sI st 175 20) = 0) → ((p1 < 0) → w_X4_difference_b24 Φ st p1 p2 v1 0) ∧ ((¬ p1 < 0) → w_X4_difference_b24 Φ st p1 p2 v1 1))
theorem nm_X4_difference : yX4_difference.cls ≠ "java/lang/invoke/MethodHandle" ∧ yX4_difference.cls ≠ "java/lang/invoke/VarHandle" ∧ (parseMethodDescriptor yX4_difference.desc).map (fun d => d.parameters.length) = some 2 := by decide +kernel
theorem e_X4_difference : plainFor yX4_difference = true := plainFor_of_name (by decide +kernel)
theorem m_X4_difference {θ : Th} {l : Launch} (hl0 : l.stackTraces = false) (hX : LX θ) {d : Nat} (hd : 0 ≤ d) (st : St) (p1 : Int64) (p2 : Int64) {Φ : St → Int64 → Prop} (h : w_X4_difference st p1 p2 Φ) : Ct θ l yX4_difference (ws_ yX4_difference cX4_difference 7 (some Jvm.ClassFile.FieldType.long)) d [.ref (ad θ 175), .long p1, .long p2] st (pL Φ, noX) := by
  refine Ct_entry hl0 e_X4_difference (Nat.le_of_ble_eq_true rfl) (fun κ hκ _ C => ?_)
  have hn : ∀ st r, Φ st r → ((pL Φ, noX) : Ph).1 st (some (.long r)) := fun st r q => ⟨r, rfl, q⟩
  change X _ _ _ _ _ [(0, .ref (ad θ 175)), (1, .long p1), (3, .long p2)] _
  unfold w_X4_difference at h
  refine X_lload_n C dX4_difference_0 rfl 1 rfl ?_
  refine X_lload_n C dX4_difference_1 rfl 2 rfl ?_
  refine X_lsub C dX4_difference_2 ?_
  refine X_topl (fun v1 e2 => ?_)
  have h := h v1 e2
  refine X_lstore C dX4_difference_3 (lo2 := [(5, _), (0, _), (1, _), (3, _)]) (by decide) rfl ?_
  refine X_aload_n C dX4_difference_5 rfl 1 rfl (isRV_r _) ?_
  refine X_aload_n C dX4_difference_6 rfl 1 rfl (isRV_r _) ?_
  refine X_getS (ci := 4) (j := 20) (q := (RX4, TX4, 54)) C rfl (by decide) q1786 rfl dX4_difference_7 (LX_S hX (k := 175) rfl) (v := .int (sI st 175 20)) rfl ?_
  refine X_if_ne (tgt := 64) C dX4_difference_10 (by decide) (fun c3 => ?_) (fun c3 => ?_)
  · have h := h.1 c3
    refine X_sub [0] (lo2 := [(5, _)]) rfl ?_
    exact t_X4_difference_b64 hX hd C hn st v1 h
  · have h := h.2 c3
    refine X_lload_n C dX4_difference_13 rfl 2 rfl ?_
    refine X_lconst (v := 0) C dX4_difference_14 rfl ?_
    refine X_lcmp_lt (tgt := 23) C dX4_difference_15 dX4_difference_16 (by decide) (fun c7 => ?_) (fun c7 => ?_)
    · have h := h.1 c7
      refine X_iconst (v := 0) C dX4_difference_23 rfl ?_
      refine X_sub [2, 3, 0] (lo2 := [(1, _), (3, _), (5, _)]) rfl ?_
      exact t_X4_difference_b24 hX hd C hn st p1 p2 v1 0 h
    · have h := h.2 c7
      refine X_iconst (v := 1) C dX4_difference_19 rfl ?_
      refine X_goto (tgt := 24) C dX4_difference_20 (by decide) ?_
      refine X_sub [2, 3, 0] (lo2 := [(1, _), (3, _), (5, _)]) rfl ?_
      exact t_X4_difference_b24 hX hd C hn st p1 p2 v1 1 h

def w_X4_by_b50 (Φ : St → Prop) (st : St) (x9 : Int64) (x11 : Int64) : Prop := w_X4_lowest st x9 x11 (fun (s19 : St) => Φ s19)
theorem t_X4_by_b50 {θ : Th} {κ : Kx} {Ph : Ph} (hX : LX θ) {d : Nat} (hd : 2 ≤ d) (C : Cx θ κ yX4_by cX4_by 13 (none : Option Jvm.ClassFile.FieldType) [] d) {Φ : St → Prop} (hn : ∀ st, Φ st → Ph.1 st none) (st : St) (x9 : Int64) (x11 : Int64) (h : w_X4_by_b50 Φ st x9 x11) : X θ κ Ph st 50 [(0, .ref (ad θ 175)), (9, .long x9), (11, .long x11)] [] := by
  unfold w_X4_by_b50 at h
  refine X_aload_n C dX4_by_50 rfl 0 rfl (isRV_r _) ?_
  refine X_lload C dX4_by_51 1 rfl ?_
  refine X_lload C dX4_by_53 2 rfl ?_
  refine X_callVS (ci := 4) (q := (RX4, TX4, 54)) (As := [_, _]) (rest := []) C rfl (LX_S hX (k := 175) rfl) q2081 q2083 qs82 q136 q2084 ⟨rfl, nm_X4_lowest⟩ rfl dX4_by_55 (m_X4_lowest (Cx_l C) hX (d := d - 1) (by omega) st x9 x11 h) (by omega) (by decide) (Nat.le_of_ble_eq_true rfl) (fun s19 w20 hE21 hP22 => ?_) (fun s25 E23 q24 hE21 hP22 => ?_)
  rotate_left
  · exact False.elim hP22
  obtain ⟨rfl, h⟩ := hP22
  refine X_tln ?_
  exact X_vret C rfl dX4_by_58 (hn s19 h)
def w_X4_by (st : St) (p1 : Int64) (p2 : Int64) (p3 : Int64) (p4 : Int64) (Φ : St → Prop) : Prop := w_X4_product st p1 p4 (fun (s2 : St) (r1 : Int64) => w_X4_product s2 p2 p3 (fun (s10 : St) (r9 : Int64) => (((sI s10 175 20) ≠ 0) → w_X4_by_b50 Φ s10 r1 r9) ∧ (((sI s10 175 20) = 0) → ((0 ≤ r9) → w_X4_by_b50 Φ s10 r1 r9) ∧ ((¬ 0 ≤ r9) → w_X4_difference s10 0 r1 (fun (s28 : St) (r27 : Int64) => w_X4_difference s28 0 r9 (fun (s36 : St) (r35 : Int64) => w_X4_by_b50 Φ s36 r27 r35))))))
theorem nm_X4_by : yX4_by.cls ≠ "java/lang/invoke/MethodHandle" ∧ yX4_by.cls ≠ "java/lang/invoke/VarHandle" ∧ (parseMethodDescriptor yX4_by.desc).map (fun d => d.parameters.length) = some 4 := by decide +kernel
theorem e_X4_by : plainFor yX4_by = true := plainFor_of_name (by decide +kernel)
theorem m_X4_by {θ : Th} {l : Launch} (hl0 : l.stackTraces = false) (hX : LX θ) {d : Nat} (hd : 2 ≤ d) (st : St) (p1 : Int64) (p2 : Int64) (p3 : Int64) (p4 : Int64) {Φ : St → Prop} (h : w_X4_by st p1 p2 p3 p4 Φ) : Ct θ l yX4_by (ws_ yX4_by cX4_by 13 (none : Option Jvm.ClassFile.FieldType)) d [.ref (ad θ 175), .long p1, .long p2, .long p3, .long p4] st (pV Φ, noX) := by
  refine Ct_entry hl0 e_X4_by (Nat.le_of_ble_eq_true rfl) (fun κ hκ _ C => ?_)
  have hn : ∀ st, Φ st → ((pV Φ, noX) : Ph).1 st none := fun st q => ⟨rfl, q⟩
  change X _ _ _ _ _ [(0, .ref (ad θ 175)), (1, .long p1), (3, .long p2), (5, .long p3), (7, .long p4)] _
  unfold w_X4_by at h
  refine X_aload_n C dX4_by_0 rfl 0 rfl (isRV_r _) ?_
  refine X_lload_n C dX4_by_1 rfl 1 rfl ?_
  refine X_lload C dX4_by_2 4 rfl ?_
  refine X_callVS (ci := 4) (q := (RX4, TX4, 54)) (As := [_, _]) (rest := []) C rfl (LX_S hX (k := 175) rfl) q2092 q2094 qs84 q136 q2095 ⟨rfl, nm_X4_product⟩ rfl dX4_by_4 (m_X4_product (Cx_l C) hX (d := d - 1) (by omega) st p1 p4 h) (by omega) (by decide) (Nat.le_of_ble_eq_true rfl) (fun s2 w3 hE4 hP5 => ?_) (fun s8 E6 q7 hE4 hP5 => ?_)
  rotate_left
  · exact False.elim hP5
  obtain ⟨r1, rfl, h⟩ := hP5
  refine X_tls ?_
  refine X_lstore C dX4_by_7 (lo2 := [(9, _), (0, _), (1, _), (3, _), (5, _), (7, _)]) (by decide) rfl ?_
  refine X_aload_n C dX4_by_9 rfl 1 rfl (isRV_r _) ?_
  refine X_lload_n C dX4_by_10 rfl 3 rfl ?_
  refine X_lload C dX4_by_11 4 rfl ?_
  refine X_callVS (ci := 4) (q := (RX4, TX4, 54)) (As := [_, _]) (rest := []) C rfl (LX_S hX (k := 175) rfl) q2092 q2094 qs84 q136 q2095 ⟨rfl, nm_X4_product⟩ rfl dX4_by_13 (m_X4_product (Cx_l C) hX (d := d - 1) (by omega) s2 p2 p3 h) (by omega) (by decide) (Nat.le_of_ble_eq_true rfl) (fun s10 w11 hE12 hP13 => ?_) (fun s16 E14 q15 hE12 hP13 => ?_)
  rotate_left
  · exact False.elim hP13
  obtain ⟨r9, rfl, h⟩ := hP13
  refine X_tls ?_
  refine X_lstore C dX4_by_16 (lo2 := [(11, _), (9, _), (0, _), (1, _), (3, _), (5, _), (7, _)]) (by decide) rfl ?_
  refine X_aload_n C dX4_by_18 rfl 2 rfl (isRV_r _) ?_
  refine X_getS (ci := 4) (j := 20) (q := (RX4, TX4, 54)) C rfl (by decide) q1786 rfl dX4_by_19 (LX_S hX (k := 175) rfl) (v := .int (sI s10 175 20)) rfl ?_
  refine X_if_ne (tgt := 50) C dX4_by_22 (by decide) (fun c17 => ?_) (fun c17 => ?_)
  · have h := h.1 c17
    refine X_sub [2, 1, 0] (lo2 := [(0, _), (9, _), (11, _)]) rfl ?_
    exact t_X4_by_b50 hX hd C hn s10 r1 r9 h
  · have h := h.2 c17
    refine X_lload C dX4_by_25 0 rfl ?_
    refine X_lconst (v := 0) C dX4_by_27 rfl ?_
    refine X_lcmp_ge (tgt := 50) C dX4_by_28 dX4_by_29 (by decide) (fun c26 => ?_) (fun c26 => ?_)
    · have h := h.1 c26
      refine X_sub [2, 1, 0] (lo2 := [(0, _), (9, _), (11, _)]) rfl ?_
      exact t_X4_by_b50 hX hd C hn s10 r1 r9 h
    · have h := h.2 c26
      refine X_aload_n C dX4_by_32 rfl 2 rfl (isRV_r _) ?_
      refine X_lconst (v := 0) C dX4_by_33 rfl ?_
      refine X_lload C dX4_by_34 1 rfl ?_
      refine X_callVS (ci := 4) (q := (RX4, TX4, 54)) (As := [_, _]) (rest := []) C rfl (LX_S hX (k := 175) rfl) q2100 q2102 qs85 q136 q2103 ⟨rfl, nm_X4_difference⟩ rfl dX4_by_36 (m_X4_difference (Cx_l C) hX (d := d - 1) (by omega) s10 0 r1 h) (by omega) (by decide) (Nat.le_of_ble_eq_true rfl) (fun s28 w29 hE30 hP31 => ?_) (fun s34 E32 q33 hE30 hP31 => ?_)
      rotate_left
      · exact False.elim hP31
      obtain ⟨r27, rfl, h⟩ := hP31
      refine X_tls ?_
      refine X_lstore C dX4_by_39 (lo2 := [(9, _), (11, _), (0, _), (1, _), (3, _), (5, _), (7, _)]) (by decide) rfl ?_
      refine X_aload_n C dX4_by_41 rfl 2 rfl (isRV_r _) ?_
      refine X_lconst (v := 0) C dX4_by_42 rfl ?_
      refine X_lload C dX4_by_43 1 rfl ?_
      refine X_callVS (ci := 4) (q := (RX4, TX4, 54)) (As := [_, _]) (rest := []) C rfl (LX_S hX (k := 175) rfl) q2100 q2102 qs85 q136 q2103 ⟨rfl, nm_X4_difference⟩ rfl dX4_by_45 (m_X4_difference (Cx_l C) hX (d := d - 1) (by omega) s28 0 r9 h) (by omega) (by decide) (Nat.le_of_ble_eq_true rfl) (fun s36 w37 hE38 hP39 => ?_) (fun s42 E40 q41 hE38 hP39 => ?_)
      rotate_left
      · exact False.elim hP39
      obtain ⟨r35, rfl, h⟩ := hP39
      refine X_tls ?_
      refine X_lstore C dX4_by_48 (lo2 := [(11, _), (9, _), (0, _), (1, _), (3, _), (5, _), (7, _)]) (by decide) rfl ?_
      refine X_sub [2, 1, 0] (lo2 := [(0, _), (9, _), (11, _)]) rfl ?_
      exact t_X4_by_b50 hX hd C hn s36 r27 r35 h

def w_X4_byParts (st : St) (Φ : St → Prop) : Prop := w_X4_lowest st (sL st 175 30) (sL st 175 29) (fun (s2 : St) => w_X4_by s2 (sL s2 175 18) (sL s2 175 19) (sI s2 177 1).toInt64 1 (fun (s10 : St) => Φ s10))
theorem nm_X4_byParts : yX4_byParts.cls ≠ "java/lang/invoke/MethodHandle" ∧ yX4_byParts.cls ≠ "java/lang/invoke/VarHandle" ∧ (parseMethodDescriptor yX4_byParts.desc).map (fun d => d.parameters.length) = some 0 := by decide +kernel
theorem e_X4_byParts : plainFor yX4_byParts = true := plainFor_of_name (by decide +kernel)
theorem m_X4_byParts {θ : Th} {l : Launch} (hl0 : l.stackTraces = false) (hX : LX θ) {d : Nat} (hd : 3 ≤ d) (st : St) {Φ : St → Prop} (h : w_X4_byParts st Φ) : Ct θ l yX4_byParts (ws_ yX4_byParts cX4_byParts 1 (none : Option Jvm.ClassFile.FieldType)) d [.ref (ad θ 175)] st (pV Φ, noX) := by
  refine Ct_entry hl0 e_X4_byParts (Nat.le_of_ble_eq_true rfl) (fun κ hκ _ C => ?_)
  have hn : ∀ st, Φ st → ((pV Φ, noX) : Ph).1 st none := fun st q => ⟨rfl, q⟩
  change X _ _ _ _ _ [(0, .ref (ad θ 175))] _
  unfold w_X4_byParts at h
  refine X_aload_n C dX4_byParts_0 rfl 0 rfl (isRV_r _) ?_
  refine X_aload_n C dX4_byParts_1 rfl 0 rfl (isRV_r _) ?_
  refine X_getS (ci := 4) (j := 30) (q := (RX4, TX4, 54)) C rfl (by decide) q1796 rfl dX4_byParts_2 (LX_S hX (k := 175) rfl) (v := .long (sL st 175 30)) rfl ?_
  refine X_aload_n C dX4_byParts_5 rfl 0 rfl (isRV_r _) ?_
  refine X_getS (ci := 4) (j := 29) (q := (RX4, TX4, 54)) C rfl (by decide) q1795 rfl dX4_byParts_6 (LX_S hX (k := 175) rfl) (v := .long (sL st 175 29)) rfl ?_
  refine X_callVS (ci := 4) (q := (RX4, TX4, 54)) (As := [_, _]) (rest := []) C rfl (LX_S hX (k := 175) rfl) q2081 q2083 qs82 q136 q2084 ⟨rfl, nm_X4_lowest⟩ rfl dX4_byParts_9 (m_X4_lowest (Cx_l C) hX (d := d - 1) (by omega) st (sL st 175 30) (sL st 175 29) h) (by omega) (by decide) (Nat.le_of_ble_eq_true rfl) (fun s2 w3 hE4 hP5 => ?_) (fun s8 E6 q7 hE4 hP5 => ?_)
  rotate_left
  · exact False.elim hP5
  obtain ⟨rfl, h⟩ := hP5
  refine X_tln ?_
  refine X_aload_n C dX4_byParts_12 rfl 0 rfl (isRV_r _) ?_
  refine X_aload_n C dX4_byParts_13 rfl 0 rfl (isRV_r _) ?_
  refine X_getS (ci := 4) (j := 18) (q := (RX4, TX4, 54)) C rfl (by decide) q1784 rfl dX4_byParts_14 (LX_S hX (k := 175) rfl) (v := .long (sL s2 175 18)) rfl ?_
  refine X_aload_n C dX4_byParts_17 rfl 0 rfl (isRV_r _) ?_
  refine X_getS (ci := 4) (j := 19) (q := (RX4, TX4, 54)) C rfl (by decide) q1785 rfl dX4_byParts_18 (LX_S hX (k := 175) rfl) (v := .long (sL s2 175 19)) rfl ?_
  refine X_aload_n C dX4_byParts_21 rfl 0 rfl (isRV_r _) ?_
  refine X_getF (ci := 4) (j := 1) (q := (RX4, TX4, 54)) C rfl (by decide) q1767 rfl dX4_byParts_22 (b := 177) (LX_S hX (k := 175) rfl) (LX_F hX (k := 175) (j := 1) rfl) rfl ?_
  refine X_iconst (v := 1) C dX4_byParts_25 rfl ?_
  refine X_ialdS C (LX_S hX (k := 177) rfl) (LX_L hX (k := 177) rfl) (vp_dec rfl) rfl dX4_byParts_26 ?_
  refine X_i2l C dX4_byParts_27 ?_
  refine X_lconst (v := 1) C dX4_byParts_28 rfl ?_
  refine X_callVS (ci := 4) (q := (RX4, TX4, 54)) (As := [_, _, _, _]) (rest := []) C rfl (LX_S hX (k := 175) rfl) q2088 q2090 qs83 q136 q2091 ⟨rfl, nm_X4_by⟩ rfl dX4_byParts_29 (m_X4_by (Cx_l C) hX (d := d - 1) (by omega) s2 (sL s2 175 18) (sL s2 175 19) (sI s2 177 1).toInt64 1 h) (by omega) (by decide) (Nat.le_of_ble_eq_true rfl) (fun s10 w11 hE12 hP13 => ?_) (fun s16 E14 q15 hE12 hP13 => ?_)
  rotate_left
  · exact False.elim hP13
  obtain ⟨rfl, h⟩ := hP13
  refine X_tln ?_
  exact X_vret C rfl dX4_byParts_32 (hn s10 h)

def w_X4_is (st : St) (p1 : Int64) (p2 : Int64) (Φ : St → Prop) : Prop := ∀ s1, s1 = putL st 175 18 p1 → ∀ s3, s3 = putL s1 175 19 p2 → Φ s3
theorem nm_X4_is : yX4_is.cls ≠ "java/lang/invoke/MethodHandle" ∧ yX4_is.cls ≠ "java/lang/invoke/VarHandle" ∧ (parseMethodDescriptor yX4_is.desc).map (fun d => d.parameters.length) = some 2 := by decide +kernel
theorem e_X4_is : plainFor yX4_is = true := plainFor_of_name (by decide +kernel)
theorem m_X4_is {θ : Th} {l : Launch} (hl0 : l.stackTraces = false) (hX : LX θ) {d : Nat} (hd : 0 ≤ d) (st : St) (p1 : Int64) (p2 : Int64) {Φ : St → Prop} (h : w_X4_is st p1 p2 Φ) : Ct θ l yX4_is (ws_ yX4_is cX4_is 5 (none : Option Jvm.ClassFile.FieldType)) d [.ref (ad θ 175), .long p1, .long p2] st (pV Φ, noX) := by
  refine Ct_entry hl0 e_X4_is (Nat.le_of_ble_eq_true rfl) (fun κ hκ _ C => ?_)
  have hn : ∀ st, Φ st → ((pV Φ, noX) : Ph).1 st none := fun st q => ⟨rfl, q⟩
  change X _ _ _ _ _ [(0, .ref (ad θ 175)), (1, .long p1), (3, .long p2)] _
  unfold w_X4_is at h
  refine X_aload_n C dX4_is_0 rfl 0 rfl (isRV_r _) ?_
  refine X_lload_n C dX4_is_1 rfl 1 rfl ?_
  refine X_putSL (ci := 4) (j := 18) (q := (RX4, TX4, 54)) C rfl (by decide) q1784 rfl rfl dX4_is_2 (LX_S hX (k := 175) rfl) rfl ?_
  refine X_nm (fun s1 e2 => ?_)
  have h := h s1 e2
  refine X_aload_n C dX4_is_5 rfl 0 rfl (isRV_r _) ?_
  refine X_lload_n C dX4_is_6 rfl 2 rfl ?_
  refine X_putSL (ci := 4) (j := 19) (q := (RX4, TX4, 54)) C rfl (by decide) q1785 rfl rfl dX4_is_7 (LX_S hX (k := 175) rfl) rfl ?_
  refine X_nm (fun s3 e4 => ?_)
  have h := h s3 e4
  exact X_vret C rfl dX4_is_10 (hn s3 h)

def w_X4_u_b45 (Φ : St → Prop) (st : St) (x1 : Int32) : Prop := vp_in x1 15 ∧ w_X4_is st (sL st 194 x1.toNatClampNeg) (sL st 195 x1.toNatClampNeg) (fun (s5 : St) => Φ s5)
theorem t_X4_u_b45 {θ : Th} {κ : Kx} {Ph : Ph} (hX : LX θ) {d : Nat} (hd : 6 ≤ d) (C : Cx θ κ yX4_u cX4_u 2 (none : Option Jvm.ClassFile.FieldType) [] d) {Φ : St → Prop} (hn : ∀ st, Φ st → Ph.1 st none) (st : St) (x1 : Int32) (h : w_X4_u_b45 Φ st x1) : X θ κ Ph st 45 [(0, .ref (ad θ 175)), (1, .int x1)] [] := by
  unfold w_X4_u_b45 at h
  refine X_aload_n C dX4_u_45 rfl 0 rfl (isRV_r _) ?_
  refine X_aload_n C dX4_u_46 rfl 0 rfl (isRV_r _) ?_
  refine X_getF (ci := 4) (j := 32) (q := (RX4, TX4, 54)) C rfl (by decide) q1798 rfl dX4_u_47 (b := 194) (LX_S hX (k := 175) rfl) (LX_F hX (k := 175) (j := 32) rfl) rfl ?_
  refine X_iload_n C dX4_u_50 rfl 1 rfl ?_
  have g3 := h.1
  have h := h.2
  refine X_laldS C (LX_S hX (k := 194) rfl) (LX_L hX (k := 194) rfl) g3 rfl dX4_u_51 ?_
  refine X_aload_n C dX4_u_52 rfl 0 rfl (isRV_r _) ?_
  refine X_getF (ci := 4) (j := 33) (q := (RX4, TX4, 54)) C rfl (by decide) q1799 rfl dX4_u_53 (b := 195) (LX_S hX (k := 175) rfl) (LX_F hX (k := 175) (j := 33) rfl) rfl ?_
  refine X_iload_n C dX4_u_56 rfl 1 rfl ?_
  refine X_laldS C (LX_S hX (k := 195) rfl) (LX_L hX (k := 195) rfl) g3 rfl dX4_u_57 ?_
  refine X_callVS (ci := 4) (q := (RX4, TX4, 54)) (As := [_, _]) (rest := []) C rfl (LX_S hX (k := 175) rfl) q2104 q2106 qs86 q136 q2107 ⟨rfl, nm_X4_is⟩ rfl dX4_u_58 (m_X4_is (Cx_l C) hX (d := d - 1) (by omega) st (sL st 194 x1.toNatClampNeg) (sL st 195 x1.toNatClampNeg) h) (by omega) (by decide) (Nat.le_of_ble_eq_true rfl) (fun s5 w6 hE7 hP8 => ?_) (fun s11 E9 q10 hE7 hP8 => ?_)
  rotate_left
  · exact False.elim hP8
  obtain ⟨rfl, h⟩ := hP8
  refine X_tln ?_
  exact X_vret C rfl dX4_u_61 (hn s5 h)
def w_X4_u (st : St) (p1 : Int32) (Φ : St → Prop) : Prop := vp_in p1 15 ∧ (((sI st 196 p1.toNatClampNeg) ≠ 0) → w_X4_u_b45 Φ st p1) ∧ (((sI st 196 p1.toNatClampNeg) = 0) → w_X4_averages st p1 (fun (s13 : St) => w_X4_byParts s13 (fun (s21 : St) => ∀ s28, s28 = putL s21 194 (p1.toNatClampNeg) (sL s21 175 18) → ∀ s30, s30 = putL s28 195 (p1.toNatClampNeg) (sL s28 175 19) → ∀ s32, s32 = putI s30 196 (p1.toNatClampNeg) (vp_nar .boolean (1 : Int32)) → w_X4_u_b45 Φ s32 p1)))
theorem nm_X4_u : yX4_u.cls ≠ "java/lang/invoke/MethodHandle" ∧ yX4_u.cls ≠ "java/lang/invoke/VarHandle" ∧ (parseMethodDescriptor yX4_u.desc).map (fun d => d.parameters.length) = some 1 := by decide +kernel
theorem e_X4_u : plainFor yX4_u = true := plainFor_of_name (by decide +kernel)
theorem m_X4_u {θ : Th} {l : Launch} (hl0 : l.stackTraces = false) (hX : LX θ) {d : Nat} (hd : 6 ≤ d) (st : St) (p1 : Int32) {Φ : St → Prop} (h : w_X4_u st p1 Φ) : Ct θ l yX4_u (ws_ yX4_u cX4_u 2 (none : Option Jvm.ClassFile.FieldType)) d [.ref (ad θ 175), .int p1] st (pV Φ, noX) := by
  refine Ct_entry hl0 e_X4_u (Nat.le_of_ble_eq_true rfl) (fun κ hκ _ C => ?_)
  have hn : ∀ st, Φ st → ((pV Φ, noX) : Ph).1 st none := fun st q => ⟨rfl, q⟩
  change X _ _ _ _ _ [(0, .ref (ad θ 175)), (1, .int p1)] _
  unfold w_X4_u at h
  refine X_aload_n C dX4_u_0 rfl 0 rfl (isRV_r _) ?_
  refine X_getF (ci := 4) (j := 34) (q := (RX4, TX4, 54)) C rfl (by decide) q1800 rfl dX4_u_1 (b := 196) (LX_S hX (k := 175) rfl) (LX_F hX (k := 175) (j := 34) rfl) rfl ?_
  refine X_iload_n C dX4_u_4 rfl 1 rfl ?_
  have g1 := h.1
  have h := h.2
  refine X_zaldS C (LX_S hX (k := 196) rfl) (LX_L hX (k := 196) rfl) g1 rfl dX4_u_5 ?_
  refine X_if_ne (tgt := 45) C dX4_u_6 (by decide) (fun c2 => ?_) (fun c2 => ?_)
  · have h := h.1 c2
    exact t_X4_u_b45 hX hd C hn st p1 h
  · have h := h.2 c2
    refine X_aload_n C dX4_u_9 rfl 0 rfl (isRV_r _) ?_
    refine X_iload_n C dX4_u_10 rfl 1 rfl ?_
    refine X_callVS (ci := 4) (q := (RX4, TX4, 54)) (As := [_]) (rest := []) C rfl (LX_S hX (k := 175) rfl) q2046 q2048 qs75 q136 q2049 ⟨rfl, nm_X4_averages⟩ rfl dX4_u_11 (m_X4_averages (Cx_l C) hX (d := d - 1) (by omega) st p1 h) (by omega) (by decide) (Nat.le_of_ble_eq_true rfl) (fun s13 w14 hE15 hP16 => ?_) (fun s19 E17 q18 hE15 hP16 => ?_)
    rotate_left
    · exact False.elim hP16
    obtain ⟨rfl, h⟩ := hP16
    refine X_tln ?_
    refine X_aload_n C dX4_u_14 rfl 0 rfl (isRV_r _) ?_
    refine X_callVS (ci := 4) (q := (RX4, TX4, 54)) (As := []) (rest := []) C rfl (LX_S hX (k := 175) rfl) q2077 q2079 qs81 q136 q2080 ⟨rfl, nm_X4_byParts⟩ rfl dX4_u_15 (m_X4_byParts (Cx_l C) hX (d := d - 1) (by omega) s13 h) (by omega) (by decide) (Nat.le_of_ble_eq_true rfl) (fun s21 w22 hE23 hP24 => ?_) (fun s27 E25 q26 hE23 hP24 => ?_)
    rotate_left
    · exact False.elim hP24
    obtain ⟨rfl, h⟩ := hP24
    refine X_tln ?_
    refine X_aload_n C dX4_u_18 rfl 0 rfl (isRV_r _) ?_
    refine X_getF (ci := 4) (j := 32) (q := (RX4, TX4, 54)) C rfl (by decide) q1798 rfl dX4_u_19 (b := 194) (LX_S hX (k := 175) rfl) (LX_F hX (k := 175) (j := 32) rfl) rfl ?_
    refine X_iload_n C dX4_u_22 rfl 1 rfl ?_
    refine X_aload_n C dX4_u_23 rfl 0 rfl (isRV_r _) ?_
    refine X_getS (ci := 4) (j := 18) (q := (RX4, TX4, 54)) C rfl (by decide) q1784 rfl dX4_u_24 (LX_S hX (k := 175) rfl) (v := .long (sL s21 175 18)) rfl ?_
    refine X_lastS C (LX_S hX (k := 194) rfl) (LX_L hX (k := 194) rfl) g1 rfl dX4_u_27 ?_
    refine X_nm (fun s28 e29 => ?_)
    have h := h s28 e29
    refine X_aload_n C dX4_u_28 rfl 0 rfl (isRV_r _) ?_
    refine X_getF (ci := 4) (j := 33) (q := (RX4, TX4, 54)) C rfl (by decide) q1799 rfl dX4_u_29 (b := 195) (LX_S hX (k := 175) rfl) (LX_F hX (k := 175) (j := 33) rfl) rfl ?_
    refine X_iload_n C dX4_u_32 rfl 1 rfl ?_
    refine X_aload_n C dX4_u_33 rfl 0 rfl (isRV_r _) ?_
    refine X_getS (ci := 4) (j := 19) (q := (RX4, TX4, 54)) C rfl (by decide) q1785 rfl dX4_u_34 (LX_S hX (k := 175) rfl) (v := .long (sL s28 175 19)) rfl ?_
    refine X_lastS C (LX_S hX (k := 195) rfl) (LX_L hX (k := 195) rfl) g1 rfl dX4_u_37 ?_
    refine X_nm (fun s30 e31 => ?_)
    have h := h s30 e31
    refine X_aload_n C dX4_u_38 rfl 0 rfl (isRV_r _) ?_
    refine X_getF (ci := 4) (j := 34) (q := (RX4, TX4, 54)) C rfl (by decide) q1800 rfl dX4_u_39 (b := 196) (LX_S hX (k := 175) rfl) (LX_F hX (k := 175) (j := 34) rfl) rfl ?_
    refine X_iload_n C dX4_u_42 rfl 1 rfl ?_
    refine X_iconst (v := 1) C dX4_u_43 rfl ?_
    refine X_zastS C (LX_S hX (k := 196) rfl) (LX_L hX (k := 196) rfl) g1 rfl dX4_u_44 ?_
    refine X_nm (fun s32 e33 => ?_)
    have h := h s32 e33
    exact t_X4_u_b45 hX hd C hn s32 p1 h

def w_X4_value_b15 (Φ : St → Int64 → Prop) (st : St) : Prop := w_X4_findsFar st 1 (fun (s11 : St) (r10 : Int64) => Φ s11 r10)
theorem t_X4_value_b15 {θ : Th} {κ : Kx} {Ph : Ph} (hX : LX θ) {d : Nat} (hd : 7 ≤ d) (C : Cx θ κ yX4_value cX4_value 3 (some Jvm.ClassFile.FieldType.long) [] d) {Φ : St → Int64 → Prop} (hn : ∀ st r, Φ st r → Ph.1 st (some (.long r))) (st : St) (h : w_X4_value_b15 Φ st) : X θ κ Ph st 15 [(0, .ref (ad θ 175))] [] := by
  unfold w_X4_value_b15 at h
  refine X_aload_n C dX4_value_15 rfl 0 rfl (isRV_r _) ?_
  refine X_iconst (v := 1) C dX4_value_16 rfl ?_
  refine X_callVS (ci := 4) (q := (RX4, TX4, 54)) (As := [_]) (rest := []) C rfl (LX_S hX (k := 175) rfl) q2033 q2035 qs72 q136 q2036 ⟨rfl, nm_X4_findsFar⟩ rfl dX4_value_17 (m_X4_findsFar (Cx_l C) hX (d := d - 1) (by omega) st 1 h) (by omega) (by decide) (Nat.le_of_ble_eq_true rfl) (fun s11 w12 hE13 hP14 => ?_) (fun s17 E15 q16 hE13 hP14 => ?_)
  rotate_left
  · exact False.elim hP14
  obtain ⟨r10, rfl, h⟩ := hP14
  refine X_tls ?_
  exact X_lret C rfl dX4_value_20 (hn s11 _ h)
def w_X4_value (st : St) (p1 : Int32) (p2 : Int32) (Φ : St → Int64 → Prop) : Prop := w_X4_isPoint st p1 (fun (r1 : Int32) => ((r1 = 0) → w_X4_value_b15 Φ st) ∧ ((¬ r1 = 0) → w_X4_isPart p2 (fun (r18 : Int32) => ((r18 ≠ 0) → w_X4_begins st (fun (s28 : St) => w_X4_u s28 p1 (fun (s36 : St) => ((p2 ≠ 0) → Φ s36 (sL s36 175 19)) ∧ ((p2 = 0) → Φ s36 (sL s36 175 18))))) ∧ ((r18 = 0) → w_X4_value_b15 Φ st))))
theorem nm_X4_value : yX4_value.cls ≠ "java/lang/invoke/MethodHandle" ∧ yX4_value.cls ≠ "java/lang/invoke/VarHandle" ∧ (parseMethodDescriptor yX4_value.desc).map (fun d => d.parameters.length) = some 2 := by decide +kernel
theorem e_X4_value : plainFor yX4_value = true := plainFor_of_name (by decide +kernel)
theorem m_X4_value {θ : Th} {l : Launch} (hl0 : l.stackTraces = false) (hX : LX θ) {d : Nat} (hd : 7 ≤ d) (st : St) (p1 : Int32) (p2 : Int32) {Φ : St → Int64 → Prop} (h : w_X4_value st p1 p2 Φ) : Ct θ l yX4_value (ws_ yX4_value cX4_value 3 (some Jvm.ClassFile.FieldType.long)) d [.ref (ad θ 175), .int p1, .int p2] st (pL Φ, noX) := by
  refine Ct_entry hl0 e_X4_value (Nat.le_of_ble_eq_true rfl) (fun κ hκ _ C => ?_)
  have hn : ∀ st r, Φ st r → ((pL Φ, noX) : Ph).1 st (some (.long r)) := fun st r q => ⟨r, rfl, q⟩
  change X _ _ _ _ _ [(0, .ref (ad θ 175)), (1, .int p1), (2, .int p2)] _
  unfold w_X4_value at h
  refine X_aload_n C dX4_value_0 rfl 0 rfl (isRV_r _) ?_
  refine X_iload_n C dX4_value_1 rfl 1 rfl ?_
  refine X_callVS (ci := 4) (q := (RX4, TX4, 54)) (As := [_]) (rest := []) C rfl (LX_S hX (k := 175) rfl) q1992 q1994 qs67 q136 q1995 ⟨rfl, nm_X4_isPoint⟩ rfl dX4_value_2 (m_X4_isPoint (Cx_l C) hX (d := d - 1) (by omega) st p1 h) (by omega) (by decide) (Nat.le_of_ble_eq_true rfl) (fun s7 w2 hE3 hP4 => ?_) (fun s8 E5 q6 hE3 hP4 => ?_)
  rotate_left
  · exact False.elim hP4
  obtain ⟨r1, rfl, rfl, h⟩ := hP4
  refine X_tls ?_
  refine X_if_eq (tgt := 15) C dX4_value_5 (by decide) (fun c9 => ?_) (fun c9 => ?_)
  · have h := h.1 c9
    refine X_sub [0] (lo2 := [(0, _)]) rfl ?_
    exact t_X4_value_b15 hX hd C hn st h
  · have h := h.2 c9
    refine X_iload_n C dX4_value_8 rfl 2 rfl ?_
    refine X_callS (As := [_]) (rest := []) C q2030 q2031 q136 q2032 nm_X4_isPart rfl dX4_value_9 (m_X4_isPart (Cx_l C) hX (d := d - 1) (by omega) st p2 h) (by omega) (by decide) (Nat.le_of_ble_eq_true rfl) (fun s24 w19 hE20 hP21 => ?_) (fun s25 E22 q23 hE20 hP21 => ?_)
    rotate_left
    · exact False.elim hP21
    obtain ⟨r18, rfl, rfl, h⟩ := hP21
    refine X_tls ?_
    refine X_if_ne (tgt := 21) C dX4_value_12 (by decide) (fun c26 => ?_) (fun c26 => ?_)
    · have h := h.1 c26
      refine X_aload_n C dX4_value_21 rfl 0 rfl (isRV_r _) ?_
      refine X_callVS (ci := 4) (q := (RX4, TX4, 54)) (As := []) (rest := []) C rfl (LX_S hX (k := 175) rfl) q2038 q2040 qs73 q136 q2041 ⟨rfl, nm_X4_begins⟩ rfl dX4_value_22 (m_X4_begins (Cx_l C) hX (d := d - 1) (by omega) st h) (by omega) (by decide) (Nat.le_of_ble_eq_true rfl) (fun s28 w29 hE30 hP31 => ?_) (fun s34 E32 q33 hE30 hP31 => ?_)
      rotate_left
      · exact False.elim hP31
      obtain ⟨rfl, h⟩ := hP31
      refine X_tln ?_
      refine X_aload_n C dX4_value_25 rfl 0 rfl (isRV_r _) ?_
      refine X_iload_n C dX4_value_26 rfl 1 rfl ?_
      refine X_callVS (ci := 4) (q := (RX4, TX4, 54)) (As := [_]) (rest := []) C rfl (LX_S hX (k := 175) rfl) q2042 q2044 qs74 q136 q2045 ⟨rfl, nm_X4_u⟩ rfl dX4_value_27 (m_X4_u (Cx_l C) hX (d := d - 1) (by omega) s28 p1 h) (by omega) (by decide) (Nat.le_of_ble_eq_true rfl) (fun s36 w37 hE38 hP39 => ?_) (fun s42 E40 q41 hE38 hP39 => ?_)
      rotate_left
      · exact False.elim hP39
      obtain ⟨rfl, h⟩ := hP39
      refine X_tln ?_
      refine X_iload_n C dX4_value_30 rfl 2 rfl ?_
      refine X_if_ne (tgt := 41) C dX4_value_31 (by decide) (fun c43 => ?_) (fun c43 => ?_)
      · have h := h.1 c43
        refine X_aload_n C dX4_value_41 rfl 0 rfl (isRV_r _) ?_
        refine X_getS (ci := 4) (j := 19) (q := (RX4, TX4, 54)) C rfl (by decide) q1785 rfl dX4_value_42 (LX_S hX (k := 175) rfl) (v := .long (sL s36 175 19)) rfl ?_
        exact X_lret C rfl dX4_value_45 (hn s36 _ h)
      · have h := h.2 c43
        refine X_aload_n C dX4_value_34 rfl 0 rfl (isRV_r _) ?_
        refine X_getS (ci := 4) (j := 18) (q := (RX4, TX4, 54)) C rfl (by decide) q1784 rfl dX4_value_35 (LX_S hX (k := 175) rfl) (v := .long (sL s36 175 18)) rfl ?_
        refine X_goto (tgt := 45) C dX4_value_38 (by decide) ?_
        exact X_lret C rfl dX4_value_45 (hn s36 _ h)
    · have h := h.2 c26
      refine X_sub [0] (lo2 := [(0, _)]) rfl ?_
      exact t_X4_value_b15 hX hd C hn st h

def w_X4_plan_b54 (Φ : St → Int64 → Prop) (st : St) : Prop := w_X4_findsFar st 1 (fun (s11 : St) (r10 : Int64) => Φ s11 r10)
theorem t_X4_plan_b54 {θ : Th} {κ : Kx} {Ph : Ph} (hX : LX θ) {d : Nat} (hd : 6 ≤ d) (C : Cx θ κ yX4_plan cX4_plan 5 (some Jvm.ClassFile.FieldType.long) [] d) {Φ : St → Int64 → Prop} (hn : ∀ st r, Φ st r → Ph.1 st (some (.long r))) (st : St) (h : w_X4_plan_b54 Φ st) : X θ κ Ph st 54 [(0, .ref (ad θ 175))] [] := by
  unfold w_X4_plan_b54 at h
  refine X_aload_n C dX4_plan_54 rfl 0 rfl (isRV_r _) ?_
  refine X_iconst (v := 1) C dX4_plan_55 rfl ?_
  refine X_callVS (ci := 4) (q := (RX4, TX4, 54)) (As := [_]) (rest := []) C rfl (LX_S hX (k := 175) rfl) q2033 q2035 qs72 q136 q2036 ⟨rfl, nm_X4_findsFar⟩ rfl dX4_plan_56 (m_X4_findsFar (Cx_l C) hX (d := d - 1) (by omega) st 1 h) (by omega) (by decide) (Nat.le_of_ble_eq_true rfl) (fun s11 w12 hE13 hP14 => ?_) (fun s17 E15 q16 hE13 hP14 => ?_)
  rotate_left
  · exact False.elim hP14
  obtain ⟨r10, rfl, h⟩ := hP14
  refine X_tls ?_
  exact X_lret C rfl dX4_plan_59 (hn s11 _ h)
def w_X4_plan_b90 (Φ : St → Int64 → Prop) (st : St) (x4 : Int32) (z0 : Int64) : Prop := w_X4_lowest st z0 (sL st 175 29) (fun (s59 : St) => ((x4 ≠ 0) → Φ s59 (sL s59 175 19)) ∧ ((x4 = 0) → Φ s59 (sL s59 175 18)))
theorem t_X4_plan_b90 {θ : Th} {κ : Kx} {Ph : Ph} (hX : LX θ) {d : Nat} (hd : 6 ≤ d) (C : Cx θ κ yX4_plan cX4_plan 5 (some Jvm.ClassFile.FieldType.long) [] d) {Φ : St → Int64 → Prop} (hn : ∀ st r, Φ st r → Ph.1 st (some (.long r))) (st : St) (x4 : Int32) (z0 : Int64) (h : w_X4_plan_b90 Φ st x4 z0) : X θ κ Ph st 90 [(0, .ref (ad θ 175)), (4, .int x4)] [.long z0, .ref (ad θ 175)] := by
  unfold w_X4_plan_b90 at h
  refine X_aload_n C dX4_plan_90 rfl 0 rfl (isRV_r _) ?_
  refine X_getS (ci := 4) (j := 29) (q := (RX4, TX4, 54)) C rfl (by decide) q1795 rfl dX4_plan_91 (LX_S hX (k := 175) rfl) (v := .long (sL st 175 29)) rfl ?_
  refine X_callVS (ci := 4) (q := (RX4, TX4, 54)) (As := [_, _]) (rest := []) C rfl (LX_S hX (k := 175) rfl) q2081 q2083 qs82 q136 q2084 ⟨rfl, nm_X4_lowest⟩ rfl dX4_plan_94 (m_X4_lowest (Cx_l C) hX (d := d - 1) (by omega) st z0 (sL st 175 29) h) (by omega) (by decide) (Nat.le_of_ble_eq_true rfl) (fun s59 w60 hE61 hP62 => ?_) (fun s65 E63 q64 hE61 hP62 => ?_)
  rotate_left
  · exact False.elim hP62
  obtain ⟨rfl, h⟩ := hP62
  refine X_tln ?_
  refine X_iload C dX4_plan_97 1 rfl ?_
  refine X_if_ne (tgt := 109) C dX4_plan_99 (by decide) (fun c66 => ?_) (fun c66 => ?_)
  · have h := h.1 c66
    refine X_aload_n C dX4_plan_109 rfl 0 rfl (isRV_r _) ?_
    refine X_getS (ci := 4) (j := 19) (q := (RX4, TX4, 54)) C rfl (by decide) q1785 rfl dX4_plan_110 (LX_S hX (k := 175) rfl) (v := .long (sL s59 175 19)) rfl ?_
    exact X_lret C rfl dX4_plan_113 (hn s59 _ h)
  · have h := h.2 c66
    refine X_aload_n C dX4_plan_102 rfl 0 rfl (isRV_r _) ?_
    refine X_getS (ci := 4) (j := 18) (q := (RX4, TX4, 54)) C rfl (by decide) q1784 rfl dX4_plan_103 (LX_S hX (k := 175) rfl) (v := .long (sL s59 175 18)) rfl ?_
    refine X_goto (tgt := 113) C dX4_plan_106 (by decide) ?_
    exact X_lret C rfl dX4_plan_113 (hn s59 _ h)
def w_X4_plan_b37 (Φ : St → Int64 → Prop) (st : St) (x1 : Int32) (x2 : Int32) (x3 : Int32) (x4 : Int32) (z0 : Int32) (z1 : Int64) (z2 : Int64) : Prop := w_X4_isIn z2 z1 (z0 - 1).toInt64 (fun (r28 : Int32) => ((r28 = 0) → w_X4_plan_b54 Φ st) ∧ ((¬ r28 = 0) → w_X4_isPart x4 (fun (r37 : Int32) => ((r37 ≠ 0) → w_X4_averages st x1 (fun (s47 : St) => ∀ s54, s54 = putI s47 175 20 0 → ((x2 ≠ 0) → vp_in x3 3 ∧ w_X4_plan_b90 Φ s54 x4 (sL s54 192 x3.toNatClampNeg)) ∧ ((x2 = 0) → vp_in x3 27 ∧ w_X4_plan_b90 Φ s54 x4 (sL s54 191 x3.toNatClampNeg)))) ∧ ((r37 = 0) → w_X4_plan_b54 Φ st))))
theorem t_X4_plan_b37 {θ : Th} {κ : Kx} {Ph : Ph} (hX : LX θ) {d : Nat} (hd : 6 ≤ d) (C : Cx θ κ yX4_plan cX4_plan 5 (some Jvm.ClassFile.FieldType.long) [] d) {Φ : St → Int64 → Prop} (hn : ∀ st r, Φ st r → Ph.1 st (some (.long r))) (st : St) (x1 : Int32) (x2 : Int32) (x3 : Int32) (x4 : Int32) (z0 : Int32) (z1 : Int64) (z2 : Int64) (h : w_X4_plan_b37 Φ st x1 x2 x3 x4 z0 z1 z2) : X θ κ Ph st 37 [(0, .ref (ad θ 175)), (1, .int x1), (2, .int x2), (3, .int x3), (4, .int x4)] [.int z0, .long z1, .long z2] := by
  unfold w_X4_plan_b37 at h
  refine X_iconst (v := 1) C dX4_plan_37 rfl ?_
  refine X_isub C dX4_plan_38 ?_
  refine X_i2l C dX4_plan_39 ?_
  refine X_callS (As := [_, _, _]) (rest := []) C q1936 q1937 q136 q1938 nm_X4_isIn rfl dX4_plan_40 (m_X4_isIn (Cx_l C) hX (d := d - 1) (by omega) st z2 z1 (z0 - 1).toInt64 h) (by omega) (by decide) (Nat.le_of_ble_eq_true rfl) (fun s34 w29 hE30 hP31 => ?_) (fun s35 E32 q33 hE30 hP31 => ?_)
  rotate_left
  · exact False.elim hP31
  obtain ⟨r28, rfl, rfl, h⟩ := hP31
  refine X_tls ?_
  refine X_if_eq (tgt := 54) C dX4_plan_43 (by decide) (fun c36 => ?_) (fun c36 => ?_)
  · have h := h.1 c36
    refine X_sub [0] (lo2 := [(0, _)]) rfl ?_
    exact t_X4_plan_b54 hX hd C hn st h
  · have h := h.2 c36
    refine X_iload C dX4_plan_46 4 rfl ?_
    refine X_callS (As := [_]) (rest := []) C q2030 q2031 q136 q2032 nm_X4_isPart rfl dX4_plan_48 (m_X4_isPart (Cx_l C) hX (d := d - 1) (by omega) st x4 h) (by omega) (by decide) (Nat.le_of_ble_eq_true rfl) (fun s43 w38 hE39 hP40 => ?_) (fun s44 E41 q42 hE39 hP40 => ?_)
    rotate_left
    · exact False.elim hP40
    obtain ⟨r37, rfl, rfl, h⟩ := hP40
    refine X_tls ?_
    refine X_if_ne (tgt := 60) C dX4_plan_51 (by decide) (fun c45 => ?_) (fun c45 => ?_)
    · have h := h.1 c45
      refine X_aload_n C dX4_plan_60 rfl 0 rfl (isRV_r _) ?_
      refine X_iload_n C dX4_plan_61 rfl 1 rfl ?_
      refine X_callVS (ci := 4) (q := (RX4, TX4, 54)) (As := [_]) (rest := []) C rfl (LX_S hX (k := 175) rfl) q2046 q2048 qs75 q136 q2049 ⟨rfl, nm_X4_averages⟩ rfl dX4_plan_62 (m_X4_averages (Cx_l C) hX (d := d - 1) (by omega) st x1 h) (by omega) (by decide) (Nat.le_of_ble_eq_true rfl) (fun s47 w48 hE49 hP50 => ?_) (fun s53 E51 q52 hE49 hP50 => ?_)
      rotate_left
      · exact False.elim hP50
      obtain ⟨rfl, h⟩ := hP50
      refine X_tln ?_
      refine X_aload_n C dX4_plan_65 rfl 0 rfl (isRV_r _) ?_
      refine X_iconst (v := 0) C dX4_plan_66 rfl ?_
      refine X_putSI (ci := 4) (j := 20) (q := (RX4, TX4, 54)) C rfl (by decide) q1786 rfl rfl dX4_plan_67 (LX_S hX (k := 175) rfl) rfl rfl rfl ?_
      refine X_nm (fun s54 e55 => ?_)
      have h := h s54 e55
      refine X_aload_n C dX4_plan_70 rfl 0 rfl (isRV_r _) ?_
      refine X_iload_n C dX4_plan_71 rfl 2 rfl ?_
      refine X_if_ne (tgt := 84) C dX4_plan_72 (by decide) (fun c56 => ?_) (fun c56 => ?_)
      · have h := h.1 c56
        refine X_aload_n C dX4_plan_84 rfl 0 rfl (isRV_r _) ?_
        refine X_getF (ci := 4) (j := 28) (q := (RX4, TX4, 54)) C rfl (by decide) q1794 rfl dX4_plan_85 (b := 192) (LX_S hX (k := 175) rfl) (LX_F hX (k := 175) (j := 28) rfl) rfl ?_
        refine X_iload_n C dX4_plan_88 rfl 3 rfl ?_
        have g57 := h.1
        have h := h.2
        refine X_laldS C (LX_S hX (k := 192) rfl) (LX_L hX (k := 192) rfl) g57 rfl dX4_plan_89 ?_
        refine X_sub [0, 4] (lo2 := [(0, _), (4, _)]) rfl ?_
        exact t_X4_plan_b90 hX hd C hn s54 x4 (sL s54 192 x3.toNatClampNeg) h
      · have h := h.2 c56
        refine X_aload_n C dX4_plan_75 rfl 0 rfl (isRV_r _) ?_
        refine X_getF (ci := 4) (j := 27) (q := (RX4, TX4, 54)) C rfl (by decide) q1793 rfl dX4_plan_76 (b := 191) (LX_S hX (k := 175) rfl) (LX_F hX (k := 175) (j := 27) rfl) rfl ?_
        refine X_iload_n C dX4_plan_79 rfl 3 rfl ?_
        have g67 := h.1
        have h := h.2
        refine X_laldS C (LX_S hX (k := 191) rfl) (LX_L hX (k := 191) rfl) g67 rfl dX4_plan_80 ?_
        refine X_goto (tgt := 90) C dX4_plan_81 (by decide) ?_
        refine X_sub [0, 4] (lo2 := [(0, _), (4, _)]) rfl ?_
        exact t_X4_plan_b90 hX hd C hn s54 x4 (sL s54 191 x3.toNatClampNeg) h
    · have h := h.2 c45
      refine X_sub [0] (lo2 := [(0, _)]) rfl ?_
      exact t_X4_plan_b54 hX hd C hn st h
def w_X4_plan (st : St) (p1 : Int32) (p2 : Int32) (p3 : Int32) (p4 : Int32) (Φ : St → Int64 → Prop) : Prop := w_X4_isPoint st p1 (fun (r1 : Int32) => ((r1 = 0) → w_X4_plan_b54 Φ st) ∧ ((¬ r1 = 0) → w_X4_isPart p2 (fun (r18 : Int32) => ((r18 = 0) → w_X4_plan_b54 Φ st) ∧ ((¬ r18 = 0) → ((p2 ≠ 0) → w_X4_plan_b37 Φ st p1 p2 p3 p4 (sI st 177 3) 0 p3.toInt64) ∧ ((p2 = 0) → w_X4_plan_b37 Φ st p1 p2 p3 p4 (sI st 177 2) 0 p3.toInt64)))))
theorem nm_X4_plan : yX4_plan.cls ≠ "java/lang/invoke/MethodHandle" ∧ yX4_plan.cls ≠ "java/lang/invoke/VarHandle" ∧ (parseMethodDescriptor yX4_plan.desc).map (fun d => d.parameters.length) = some 4 := by decide +kernel
theorem e_X4_plan : plainFor yX4_plan = true := plainFor_of_name (by decide +kernel)
theorem m_X4_plan {θ : Th} {l : Launch} (hl0 : l.stackTraces = false) (hX : LX θ) {d : Nat} (hd : 6 ≤ d) (st : St) (p1 : Int32) (p2 : Int32) (p3 : Int32) (p4 : Int32) {Φ : St → Int64 → Prop} (h : w_X4_plan st p1 p2 p3 p4 Φ) : Ct θ l yX4_plan (ws_ yX4_plan cX4_plan 5 (some Jvm.ClassFile.FieldType.long)) d [.ref (ad θ 175), .int p1, .int p2, .int p3, .int p4] st (pL Φ, noX) := by
  refine Ct_entry hl0 e_X4_plan (Nat.le_of_ble_eq_true rfl) (fun κ hκ _ C => ?_)
  have hn : ∀ st r, Φ st r → ((pL Φ, noX) : Ph).1 st (some (.long r)) := fun st r q => ⟨r, rfl, q⟩
  change X _ _ _ _ _ [(0, .ref (ad θ 175)), (1, .int p1), (2, .int p2), (3, .int p3), (4, .int p4)] _
  unfold w_X4_plan at h
  refine X_aload_n C dX4_plan_0 rfl 0 rfl (isRV_r _) ?_
  refine X_iload_n C dX4_plan_1 rfl 1 rfl ?_
  refine X_callVS (ci := 4) (q := (RX4, TX4, 54)) (As := [_]) (rest := []) C rfl (LX_S hX (k := 175) rfl) q1992 q1994 qs67 q136 q1995 ⟨rfl, nm_X4_isPoint⟩ rfl dX4_plan_2 (m_X4_isPoint (Cx_l C) hX (d := d - 1) (by omega) st p1 h) (by omega) (by decide) (Nat.le_of_ble_eq_true rfl) (fun s7 w2 hE3 hP4 => ?_) (fun s8 E5 q6 hE3 hP4 => ?_)
  rotate_left
  · exact False.elim hP4
  obtain ⟨r1, rfl, rfl, h⟩ := hP4
  refine X_tls ?_
  refine X_if_eq (tgt := 54) C dX4_plan_5 (by decide) (fun c9 => ?_) (fun c9 => ?_)
  · have h := h.1 c9
    refine X_sub [0] (lo2 := [(0, _)]) rfl ?_
    exact t_X4_plan_b54 hX hd C hn st h
  · have h := h.2 c9
    refine X_iload_n C dX4_plan_8 rfl 2 rfl ?_
    refine X_callS (As := [_]) (rest := []) C q2030 q2031 q136 q2032 nm_X4_isPart rfl dX4_plan_9 (m_X4_isPart (Cx_l C) hX (d := d - 1) (by omega) st p2 h) (by omega) (by decide) (Nat.le_of_ble_eq_true rfl) (fun s24 w19 hE20 hP21 => ?_) (fun s25 E22 q23 hE20 hP21 => ?_)
    rotate_left
    · exact False.elim hP21
    obtain ⟨r18, rfl, rfl, h⟩ := hP21
    refine X_tls ?_
    refine X_if_eq (tgt := 54) C dX4_plan_12 (by decide) (fun c26 => ?_) (fun c26 => ?_)
    · have h := h.1 c26
      refine X_sub [0] (lo2 := [(0, _)]) rfl ?_
      exact t_X4_plan_b54 hX hd C hn st h
    · have h := h.2 c26
      refine X_iload_n C dX4_plan_15 rfl 3 rfl ?_
      refine X_i2l C dX4_plan_16 ?_
      refine X_lconst (v := 0) C dX4_plan_17 rfl ?_
      refine X_iload_n C dX4_plan_18 rfl 2 rfl ?_
      refine X_if_ne (tgt := 31) C dX4_plan_19 (by decide) (fun c27 => ?_) (fun c27 => ?_)
      · have h := h.1 c27
        refine X_aload_n C dX4_plan_31 rfl 0 rfl (isRV_r _) ?_
        refine X_getF (ci := 4) (j := 1) (q := (RX4, TX4, 54)) C rfl (by decide) q1767 rfl dX4_plan_32 (b := 177) (LX_S hX (k := 175) rfl) (LX_F hX (k := 175) (j := 1) rfl) rfl ?_
        refine X_iconst (v := 3) C dX4_plan_35 rfl ?_
        refine X_ialdS C (LX_S hX (k := 177) rfl) (LX_L hX (k := 177) rfl) (vp_dec rfl) rfl dX4_plan_36 ?_
        exact t_X4_plan_b37 hX hd C hn st p1 p2 p3 p4 (sI st 177 3) 0 p3.toInt64 h
      · have h := h.2 c27
        refine X_aload_n C dX4_plan_22 rfl 0 rfl (isRV_r _) ?_
        refine X_getF (ci := 4) (j := 1) (q := (RX4, TX4, 54)) C rfl (by decide) q1767 rfl dX4_plan_23 (b := 177) (LX_S hX (k := 175) rfl) (LX_F hX (k := 175) (j := 1) rfl) rfl ?_
        refine X_iconst (v := 2) C dX4_plan_26 rfl ?_
        refine X_ialdS C (LX_S hX (k := 177) rfl) (LX_L hX (k := 177) rfl) (vp_dec rfl) rfl dX4_plan_27 ?_
        refine X_goto (tgt := 37) C dX4_plan_28 (by decide) ?_
        exact t_X4_plan_b37 hX hd C hn st p1 p2 p3 p4 (sI st 177 2) 0 p3.toInt64 h

def w_X4_part (st0 : St) (p1 : Int32) (p2 : Int32) (Φ : Int64 → Prop) : Prop := vp_in p1 3 ∧ w_X4_gives st0 (sI st0 197 p1.toNatClampNeg) p2 (fun (r2 : Int32) => Φ r2.toInt64)
theorem nm_X4_part : yX4_part.cls ≠ "java/lang/invoke/MethodHandle" ∧ yX4_part.cls ≠ "java/lang/invoke/VarHandle" ∧ (parseMethodDescriptor yX4_part.desc).map (fun d => d.parameters.length) = some 2 := by decide +kernel
theorem e_X4_part : plainFor yX4_part = true := plainFor_of_name (by decide +kernel)
theorem m_X4_part {θ : Th} {l : Launch} (hl0 : l.stackTraces = false) (hX : LX θ) {d : Nat} (hd : 1 ≤ d) (st0 : St) (p1 : Int32) (p2 : Int32) {Φ : Int64 → Prop} (h : w_X4_part st0 p1 p2 Φ) : Ct θ l yX4_part (ws_ yX4_part cX4_part 3 (some Jvm.ClassFile.FieldType.long)) d [.ref (ad θ 175), .int p1, .int p2] st0 (rL st0 Φ, noX) := by
  refine Ct_entry hl0 e_X4_part (Nat.le_of_ble_eq_true rfl) (fun κ hκ _ C => ?_)
  have hn : ∀ r, Φ r → ((rL st0 Φ, noX) : Ph).1 st0 (some (.long r)) := fun r q => ⟨r, rfl, rfl, q⟩
  change X _ _ _ _ _ [(0, .ref (ad θ 175)), (1, .int p1), (2, .int p2)] _
  unfold w_X4_part at h
  refine X_aload_n C dX4_part_0 rfl 0 rfl (isRV_r _) ?_
  refine X_aload_n C dX4_part_1 rfl 0 rfl (isRV_r _) ?_
  refine X_getF (ci := 4) (j := 35) (q := (RX4, TX4, 54)) C rfl (by decide) q1801 rfl dX4_part_2 (b := 197) (LX_S hX (k := 175) rfl) (LX_F hX (k := 175) (j := 35) rfl) rfl ?_
  refine X_iload_n C dX4_part_5 rfl 1 rfl ?_
  have g1 := h.1
  have h := h.2
  refine X_ialdS C (LX_S hX (k := 197) rfl) (LX_L hX (k := 197) rfl) g1 rfl dX4_part_6 ?_
  refine X_iload_n C dX4_part_7 rfl 2 rfl ?_
  refine X_callVS (ci := 4) (q := (RX4, TX4, 54)) (As := [_, _]) (rest := []) C rfl (LX_S hX (k := 175) rfl) q2014 q2016 qs70 q136 q2017 ⟨rfl, nm_X4_gives⟩ rfl dX4_part_8 (m_X4_gives (Cx_l C) hX (d := d - 1) (by omega) st0 (sI st0 197 p1.toNatClampNeg) p2 h) (by omega) (by decide) (Nat.le_of_ble_eq_true rfl) (fun s8 w3 hE4 hP5 => ?_) (fun s9 E6 q7 hE4 hP5 => ?_)
  rotate_left
  · exact False.elim hP5
  obtain ⟨r2, rfl, rfl, h⟩ := hP5
  refine X_tls ?_
  refine X_i2l C dX4_part_11 ?_
  exact X_lret C rfl dX4_part_12 (hn _ h)

def w_X4_turnsUp (st : St) (Φ : St → Prop) : Prop := ((0 ≤ (sL st 175 38)) → Φ st) ∧ ((¬ 0 ≤ (sL st 175 38)) → ∀ s2, s2 = putL st 175 38 (-(sL st 175 38)) → ∀ s4, s4 = putL s2 198 1 (-(sL s2 198 1)) → ∀ s6, s6 = putL s4 198 2 (-(sL s4 198 2)) → Φ s6)
theorem nm_X4_turnsUp : yX4_turnsUp.cls ≠ "java/lang/invoke/MethodHandle" ∧ yX4_turnsUp.cls ≠ "java/lang/invoke/VarHandle" ∧ (parseMethodDescriptor yX4_turnsUp.desc).map (fun d => d.parameters.length) = some 0 := by decide +kernel
theorem e_X4_turnsUp : plainFor yX4_turnsUp = true := plainFor_of_name (by decide +kernel)
theorem m_X4_turnsUp {θ : Th} {l : Launch} (hl0 : l.stackTraces = false) (hX : LX θ) {d : Nat} (hd : 0 ≤ d) (st : St) {Φ : St → Prop} (h : w_X4_turnsUp st Φ) : Ct θ l yX4_turnsUp (ws_ yX4_turnsUp cX4_turnsUp 1 (none : Option Jvm.ClassFile.FieldType)) d [.ref (ad θ 175)] st (pV Φ, noX) := by
  refine Ct_entry hl0 e_X4_turnsUp (Nat.le_of_ble_eq_true rfl) (fun κ hκ _ C => ?_)
  have hn : ∀ st, Φ st → ((pV Φ, noX) : Ph).1 st none := fun st q => ⟨rfl, q⟩
  change X _ _ _ _ _ [(0, .ref (ad θ 175))] _
  unfold w_X4_turnsUp at h
  refine X_aload_n C dX4_turnsUp_0 rfl 0 rfl (isRV_r _) ?_
  refine X_getS (ci := 4) (j := 38) (q := (RX4, TX4, 54)) C rfl (by decide) q1804 rfl dX4_turnsUp_1 (LX_S hX (k := 175) rfl) (v := .long (sL st 175 38)) rfl ?_
  refine X_lconst (v := 0) C dX4_turnsUp_4 rfl ?_
  refine X_lcmp_ge (tgt := 44) C dX4_turnsUp_5 dX4_turnsUp_6 (by decide) (fun c1 => ?_) (fun c1 => ?_)
  · have h := h.1 c1
    exact X_vret C rfl dX4_turnsUp_44 (hn st h)
  · have h := h.2 c1
    refine X_aload_n C dX4_turnsUp_9 rfl 0 rfl (isRV_r _) ?_
    refine X_aload_n C dX4_turnsUp_10 rfl 0 rfl (isRV_r _) ?_
    refine X_getS (ci := 4) (j := 38) (q := (RX4, TX4, 54)) C rfl (by decide) q1804 rfl dX4_turnsUp_11 (LX_S hX (k := 175) rfl) (v := .long (sL st 175 38)) rfl ?_
    refine X_lneg C dX4_turnsUp_14 ?_
    refine X_putSL (ci := 4) (j := 38) (q := (RX4, TX4, 54)) C rfl (by decide) q1804 rfl rfl dX4_turnsUp_15 (LX_S hX (k := 175) rfl) rfl ?_
    refine X_nm (fun s2 e3 => ?_)
    have h := h s2 e3
    refine X_aload_n C dX4_turnsUp_18 rfl 0 rfl (isRV_r _) ?_
    refine X_getF (ci := 4) (j := 37) (q := (RX4, TX4, 54)) C rfl (by decide) q1803 rfl dX4_turnsUp_19 (b := 198) (LX_S hX (k := 175) rfl) (LX_F hX (k := 175) (j := 37) rfl) rfl ?_
    refine X_iconst (v := 1) C dX4_turnsUp_22 rfl ?_
    refine X_aload_n C dX4_turnsUp_23 rfl 0 rfl (isRV_r _) ?_
    refine X_getF (ci := 4) (j := 37) (q := (RX4, TX4, 54)) C rfl (by decide) q1803 rfl dX4_turnsUp_24 (b := 198) (LX_S hX (k := 175) rfl) (LX_F hX (k := 175) (j := 37) rfl) rfl ?_
    refine X_iconst (v := 1) C dX4_turnsUp_27 rfl ?_
    refine X_laldS C (LX_S hX (k := 198) rfl) (LX_L hX (k := 198) rfl) (vp_dec rfl) rfl dX4_turnsUp_28 ?_
    refine X_lneg C dX4_turnsUp_29 ?_
    refine X_lastS C (LX_S hX (k := 198) rfl) (LX_L hX (k := 198) rfl) (vp_dec rfl) rfl dX4_turnsUp_30 ?_
    refine X_nm (fun s4 e5 => ?_)
    have h := h s4 e5
    refine X_aload_n C dX4_turnsUp_31 rfl 0 rfl (isRV_r _) ?_
    refine X_getF (ci := 4) (j := 37) (q := (RX4, TX4, 54)) C rfl (by decide) q1803 rfl dX4_turnsUp_32 (b := 198) (LX_S hX (k := 175) rfl) (LX_F hX (k := 175) (j := 37) rfl) rfl ?_
    refine X_iconst (v := 2) C dX4_turnsUp_35 rfl ?_
    refine X_aload_n C dX4_turnsUp_36 rfl 0 rfl (isRV_r _) ?_
    refine X_getF (ci := 4) (j := 37) (q := (RX4, TX4, 54)) C rfl (by decide) q1803 rfl dX4_turnsUp_37 (b := 198) (LX_S hX (k := 175) rfl) (LX_F hX (k := 175) (j := 37) rfl) rfl ?_
    refine X_iconst (v := 2) C dX4_turnsUp_40 rfl ?_
    refine X_laldS C (LX_S hX (k := 198) rfl) (LX_L hX (k := 198) rfl) (vp_dec rfl) rfl dX4_turnsUp_41 ?_
    refine X_lneg C dX4_turnsUp_42 ?_
    refine X_lastS C (LX_S hX (k := 198) rfl) (LX_L hX (k := 198) rfl) (vp_dec rfl) rfl dX4_turnsUp_43 ?_
    refine X_nm (fun s6 e7 => ?_)
    have h := h s6 e7
    exact X_vret C rfl dX4_turnsUp_44 (hn s6 h)

def w_X4_weighsTwo_l2 (Φ : St → Int32 → Prop) (E34 : St → Int32 → Int32 → Prop) : Nat → St → Int32 → Int32 → Prop
  | 0, _, _, _ => False
  | n + 1, st, x1, x2 => (((sI st 177 0) ≤ x2) → E34 st x1 x2) ∧ ((¬ (sI st 177 0) ≤ x2) → w_X4_part st 1 x2 (fun (r2 : Int64) => w_X4_part st 0 x2 (fun (r10 : Int64) => ((r2 ≠ r10) → E34 st x1 x2) ∧ ((r2 = r10) → w_X4_weighsTwo_l2 Φ E34 n st x1 (x2 + 1)))))
theorem t_X4_weighsTwo_l2 {θ : Th} {κ : Kx} {Ph : Ph} (hX : LX θ) {d : Nat} (hd : 2 ≤ d) (C : Cx θ κ yX4_weighsTwo cX4_weighsTwo 4 (some Jvm.ClassFile.FieldType.boolean) [] d) {Φ : St → Int32 → Prop} (hn : ∀ st r, Φ st r → Ph.1 st (some (.int r))) {E34 : St → Int32 → Int32 → Prop} (hE34 : ∀ (st : St) (x1 : Int32) (x2 : Int32), E34 st x1 x2 → X θ κ Ph st 34 [(0, .ref (ad θ 175)), (1, .int x1), (2, .int x2)] []) : ∀ (n : Nat) (st : St) (x1 : Int32) (x2 : Int32), w_X4_weighsTwo_l2 Φ E34 n st x1 x2 → X θ κ Ph st 2 [(0, .ref (ad θ 175)), (1, .int x1), (2, .int x2)] [] := by
  intro n
  induction n with
  | zero => intro st x1 x2 h; exact h.elim
  | succ n hK2 =>
    intro st x1 x2 h
    rw [w_X4_weighsTwo_l2] at h
    refine X_iload_n C dX4_weighsTwo_2 rfl 2 rfl ?_
    refine X_aload_n C dX4_weighsTwo_3 rfl 0 rfl (isRV_r _) ?_
    refine X_getF (ci := 4) (j := 1) (q := (RX4, TX4, 54)) C rfl (by decide) q1767 rfl dX4_weighsTwo_4 (b := 177) (LX_S hX (k := 175) rfl) (LX_F hX (k := 175) (j := 1) rfl) rfl ?_
    refine X_iconst (v := 0) C dX4_weighsTwo_7 rfl ?_
    refine X_ialdS C (LX_S hX (k := 177) rfl) (LX_L hX (k := 177) rfl) (vp_dec rfl) rfl dX4_weighsTwo_8 ?_
    refine X_icmp_ge (tgt := 34) C dX4_weighsTwo_9 (by decide) (fun c1 => ?_) (fun c1 => ?_)
    · have h := h.1 c1
      exact hE34 st x1 x2 h
    · have h := h.2 c1
      refine X_aload_n C dX4_weighsTwo_12 rfl 0 rfl (isRV_r _) ?_
      refine X_iconst (v := 1) C dX4_weighsTwo_13 rfl ?_
      refine X_iload_n C dX4_weighsTwo_14 rfl 2 rfl ?_
      refine X_callVS (ci := 4) (q := (RX4, TX4, 54)) (As := [_, _]) (rest := []) C rfl (LX_S hX (k := 175) rfl) q2124 q2126 qs89 q136 q2127 ⟨rfl, nm_X4_part⟩ rfl dX4_weighsTwo_15 (m_X4_part (Cx_l C) hX (d := d - 1) (by omega) st 1 x2 h) (by omega) (by decide) (Nat.le_of_ble_eq_true rfl) (fun s8 w3 hE4 hP5 => ?_) (fun s9 E6 q7 hE4 hP5 => ?_)
      rotate_left
      · exact False.elim hP5
      obtain ⟨r2, rfl, rfl, h⟩ := hP5
      refine X_tls ?_
      refine X_aload_n C dX4_weighsTwo_18 rfl 0 rfl (isRV_r _) ?_
      refine X_iconst (v := 0) C dX4_weighsTwo_19 rfl ?_
      refine X_iload_n C dX4_weighsTwo_20 rfl 2 rfl ?_
      refine X_callVS (ci := 4) (q := (RX4, TX4, 54)) (As := [_, _]) (rest := [_]) C rfl (LX_S hX (k := 175) rfl) q2124 q2126 qs89 q136 q2127 ⟨rfl, nm_X4_part⟩ rfl dX4_weighsTwo_21 (m_X4_part (Cx_l C) hX (d := d - 1) (by omega) st 0 x2 h) (by omega) (by decide) (Nat.le_of_ble_eq_true rfl) (fun s16 w11 hE12 hP13 => ?_) (fun s17 E14 q15 hE12 hP13 => ?_)
      rotate_left
      · exact False.elim hP13
      obtain ⟨r10, rfl, rfl, h⟩ := hP13
      refine X_tls ?_
      refine X_lcmp_ne (tgt := 34) C dX4_weighsTwo_24 dX4_weighsTwo_25 (by decide) (fun c18 => ?_) (fun c18 => ?_)
      · have h := h.1 c18
        exact hE34 st x1 x2 h
      · have h := h.2 c18
        refine X_iinc (v := (x2 + 1)) C (j := 2) dX4_weighsTwo_28 rfl rfl (lo2 := [(2, _), (0, _), (1, _)]) (by decide) rfl ?_
        refine X_goto (tgt := 2) C dX4_weighsTwo_31 (by decide) ?_
        refine X_sub [1, 2, 0] (lo2 := [(0, _), (1, _), (2, _)]) rfl ?_
        exact hK2 st x1 (x2 + 1) h
def w_X4_weighsTwo_l113 (Φ : St → Int32 → Prop) (E166 : St → Prop) (E174 : St → Prop) : Nat → St → Int32 → Int32 → Prop
  | 0, _, _, _ => False
  | n + 1, st, x1, x3 => (((sI st 177 0) ≤ x3) → E174 st) ∧ ((¬ (sI st 177 0) ≤ x3) → w_X4_part st 0 x3 (fun (r70 : Int64) => w_X4_part st 1 x3 (fun (r78 : Int64) => w_X4_gives st x1 x3 (fun (r86 : Int32) => (((((sL st 198 0) * r70) + ((sL st 198 1) * r78)) = ((sL st 175 38) * r86.toInt64)) → w_X4_weighsTwo_l113 Φ E166 E174 n st x1 (x3 + 1)) ∧ ((¬ (((sL st 198 0) * r70) + ((sL st 198 1) * r78)) = ((sL st 175 38) * r86.toInt64)) → E166 st)))))
theorem t_X4_weighsTwo_l113 {θ : Th} {κ : Kx} {Ph : Ph} (hX : LX θ) {d : Nat} (hd : 2 ≤ d) (C : Cx θ κ yX4_weighsTwo cX4_weighsTwo 4 (some Jvm.ClassFile.FieldType.boolean) [] d) {Φ : St → Int32 → Prop} (hn : ∀ st r, Φ st r → Ph.1 st (some (.int r))) {E166 : St → Prop} {E174 : St → Prop} (hE166 : ∀ (st : St), E166 st → X θ κ Ph st 166 [] []) (hE174 : ∀ (st : St), E174 st → X θ κ Ph st 174 [] []) : ∀ (n : Nat) (st : St) (x1 : Int32) (x3 : Int32), w_X4_weighsTwo_l113 Φ E166 E174 n st x1 x3 → X θ κ Ph st 113 [(0, .ref (ad θ 175)), (1, .int x1), (3, .int x3)] [] := by
  intro n
  induction n with
  | zero => intro st x1 x3 h; exact h.elim
  | succ n hK113 =>
    intro st x1 x3 h
    rw [w_X4_weighsTwo_l113] at h
    refine X_iload_n C dX4_weighsTwo_113 rfl 2 rfl ?_
    refine X_aload_n C dX4_weighsTwo_114 rfl 0 rfl (isRV_r _) ?_
    refine X_getF (ci := 4) (j := 1) (q := (RX4, TX4, 54)) C rfl (by decide) q1767 rfl dX4_weighsTwo_115 (b := 177) (LX_S hX (k := 175) rfl) (LX_F hX (k := 175) (j := 1) rfl) rfl ?_
    refine X_iconst (v := 0) C dX4_weighsTwo_118 rfl ?_
    refine X_ialdS C (LX_S hX (k := 177) rfl) (LX_L hX (k := 177) rfl) (vp_dec rfl) rfl dX4_weighsTwo_119 ?_
    refine X_icmp_ge (tgt := 174) C dX4_weighsTwo_120 (by decide) (fun c69 => ?_) (fun c69 => ?_)
    · have h := h.1 c69
      refine X_sub [] (lo2 := []) rfl ?_
      exact hE174 st h
    · have h := h.2 c69
      refine X_aload_n C dX4_weighsTwo_123 rfl 0 rfl (isRV_r _) ?_
      refine X_getF (ci := 4) (j := 37) (q := (RX4, TX4, 54)) C rfl (by decide) q1803 rfl dX4_weighsTwo_124 (b := 198) (LX_S hX (k := 175) rfl) (LX_F hX (k := 175) (j := 37) rfl) rfl ?_
      refine X_iconst (v := 0) C dX4_weighsTwo_127 rfl ?_
      refine X_laldS C (LX_S hX (k := 198) rfl) (LX_L hX (k := 198) rfl) (vp_dec rfl) rfl dX4_weighsTwo_128 ?_
      refine X_aload_n C dX4_weighsTwo_129 rfl 0 rfl (isRV_r _) ?_
      refine X_iconst (v := 0) C dX4_weighsTwo_130 rfl ?_
      refine X_iload_n C dX4_weighsTwo_131 rfl 2 rfl ?_
      refine X_callVS (ci := 4) (q := (RX4, TX4, 54)) (As := [_, _]) (rest := [_]) C rfl (LX_S hX (k := 175) rfl) q2124 q2126 qs89 q136 q2127 ⟨rfl, nm_X4_part⟩ rfl dX4_weighsTwo_132 (m_X4_part (Cx_l C) hX (d := d - 1) (by omega) st 0 x3 h) (by omega) (by decide) (Nat.le_of_ble_eq_true rfl) (fun s76 w71 hE72 hP73 => ?_) (fun s77 E74 q75 hE72 hP73 => ?_)
      rotate_left
      · exact False.elim hP73
      obtain ⟨r70, rfl, rfl, h⟩ := hP73
      refine X_tls ?_
      refine X_lmul C dX4_weighsTwo_135 ?_
      refine X_aload_n C dX4_weighsTwo_136 rfl 0 rfl (isRV_r _) ?_
      refine X_getF (ci := 4) (j := 37) (q := (RX4, TX4, 54)) C rfl (by decide) q1803 rfl dX4_weighsTwo_137 (b := 198) (LX_S hX (k := 175) rfl) (LX_F hX (k := 175) (j := 37) rfl) rfl ?_
      refine X_iconst (v := 1) C dX4_weighsTwo_140 rfl ?_
      refine X_laldS C (LX_S hX (k := 198) rfl) (LX_L hX (k := 198) rfl) (vp_dec rfl) rfl dX4_weighsTwo_141 ?_
      refine X_aload_n C dX4_weighsTwo_142 rfl 0 rfl (isRV_r _) ?_
      refine X_iconst (v := 1) C dX4_weighsTwo_143 rfl ?_
      refine X_iload_n C dX4_weighsTwo_144 rfl 2 rfl ?_
      refine X_callVS (ci := 4) (q := (RX4, TX4, 54)) (As := [_, _]) (rest := [_, _]) C rfl (LX_S hX (k := 175) rfl) q2124 q2126 qs89 q136 q2127 ⟨rfl, nm_X4_part⟩ rfl dX4_weighsTwo_145 (m_X4_part (Cx_l C) hX (d := d - 1) (by omega) st 1 x3 h) (by omega) (by decide) (Nat.le_of_ble_eq_true rfl) (fun s84 w79 hE80 hP81 => ?_) (fun s85 E82 q83 hE80 hP81 => ?_)
      rotate_left
      · exact False.elim hP81
      obtain ⟨r78, rfl, rfl, h⟩ := hP81
      refine X_tls ?_
      refine X_lmul C dX4_weighsTwo_148 ?_
      refine X_ladd C dX4_weighsTwo_149 ?_
      refine X_aload_n C dX4_weighsTwo_150 rfl 0 rfl (isRV_r _) ?_
      refine X_getS (ci := 4) (j := 38) (q := (RX4, TX4, 54)) C rfl (by decide) q1804 rfl dX4_weighsTwo_151 (LX_S hX (k := 175) rfl) (v := .long (sL st 175 38)) rfl ?_
      refine X_aload_n C dX4_weighsTwo_154 rfl 0 rfl (isRV_r _) ?_
      refine X_iload_n C dX4_weighsTwo_155 rfl 1 rfl ?_
      refine X_iload_n C dX4_weighsTwo_156 rfl 2 rfl ?_
      refine X_callVS (ci := 4) (q := (RX4, TX4, 54)) (As := [_, _]) (rest := [_, _]) C rfl (LX_S hX (k := 175) rfl) q2014 q2016 qs70 q136 q2017 ⟨rfl, nm_X4_gives⟩ rfl dX4_weighsTwo_157 (m_X4_gives (Cx_l C) hX (d := d - 1) (by omega) st x1 x3 h) (by omega) (by decide) (Nat.le_of_ble_eq_true rfl) (fun s92 w87 hE88 hP89 => ?_) (fun s93 E90 q91 hE88 hP89 => ?_)
      rotate_left
      · exact False.elim hP89
      obtain ⟨r86, rfl, rfl, h⟩ := hP89
      refine X_tls ?_
      refine X_i2l C dX4_weighsTwo_160 ?_
      refine X_lmul C dX4_weighsTwo_161 ?_
      refine X_lcmp_eq (tgt := 168) C dX4_weighsTwo_162 dX4_weighsTwo_163 (by decide) (fun c94 => ?_) (fun c94 => ?_)
      · have h := h.1 c94
        refine X_iinc (v := (x3 + 1)) C (j := 2) dX4_weighsTwo_168 rfl rfl (lo2 := [(3, _), (0, _), (1, _)]) (by decide) rfl ?_
        refine X_goto (tgt := 113) C dX4_weighsTwo_171 (by decide) ?_
        refine X_sub [1, 2, 0] (lo2 := [(0, _), (1, _), (3, _)]) rfl ?_
        exact hK113 st x1 (x3 + 1) h
      · have h := h.2 c94
        refine X_sub [] (lo2 := []) rfl ?_
        exact hE166 st h
def w_X4_weighsTwo_b166 (Φ : St → Int32 → Prop) (st : St) : Prop := Φ st 0
theorem t_X4_weighsTwo_b166 {θ : Th} {κ : Kx} {Ph : Ph} (hX : LX θ) {d : Nat} (hd : 2 ≤ d) (C : Cx θ κ yX4_weighsTwo cX4_weighsTwo 4 (some Jvm.ClassFile.FieldType.boolean) [] d) {Φ : St → Int32 → Prop} (hn : ∀ st r, Φ st r → Ph.1 st (some (.int r))) (st : St) (h : w_X4_weighsTwo_b166 Φ st) : X θ κ Ph st 166 [] [] := by
  unfold w_X4_weighsTwo_b166 at h
  refine X_iconst (v := 0) C dX4_weighsTwo_166 rfl ?_
  exact X_zret C rfl rfl dX4_weighsTwo_167 (hn st _ h)
def w_X4_weighsTwo_b174 (Φ : St → Int32 → Prop) (st : St) : Prop := Φ st 1
theorem t_X4_weighsTwo_b174 {θ : Th} {κ : Kx} {Ph : Ph} (hX : LX θ) {d : Nat} (hd : 2 ≤ d) (C : Cx θ κ yX4_weighsTwo cX4_weighsTwo 4 (some Jvm.ClassFile.FieldType.boolean) [] d) {Φ : St → Int32 → Prop} (hn : ∀ st r, Φ st r → Ph.1 st (some (.int r))) (st : St) (h : w_X4_weighsTwo_b174 Φ st) : X θ κ Ph st 174 [] [] := by
  unfold w_X4_weighsTwo_b174 at h
  refine X_iconst (v := 1) C dX4_weighsTwo_174 rfl ?_
  exact X_zret C rfl rfl dX4_weighsTwo_175 (hn st _ h)
def w_X4_weighsTwo_b34 (Φ : St → Int32 → Prop) (st : St) (x1 : Int32) (x2 : Int32) : Prop := ((x2 ≠ (sI st 177 0)) → w_X4_part st 1 x2 (fun (r21 : Int64) => w_X4_part st 0 x2 (fun (r29 : Int64) => ∀ s37, s37 = putL st 175 38 (r21 - r29) → w_X4_gives s37 x1 x2 (fun (r39 : Int32) => w_X4_part s37 0 x2 (fun (r47 : Int64) => ∀ s55, s55 = putL s37 198 1 (r39.toInt64 - r47) → ∀ s57, s57 = putL s55 198 2 0 → w_X4_turnsUp s57 (fun (s60 : St) => ∀ s67, s67 = putL s60 198 0 ((sL s60 175 38) - (sL s60 198 1)) → w_X4_weighsTwo_l113 Φ (fun (s95 : St) => w_X4_weighsTwo_b166 Φ s95) (fun (s96 : St) => w_X4_weighsTwo_b174 Φ s96) gFU s67 x1 0)))))) ∧ ((x2 = (sI st 177 0)) → Φ st 0)
theorem t_X4_weighsTwo_b34 {θ : Th} {κ : Kx} {Ph : Ph} (hX : LX θ) {d : Nat} (hd : 2 ≤ d) (C : Cx θ κ yX4_weighsTwo cX4_weighsTwo 4 (some Jvm.ClassFile.FieldType.boolean) [] d) {Φ : St → Int32 → Prop} (hn : ∀ st r, Φ st r → Ph.1 st (some (.int r))) (st : St) (x1 : Int32) (x2 : Int32) (h : w_X4_weighsTwo_b34 Φ st x1 x2) : X θ κ Ph st 34 [(0, .ref (ad θ 175)), (1, .int x1), (2, .int x2)] [] := by
  unfold w_X4_weighsTwo_b34 at h
  refine X_iload_n C dX4_weighsTwo_34 rfl 2 rfl ?_
  refine X_aload_n C dX4_weighsTwo_35 rfl 0 rfl (isRV_r _) ?_
  refine X_getF (ci := 4) (j := 1) (q := (RX4, TX4, 54)) C rfl (by decide) q1767 rfl dX4_weighsTwo_36 (b := 177) (LX_S hX (k := 175) rfl) (LX_F hX (k := 175) (j := 1) rfl) rfl ?_
  refine X_iconst (v := 0) C dX4_weighsTwo_39 rfl ?_
  refine X_ialdS C (LX_S hX (k := 177) rfl) (LX_L hX (k := 177) rfl) (vp_dec rfl) rfl dX4_weighsTwo_40 ?_
  refine X_icmp_ne (tgt := 46) C dX4_weighsTwo_41 (by decide) (fun c20 => ?_) (fun c20 => ?_)
  · have h := h.1 c20
    refine X_aload_n C dX4_weighsTwo_46 rfl 0 rfl (isRV_r _) ?_
    refine X_aload_n C dX4_weighsTwo_47 rfl 0 rfl (isRV_r _) ?_
    refine X_iconst (v := 1) C dX4_weighsTwo_48 rfl ?_
    refine X_iload_n C dX4_weighsTwo_49 rfl 2 rfl ?_
    refine X_callVS (ci := 4) (q := (RX4, TX4, 54)) (As := [_, _]) (rest := [_]) C rfl (LX_S hX (k := 175) rfl) q2124 q2126 qs89 q136 q2127 ⟨rfl, nm_X4_part⟩ rfl dX4_weighsTwo_50 (m_X4_part (Cx_l C) hX (d := d - 1) (by omega) st 1 x2 h) (by omega) (by decide) (Nat.le_of_ble_eq_true rfl) (fun s27 w22 hE23 hP24 => ?_) (fun s28 E25 q26 hE23 hP24 => ?_)
    rotate_left
    · exact False.elim hP24
    obtain ⟨r21, rfl, rfl, h⟩ := hP24
    refine X_tls ?_
    refine X_aload_n C dX4_weighsTwo_53 rfl 0 rfl (isRV_r _) ?_
    refine X_iconst (v := 0) C dX4_weighsTwo_54 rfl ?_
    refine X_iload_n C dX4_weighsTwo_55 rfl 2 rfl ?_
    refine X_callVS (ci := 4) (q := (RX4, TX4, 54)) (As := [_, _]) (rest := [_, _]) C rfl (LX_S hX (k := 175) rfl) q2124 q2126 qs89 q136 q2127 ⟨rfl, nm_X4_part⟩ rfl dX4_weighsTwo_56 (m_X4_part (Cx_l C) hX (d := d - 1) (by omega) st 0 x2 h) (by omega) (by decide) (Nat.le_of_ble_eq_true rfl) (fun s35 w30 hE31 hP32 => ?_) (fun s36 E33 q34 hE31 hP32 => ?_)
    rotate_left
    · exact False.elim hP32
    obtain ⟨r29, rfl, rfl, h⟩ := hP32
    refine X_tls ?_
    refine X_lsub C dX4_weighsTwo_59 ?_
    refine X_putSL (ci := 4) (j := 38) (q := (RX4, TX4, 54)) C rfl (by decide) q1804 rfl rfl dX4_weighsTwo_60 (LX_S hX (k := 175) rfl) rfl ?_
    refine X_nm (fun s37 e38 => ?_)
    have h := h s37 e38
    refine X_aload_n C dX4_weighsTwo_63 rfl 0 rfl (isRV_r _) ?_
    refine X_getF (ci := 4) (j := 37) (q := (RX4, TX4, 54)) C rfl (by decide) q1803 rfl dX4_weighsTwo_64 (b := 198) (LX_S hX (k := 175) rfl) (LX_F hX (k := 175) (j := 37) rfl) rfl ?_
    refine X_iconst (v := 1) C dX4_weighsTwo_67 rfl ?_
    refine X_aload_n C dX4_weighsTwo_68 rfl 0 rfl (isRV_r _) ?_
    refine X_iload_n C dX4_weighsTwo_69 rfl 1 rfl ?_
    refine X_iload_n C dX4_weighsTwo_70 rfl 2 rfl ?_
    refine X_callVS (ci := 4) (q := (RX4, TX4, 54)) (As := [_, _]) (rest := [_, _]) C rfl (LX_S hX (k := 175) rfl) q2014 q2016 qs70 q136 q2017 ⟨rfl, nm_X4_gives⟩ rfl dX4_weighsTwo_71 (m_X4_gives (Cx_l C) hX (d := d - 1) (by omega) s37 x1 x2 h) (by omega) (by decide) (Nat.le_of_ble_eq_true rfl) (fun s45 w40 hE41 hP42 => ?_) (fun s46 E43 q44 hE41 hP42 => ?_)
    rotate_left
    · exact False.elim hP42
    obtain ⟨r39, rfl, rfl, h⟩ := hP42
    refine X_tls ?_
    refine X_i2l C dX4_weighsTwo_74 ?_
    refine X_aload_n C dX4_weighsTwo_75 rfl 0 rfl (isRV_r _) ?_
    refine X_iconst (v := 0) C dX4_weighsTwo_76 rfl ?_
    refine X_iload_n C dX4_weighsTwo_77 rfl 2 rfl ?_
    refine X_callVS (ci := 4) (q := (RX4, TX4, 54)) (As := [_, _]) (rest := [_, _, _]) C rfl (LX_S hX (k := 175) rfl) q2124 q2126 qs89 q136 q2127 ⟨rfl, nm_X4_part⟩ rfl dX4_weighsTwo_78 (m_X4_part (Cx_l C) hX (d := d - 1) (by omega) s37 0 x2 h) (by omega) (by decide) (Nat.le_of_ble_eq_true rfl) (fun s53 w48 hE49 hP50 => ?_) (fun s54 E51 q52 hE49 hP50 => ?_)
    rotate_left
    · exact False.elim hP50
    obtain ⟨r47, rfl, rfl, h⟩ := hP50
    refine X_tls ?_
    refine X_lsub C dX4_weighsTwo_81 ?_
    refine X_lastS C (LX_S hX (k := 198) rfl) (LX_L hX (k := 198) rfl) (vp_dec rfl) rfl dX4_weighsTwo_82 ?_
    refine X_nm (fun s55 e56 => ?_)
    have h := h s55 e56
    refine X_aload_n C dX4_weighsTwo_83 rfl 0 rfl (isRV_r _) ?_
    refine X_getF (ci := 4) (j := 37) (q := (RX4, TX4, 54)) C rfl (by decide) q1803 rfl dX4_weighsTwo_84 (b := 198) (LX_S hX (k := 175) rfl) (LX_F hX (k := 175) (j := 37) rfl) rfl ?_
    refine X_iconst (v := 2) C dX4_weighsTwo_87 rfl ?_
    refine X_lconst (v := 0) C dX4_weighsTwo_88 rfl ?_
    refine X_lastS C (LX_S hX (k := 198) rfl) (LX_L hX (k := 198) rfl) (vp_dec rfl) rfl dX4_weighsTwo_89 ?_
    refine X_nm (fun s57 e58 => ?_)
    have h := h s57 e58
    refine X_aload_n C dX4_weighsTwo_90 rfl 0 rfl (isRV_r _) ?_
    refine X_callVS (ci := 4) (q := (RX4, TX4, 54)) (As := []) (rest := []) C rfl (LX_S hX (k := 175) rfl) q2128 q2130 qs90 q136 q2131 ⟨rfl, nm_X4_turnsUp⟩ rfl dX4_weighsTwo_91 (m_X4_turnsUp (Cx_l C) hX (d := d - 1) (by omega) s57 h) (by omega) (by decide) (Nat.le_of_ble_eq_true rfl) (fun s60 w61 hE62 hP63 => ?_) (fun s66 E64 q65 hE62 hP63 => ?_)
    rotate_left
    · exact False.elim hP63
    obtain ⟨rfl, h⟩ := hP63
    refine X_tln ?_
    refine X_aload_n C dX4_weighsTwo_94 rfl 0 rfl (isRV_r _) ?_
    refine X_getF (ci := 4) (j := 37) (q := (RX4, TX4, 54)) C rfl (by decide) q1803 rfl dX4_weighsTwo_95 (b := 198) (LX_S hX (k := 175) rfl) (LX_F hX (k := 175) (j := 37) rfl) rfl ?_
    refine X_iconst (v := 0) C dX4_weighsTwo_98 rfl ?_
    refine X_aload_n C dX4_weighsTwo_99 rfl 0 rfl (isRV_r _) ?_
    refine X_getS (ci := 4) (j := 38) (q := (RX4, TX4, 54)) C rfl (by decide) q1804 rfl dX4_weighsTwo_100 (LX_S hX (k := 175) rfl) (v := .long (sL s60 175 38)) rfl ?_
    refine X_aload_n C dX4_weighsTwo_103 rfl 0 rfl (isRV_r _) ?_
    refine X_getF (ci := 4) (j := 37) (q := (RX4, TX4, 54)) C rfl (by decide) q1803 rfl dX4_weighsTwo_104 (b := 198) (LX_S hX (k := 175) rfl) (LX_F hX (k := 175) (j := 37) rfl) rfl ?_
    refine X_iconst (v := 1) C dX4_weighsTwo_107 rfl ?_
    refine X_laldS C (LX_S hX (k := 198) rfl) (LX_L hX (k := 198) rfl) (vp_dec rfl) rfl dX4_weighsTwo_108 ?_
    refine X_lsub C dX4_weighsTwo_109 ?_
    refine X_lastS C (LX_S hX (k := 198) rfl) (LX_L hX (k := 198) rfl) (vp_dec rfl) rfl dX4_weighsTwo_110 ?_
    refine X_nm (fun s67 e68 => ?_)
    have h := h s67 e68
    refine X_iconst (v := 0) C dX4_weighsTwo_111 rfl ?_
    refine X_istore_n C dX4_weighsTwo_112 rfl (lo2 := [(3, _), (0, _), (1, _), (2, _)]) (by decide) rfl ?_
    refine X_sub [1, 2, 0] (lo2 := [(0, _), (1, _), (3, _)]) rfl ?_
    refine t_X4_weighsTwo_l113 hX hd C hn ?_ ?_ gFU s67 x1 0 h
    · intro s95 h
      exact t_X4_weighsTwo_b166 hX hd C hn s95 h
    · intro s96 h
      exact t_X4_weighsTwo_b174 hX hd C hn s96 h
  · have h := h.2 c20
    refine X_iconst (v := 0) C dX4_weighsTwo_44 rfl ?_
    exact X_zret C rfl rfl dX4_weighsTwo_45 (hn st _ h)
def w_X4_weighsTwo (st : St) (p1 : Int32) (Φ : St → Int32 → Prop) : Prop := w_X4_weighsTwo_l2 Φ (fun (s19 : St) (x1 : Int32) (x2 : Int32) => w_X4_weighsTwo_b34 Φ s19 x1 x2) gFU st p1 0
theorem nm_X4_weighsTwo : yX4_weighsTwo.cls ≠ "java/lang/invoke/MethodHandle" ∧ yX4_weighsTwo.cls ≠ "java/lang/invoke/VarHandle" ∧ (parseMethodDescriptor yX4_weighsTwo.desc).map (fun d => d.parameters.length) = some 1 := by decide +kernel
theorem e_X4_weighsTwo : plainFor yX4_weighsTwo = true := plainFor_of_name (by decide +kernel)
theorem m_X4_weighsTwo {θ : Th} {l : Launch} (hl0 : l.stackTraces = false) (hX : LX θ) {d : Nat} (hd : 2 ≤ d) (st : St) (p1 : Int32) {Φ : St → Int32 → Prop} (h : w_X4_weighsTwo st p1 Φ) : Ct θ l yX4_weighsTwo (ws_ yX4_weighsTwo cX4_weighsTwo 4 (some Jvm.ClassFile.FieldType.boolean)) d [.ref (ad θ 175), .int p1] st (pI Φ, noX) := by
  refine Ct_entry hl0 e_X4_weighsTwo (Nat.le_of_ble_eq_true rfl) (fun κ hκ _ C => ?_)
  have hn : ∀ st r, Φ st r → ((pI Φ, noX) : Ph).1 st (some (.int r)) := fun st r q => ⟨r, rfl, q⟩
  change X _ _ _ _ _ [(0, .ref (ad θ 175)), (1, .int p1)] _
  unfold w_X4_weighsTwo at h
  refine X_iconst (v := 0) C dX4_weighsTwo_0 rfl ?_
  refine X_istore_n C dX4_weighsTwo_1 rfl (lo2 := [(2, _), (0, _), (1, _)]) (by decide) rfl ?_
  refine X_sub [1, 2, 0] (lo2 := [(0, _), (1, _), (2, _)]) rfl ?_
  refine t_X4_weighsTwo_l2 hX hd C hn ?_ gFU st p1 0 h
  · intro s19 x1 x2 h
    exact t_X4_weighsTwo_b34 hX hd C hn s19 x1 x2 h

def w_X4_weighs (st : St) (p1 : Int32) (Φ : St → Int32 → Prop) : Prop := (((sI st 175 36) ≠ 1) → (((sI st 175 36) ≠ 2) → w_X4_part st 1 0 (fun (r3 : Int64) => w_X4_part st 0 0 (fun (r11 : Int64) => ∀ v19 : Int64, v19 = (r3 - r11) → w_X4_part st 1 1 (fun (r21 : Int64) => w_X4_part st 0 1 (fun (r29 : Int64) => ∀ v37 : Int64, v37 = (r21 - r29) → w_X4_part st 2 0 (fun (r39 : Int64) => w_X4_part st 0 0 (fun (r47 : Int64) => ∀ v55 : Int64, v55 = (r39 - r47) → w_X4_part st 2 1 (fun (r57 : Int64) => w_X4_part st 0 1 (fun (r65 : Int64) => ∀ v73 : Int64, v73 = (r57 - r65) → w_X4_gives st p1 0 (fun (r75 : Int32) => w_X4_part st 0 0 (fun (r83 : Int64) => ∀ v91 : Int64, v91 = (r75.toInt64 - r83) → w_X4_gives st p1 1 (fun (r93 : Int32) => w_X4_part st 0 1 (fun (r101 : Int64) => ∀ v109 : Int64, v109 = (r93.toInt64 - r101) → ∀ s111, s111 = putL st 175 38 ((v19 * v73) - (v37 * v55)) → ∀ s113, s113 = putL s111 198 1 ((v91 * v73) - (v109 * v55)) → ∀ s115, s115 = putL s113 198 2 ((v19 * v109) - (v37 * v91)) → (((sL s115 175 38) ≠ 0) → w_X4_turnsUp s115 (fun (s119 : St) => ∀ s126, s126 = putL s119 198 0 (((sL s119 175 38) - (sL s119 198 1)) - (sL s119 198 2)) → Φ s126 1)) ∧ (((sL s115 175 38) = 0) → Φ s115 0)))))))))))))) ∧ (((sI st 175 36) = 2) → w_X4_weighsTwo st p1 (fun (s129 : St) (r128 : Int32) => (r128 = 0 ∨ r128 = 1) ∧ Φ s129 r128))) ∧ (((sI st 175 36) = 1) → ∀ s137, s137 = putL st 175 38 1 → ∀ s139, s139 = putL s137 198 0 1 → (((sI s139 197 0) ≠ p1) → Φ s139 0) ∧ (((sI s139 197 0) = p1) → Φ s139 1))
theorem nm_X4_weighs : yX4_weighs.cls ≠ "java/lang/invoke/MethodHandle" ∧ yX4_weighs.cls ≠ "java/lang/invoke/VarHandle" ∧ (parseMethodDescriptor yX4_weighs.desc).map (fun d => d.parameters.length) = some 1 := by decide +kernel
theorem e_X4_weighs : plainFor yX4_weighs = true := plainFor_of_name (by decide +kernel)
theorem m_X4_weighs {θ : Th} {l : Launch} (hl0 : l.stackTraces = false) (hX : LX θ) {d : Nat} (hd : 3 ≤ d) (st : St) (p1 : Int32) {Φ : St → Int32 → Prop} (h : w_X4_weighs st p1 Φ) : Ct θ l yX4_weighs (ws_ yX4_weighs cX4_weighs 14 (some Jvm.ClassFile.FieldType.boolean)) d [.ref (ad θ 175), .int p1] st (pI Φ, noX) := by
  refine Ct_entry hl0 e_X4_weighs (Nat.le_of_ble_eq_true rfl) (fun κ hκ _ C => ?_)
  have hn : ∀ st r, Φ st r → ((pI Φ, noX) : Ph).1 st (some (.int r)) := fun st r q => ⟨r, rfl, q⟩
  change X _ _ _ _ _ [(0, .ref (ad θ 175)), (1, .int p1)] _
  unfold w_X4_weighs at h
  refine X_aload_n C dX4_weighs_0 rfl 0 rfl (isRV_r _) ?_
  refine X_getS (ci := 4) (j := 36) (q := (RX4, TX4, 54)) C rfl (by decide) q1802 rfl dX4_weighs_1 (LX_S hX (k := 175) rfl) (v := .int (sI st 175 36)) rfl ?_
  refine X_iconst (v := 1) C dX4_weighs_4 rfl ?_
  refine X_icmp_ne (tgt := 36) C dX4_weighs_5 (by decide) (fun c1 => ?_) (fun c1 => ?_)
  · have h := h.1 c1
    refine X_aload_n C dX4_weighs_36 rfl 0 rfl (isRV_r _) ?_
    refine X_getS (ci := 4) (j := 36) (q := (RX4, TX4, 54)) C rfl (by decide) q1802 rfl dX4_weighs_37 (LX_S hX (k := 175) rfl) (v := .int (sI st 175 36)) rfl ?_
    refine X_iconst (v := 2) C dX4_weighs_40 rfl ?_
    refine X_icmp_ne (tgt := 50) C dX4_weighs_41 (by decide) (fun c2 => ?_) (fun c2 => ?_)
    · have h := h.1 c2
      refine X_aload_n C dX4_weighs_50 rfl 0 rfl (isRV_r _) ?_
      refine X_iconst (v := 1) C dX4_weighs_51 rfl ?_
      refine X_iconst (v := 0) C dX4_weighs_52 rfl ?_
      refine X_callVS (ci := 4) (q := (RX4, TX4, 54)) (As := [_, _]) (rest := []) C rfl (LX_S hX (k := 175) rfl) q2124 q2126 qs89 q136 q2127 ⟨rfl, nm_X4_part⟩ rfl dX4_weighs_53 (m_X4_part (Cx_l C) hX (d := d - 1) (by omega) st 1 0 h) (by omega) (by decide) (Nat.le_of_ble_eq_true rfl) (fun s9 w4 hE5 hP6 => ?_) (fun s10 E7 q8 hE5 hP6 => ?_)
      rotate_left
      · exact False.elim hP6
      obtain ⟨r3, rfl, rfl, h⟩ := hP6
      refine X_tls ?_
      refine X_aload_n C dX4_weighs_56 rfl 0 rfl (isRV_r _) ?_
      refine X_iconst (v := 0) C dX4_weighs_57 rfl ?_
      refine X_iconst (v := 0) C dX4_weighs_58 rfl ?_
      refine X_callVS (ci := 4) (q := (RX4, TX4, 54)) (As := [_, _]) (rest := [_]) C rfl (LX_S hX (k := 175) rfl) q2124 q2126 qs89 q136 q2127 ⟨rfl, nm_X4_part⟩ rfl dX4_weighs_59 (m_X4_part (Cx_l C) hX (d := d - 1) (by omega) st 0 0 h) (by omega) (by decide) (Nat.le_of_ble_eq_true rfl) (fun s17 w12 hE13 hP14 => ?_) (fun s18 E15 q16 hE13 hP14 => ?_)
      rotate_left
      · exact False.elim hP14
      obtain ⟨r11, rfl, rfl, h⟩ := hP14
      refine X_tls ?_
      refine X_lsub C dX4_weighs_62 ?_
      refine X_topl (fun v19 e20 => ?_)
      have h := h v19 e20
      refine X_lstore_n C dX4_weighs_63 rfl (lo2 := [(2, _), (0, _), (1, _)]) (by decide) rfl ?_
      refine X_aload_n C dX4_weighs_64 rfl 1 rfl (isRV_r _) ?_
      refine X_iconst (v := 1) C dX4_weighs_65 rfl ?_
      refine X_iconst (v := 1) C dX4_weighs_66 rfl ?_
      refine X_callVS (ci := 4) (q := (RX4, TX4, 54)) (As := [_, _]) (rest := []) C rfl (LX_S hX (k := 175) rfl) q2124 q2126 qs89 q136 q2127 ⟨rfl, nm_X4_part⟩ rfl dX4_weighs_67 (m_X4_part (Cx_l C) hX (d := d - 1) (by omega) st 1 1 h) (by omega) (by decide) (Nat.le_of_ble_eq_true rfl) (fun s27 w22 hE23 hP24 => ?_) (fun s28 E25 q26 hE23 hP24 => ?_)
      rotate_left
      · exact False.elim hP24
      obtain ⟨r21, rfl, rfl, h⟩ := hP24
      refine X_tls ?_
      refine X_aload_n C dX4_weighs_70 rfl 1 rfl (isRV_r _) ?_
      refine X_iconst (v := 0) C dX4_weighs_71 rfl ?_
      refine X_iconst (v := 1) C dX4_weighs_72 rfl ?_
      refine X_callVS (ci := 4) (q := (RX4, TX4, 54)) (As := [_, _]) (rest := [_]) C rfl (LX_S hX (k := 175) rfl) q2124 q2126 qs89 q136 q2127 ⟨rfl, nm_X4_part⟩ rfl dX4_weighs_73 (m_X4_part (Cx_l C) hX (d := d - 1) (by omega) st 0 1 h) (by omega) (by decide) (Nat.le_of_ble_eq_true rfl) (fun s35 w30 hE31 hP32 => ?_) (fun s36 E33 q34 hE31 hP32 => ?_)
      rotate_left
      · exact False.elim hP32
      obtain ⟨r29, rfl, rfl, h⟩ := hP32
      refine X_tls ?_
      refine X_lsub C dX4_weighs_76 ?_
      refine X_topl (fun v37 e38 => ?_)
      have h := h v37 e38
      refine X_lstore C dX4_weighs_77 (lo2 := [(4, _), (2, _), (0, _), (1, _)]) (by decide) rfl ?_
      refine X_aload_n C dX4_weighs_79 rfl 2 rfl (isRV_r _) ?_
      refine X_iconst (v := 2) C dX4_weighs_80 rfl ?_
      refine X_iconst (v := 0) C dX4_weighs_81 rfl ?_
      refine X_callVS (ci := 4) (q := (RX4, TX4, 54)) (As := [_, _]) (rest := []) C rfl (LX_S hX (k := 175) rfl) q2124 q2126 qs89 q136 q2127 ⟨rfl, nm_X4_part⟩ rfl dX4_weighs_82 (m_X4_part (Cx_l C) hX (d := d - 1) (by omega) st 2 0 h) (by omega) (by decide) (Nat.le_of_ble_eq_true rfl) (fun s45 w40 hE41 hP42 => ?_) (fun s46 E43 q44 hE41 hP42 => ?_)
      rotate_left
      · exact False.elim hP42
      obtain ⟨r39, rfl, rfl, h⟩ := hP42
      refine X_tls ?_
      refine X_aload_n C dX4_weighs_85 rfl 2 rfl (isRV_r _) ?_
      refine X_iconst (v := 0) C dX4_weighs_86 rfl ?_
      refine X_iconst (v := 0) C dX4_weighs_87 rfl ?_
      refine X_callVS (ci := 4) (q := (RX4, TX4, 54)) (As := [_, _]) (rest := [_]) C rfl (LX_S hX (k := 175) rfl) q2124 q2126 qs89 q136 q2127 ⟨rfl, nm_X4_part⟩ rfl dX4_weighs_88 (m_X4_part (Cx_l C) hX (d := d - 1) (by omega) st 0 0 h) (by omega) (by decide) (Nat.le_of_ble_eq_true rfl) (fun s53 w48 hE49 hP50 => ?_) (fun s54 E51 q52 hE49 hP50 => ?_)
      rotate_left
      · exact False.elim hP50
      obtain ⟨r47, rfl, rfl, h⟩ := hP50
      refine X_tls ?_
      refine X_lsub C dX4_weighs_91 ?_
      refine X_topl (fun v55 e56 => ?_)
      have h := h v55 e56
      refine X_lstore C dX4_weighs_92 (lo2 := [(6, _), (4, _), (2, _), (0, _), (1, _)]) (by decide) rfl ?_
      refine X_aload_n C dX4_weighs_94 rfl 3 rfl (isRV_r _) ?_
      refine X_iconst (v := 2) C dX4_weighs_95 rfl ?_
      refine X_iconst (v := 1) C dX4_weighs_96 rfl ?_
      refine X_callVS (ci := 4) (q := (RX4, TX4, 54)) (As := [_, _]) (rest := []) C rfl (LX_S hX (k := 175) rfl) q2124 q2126 qs89 q136 q2127 ⟨rfl, nm_X4_part⟩ rfl dX4_weighs_97 (m_X4_part (Cx_l C) hX (d := d - 1) (by omega) st 2 1 h) (by omega) (by decide) (Nat.le_of_ble_eq_true rfl) (fun s63 w58 hE59 hP60 => ?_) (fun s64 E61 q62 hE59 hP60 => ?_)
      rotate_left
      · exact False.elim hP60
      obtain ⟨r57, rfl, rfl, h⟩ := hP60
      refine X_tls ?_
      refine X_aload_n C dX4_weighs_100 rfl 3 rfl (isRV_r _) ?_
      refine X_iconst (v := 0) C dX4_weighs_101 rfl ?_
      refine X_iconst (v := 1) C dX4_weighs_102 rfl ?_
      refine X_callVS (ci := 4) (q := (RX4, TX4, 54)) (As := [_, _]) (rest := [_]) C rfl (LX_S hX (k := 175) rfl) q2124 q2126 qs89 q136 q2127 ⟨rfl, nm_X4_part⟩ rfl dX4_weighs_103 (m_X4_part (Cx_l C) hX (d := d - 1) (by omega) st 0 1 h) (by omega) (by decide) (Nat.le_of_ble_eq_true rfl) (fun s71 w66 hE67 hP68 => ?_) (fun s72 E69 q70 hE67 hP68 => ?_)
      rotate_left
      · exact False.elim hP68
      obtain ⟨r65, rfl, rfl, h⟩ := hP68
      refine X_tls ?_
      refine X_lsub C dX4_weighs_106 ?_
      refine X_topl (fun v73 e74 => ?_)
      have h := h v73 e74
      refine X_lstore C dX4_weighs_107 (lo2 := [(8, _), (6, _), (4, _), (2, _), (0, _), (1, _)]) (by decide) rfl ?_
      refine X_aload_n C dX4_weighs_109 rfl 4 rfl (isRV_r _) ?_
      refine X_iload_n C dX4_weighs_110 rfl 5 rfl ?_
      refine X_iconst (v := 0) C dX4_weighs_111 rfl ?_
      refine X_callVS (ci := 4) (q := (RX4, TX4, 54)) (As := [_, _]) (rest := []) C rfl (LX_S hX (k := 175) rfl) q2014 q2016 qs70 q136 q2017 ⟨rfl, nm_X4_gives⟩ rfl dX4_weighs_112 (m_X4_gives (Cx_l C) hX (d := d - 1) (by omega) st p1 0 h) (by omega) (by decide) (Nat.le_of_ble_eq_true rfl) (fun s81 w76 hE77 hP78 => ?_) (fun s82 E79 q80 hE77 hP78 => ?_)
      rotate_left
      · exact False.elim hP78
      obtain ⟨r75, rfl, rfl, h⟩ := hP78
      refine X_tls ?_
      refine X_i2l C dX4_weighs_115 ?_
      refine X_aload_n C dX4_weighs_116 rfl 4 rfl (isRV_r _) ?_
      refine X_iconst (v := 0) C dX4_weighs_117 rfl ?_
      refine X_iconst (v := 0) C dX4_weighs_118 rfl ?_
      refine X_callVS (ci := 4) (q := (RX4, TX4, 54)) (As := [_, _]) (rest := [_]) C rfl (LX_S hX (k := 175) rfl) q2124 q2126 qs89 q136 q2127 ⟨rfl, nm_X4_part⟩ rfl dX4_weighs_119 (m_X4_part (Cx_l C) hX (d := d - 1) (by omega) st 0 0 h) (by omega) (by decide) (Nat.le_of_ble_eq_true rfl) (fun s89 w84 hE85 hP86 => ?_) (fun s90 E87 q88 hE85 hP86 => ?_)
      rotate_left
      · exact False.elim hP86
      obtain ⟨r83, rfl, rfl, h⟩ := hP86
      refine X_tls ?_
      refine X_lsub C dX4_weighs_122 ?_
      refine X_topl (fun v91 e92 => ?_)
      have h := h v91 e92
      refine X_lstore C dX4_weighs_123 (lo2 := [(10, _), (8, _), (6, _), (4, _), (2, _), (0, _), (1, _)]) (by decide) rfl ?_
      refine X_aload_n C dX4_weighs_125 rfl 5 rfl (isRV_r _) ?_
      refine X_iload_n C dX4_weighs_126 rfl 6 rfl ?_
      refine X_iconst (v := 1) C dX4_weighs_127 rfl ?_
      refine X_callVS (ci := 4) (q := (RX4, TX4, 54)) (As := [_, _]) (rest := []) C rfl (LX_S hX (k := 175) rfl) q2014 q2016 qs70 q136 q2017 ⟨rfl, nm_X4_gives⟩ rfl dX4_weighs_128 (m_X4_gives (Cx_l C) hX (d := d - 1) (by omega) st p1 1 h) (by omega) (by decide) (Nat.le_of_ble_eq_true rfl) (fun s99 w94 hE95 hP96 => ?_) (fun s100 E97 q98 hE95 hP96 => ?_)
      rotate_left
      · exact False.elim hP96
      obtain ⟨r93, rfl, rfl, h⟩ := hP96
      refine X_tls ?_
      refine X_i2l C dX4_weighs_131 ?_
      refine X_aload_n C dX4_weighs_132 rfl 5 rfl (isRV_r _) ?_
      refine X_iconst (v := 0) C dX4_weighs_133 rfl ?_
      refine X_iconst (v := 1) C dX4_weighs_134 rfl ?_
      refine X_callVS (ci := 4) (q := (RX4, TX4, 54)) (As := [_, _]) (rest := [_]) C rfl (LX_S hX (k := 175) rfl) q2124 q2126 qs89 q136 q2127 ⟨rfl, nm_X4_part⟩ rfl dX4_weighs_135 (m_X4_part (Cx_l C) hX (d := d - 1) (by omega) st 0 1 h) (by omega) (by decide) (Nat.le_of_ble_eq_true rfl) (fun s107 w102 hE103 hP104 => ?_) (fun s108 E105 q106 hE103 hP104 => ?_)
      rotate_left
      · exact False.elim hP104
      obtain ⟨r101, rfl, rfl, h⟩ := hP104
      refine X_tls ?_
      refine X_lsub C dX4_weighs_138 ?_
      refine X_topl (fun v109 e110 => ?_)
      have h := h v109 e110
      refine X_lstore C dX4_weighs_139 (lo2 := [(12, _), (10, _), (8, _), (6, _), (4, _), (2, _), (0, _), (1, _)]) (by decide) rfl ?_
      refine X_aload_n C dX4_weighs_141 rfl 6 rfl (isRV_r _) ?_
      refine X_lload_n C dX4_weighs_142 rfl 5 rfl ?_
      refine X_lload C dX4_weighs_143 2 rfl ?_
      refine X_lmul C dX4_weighs_145 ?_
      refine X_lload C dX4_weighs_146 4 rfl ?_
      refine X_lload C dX4_weighs_148 3 rfl ?_
      refine X_lmul C dX4_weighs_150 ?_
      refine X_lsub C dX4_weighs_151 ?_
      refine X_putSL (ci := 4) (j := 38) (q := (RX4, TX4, 54)) C rfl (by decide) q1804 rfl rfl dX4_weighs_152 (LX_S hX (k := 175) rfl) rfl ?_
      refine X_nm (fun s111 e112 => ?_)
      have h := h s111 e112
      refine X_aload_n C dX4_weighs_155 rfl 6 rfl (isRV_r _) ?_
      refine X_getF (ci := 4) (j := 37) (q := (RX4, TX4, 54)) C rfl (by decide) q1803 rfl dX4_weighs_156 (b := 198) (LX_S hX (k := 175) rfl) (LX_F hX (k := 175) (j := 37) rfl) rfl ?_
      refine X_iconst (v := 1) C dX4_weighs_159 rfl ?_
      refine X_lload C dX4_weighs_160 1 rfl ?_
      refine X_lload C dX4_weighs_162 2 rfl ?_
      refine X_lmul C dX4_weighs_164 ?_
      refine X_lload C dX4_weighs_165 0 rfl ?_
      refine X_lload C dX4_weighs_167 3 rfl ?_
      refine X_lmul C dX4_weighs_169 ?_
      refine X_lsub C dX4_weighs_170 ?_
      refine X_lastS C (LX_S hX (k := 198) rfl) (LX_L hX (k := 198) rfl) (vp_dec rfl) rfl dX4_weighs_171 ?_
      refine X_nm (fun s113 e114 => ?_)
      have h := h s113 e114
      refine X_aload_n C dX4_weighs_172 rfl 6 rfl (isRV_r _) ?_
      refine X_getF (ci := 4) (j := 37) (q := (RX4, TX4, 54)) C rfl (by decide) q1803 rfl dX4_weighs_173 (b := 198) (LX_S hX (k := 175) rfl) (LX_F hX (k := 175) (j := 37) rfl) rfl ?_
      refine X_iconst (v := 2) C dX4_weighs_176 rfl ?_
      refine X_lload_n C dX4_weighs_177 rfl 5 rfl ?_
      refine X_lload C dX4_weighs_178 0 rfl ?_
      refine X_lmul C dX4_weighs_180 ?_
      refine X_lload C dX4_weighs_181 4 rfl ?_
      refine X_lload C dX4_weighs_183 1 rfl ?_
      refine X_lmul C dX4_weighs_185 ?_
      refine X_lsub C dX4_weighs_186 ?_
      refine X_lastS C (LX_S hX (k := 198) rfl) (LX_L hX (k := 198) rfl) (vp_dec rfl) rfl dX4_weighs_187 ?_
      refine X_nm (fun s115 e116 => ?_)
      have h := h s115 e116
      refine X_aload_n C dX4_weighs_188 rfl 6 rfl (isRV_r _) ?_
      refine X_getS (ci := 4) (j := 38) (q := (RX4, TX4, 54)) C rfl (by decide) q1804 rfl dX4_weighs_189 (LX_S hX (k := 175) rfl) (v := .long (sL s115 175 38)) rfl ?_
      refine X_lconst (v := 0) C dX4_weighs_192 rfl ?_
      refine X_lcmp_ne (tgt := 199) C dX4_weighs_193 dX4_weighs_194 (by decide) (fun c117 => ?_) (fun c117 => ?_)
      · have h := h.1 c117
        refine X_aload_n C dX4_weighs_199 rfl 6 rfl (isRV_r _) ?_
        refine X_callVS (ci := 4) (q := (RX4, TX4, 54)) (As := []) (rest := []) C rfl (LX_S hX (k := 175) rfl) q2128 q2130 qs90 q136 q2131 ⟨rfl, nm_X4_turnsUp⟩ rfl dX4_weighs_200 (m_X4_turnsUp (Cx_l C) hX (d := d - 1) (by omega) s115 h) (by omega) (by decide) (Nat.le_of_ble_eq_true rfl) (fun s119 w120 hE121 hP122 => ?_) (fun s125 E123 q124 hE121 hP122 => ?_)
        rotate_left
        · exact False.elim hP122
        obtain ⟨rfl, h⟩ := hP122
        refine X_tln ?_
        refine X_aload_n C dX4_weighs_203 rfl 6 rfl (isRV_r _) ?_
        refine X_getF (ci := 4) (j := 37) (q := (RX4, TX4, 54)) C rfl (by decide) q1803 rfl dX4_weighs_204 (b := 198) (LX_S hX (k := 175) rfl) (LX_F hX (k := 175) (j := 37) rfl) rfl ?_
        refine X_iconst (v := 0) C dX4_weighs_207 rfl ?_
        refine X_aload_n C dX4_weighs_208 rfl 6 rfl (isRV_r _) ?_
        refine X_getS (ci := 4) (j := 38) (q := (RX4, TX4, 54)) C rfl (by decide) q1804 rfl dX4_weighs_209 (LX_S hX (k := 175) rfl) (v := .long (sL s119 175 38)) rfl ?_
        refine X_aload_n C dX4_weighs_212 rfl 6 rfl (isRV_r _) ?_
        refine X_getF (ci := 4) (j := 37) (q := (RX4, TX4, 54)) C rfl (by decide) q1803 rfl dX4_weighs_213 (b := 198) (LX_S hX (k := 175) rfl) (LX_F hX (k := 175) (j := 37) rfl) rfl ?_
        refine X_iconst (v := 1) C dX4_weighs_216 rfl ?_
        refine X_laldS C (LX_S hX (k := 198) rfl) (LX_L hX (k := 198) rfl) (vp_dec rfl) rfl dX4_weighs_217 ?_
        refine X_lsub C dX4_weighs_218 ?_
        refine X_aload_n C dX4_weighs_219 rfl 6 rfl (isRV_r _) ?_
        refine X_getF (ci := 4) (j := 37) (q := (RX4, TX4, 54)) C rfl (by decide) q1803 rfl dX4_weighs_220 (b := 198) (LX_S hX (k := 175) rfl) (LX_F hX (k := 175) (j := 37) rfl) rfl ?_
        refine X_iconst (v := 2) C dX4_weighs_223 rfl ?_
        refine X_laldS C (LX_S hX (k := 198) rfl) (LX_L hX (k := 198) rfl) (vp_dec rfl) rfl dX4_weighs_224 ?_
        refine X_lsub C dX4_weighs_225 ?_
        refine X_lastS C (LX_S hX (k := 198) rfl) (LX_L hX (k := 198) rfl) (vp_dec rfl) rfl dX4_weighs_226 ?_
        refine X_nm (fun s126 e127 => ?_)
        have h := h s126 e127
        refine X_iconst (v := 1) C dX4_weighs_227 rfl ?_
        exact X_zret C rfl rfl dX4_weighs_228 (hn s126 _ h)
      · have h := h.2 c117
        refine X_iconst (v := 0) C dX4_weighs_197 rfl ?_
        exact X_zret C rfl rfl dX4_weighs_198 (hn s115 _ h)
    · have h := h.2 c2
      refine X_aload_n C dX4_weighs_44 rfl 0 rfl (isRV_r _) ?_
      refine X_iload_n C dX4_weighs_45 rfl 1 rfl ?_
      refine X_callVS (ci := 4) (q := (RX4, TX4, 54)) (As := [_]) (rest := []) C rfl (LX_S hX (k := 175) rfl) q2120 q2122 qs88 q136 q2123 ⟨rfl, nm_X4_weighsTwo⟩ rfl dX4_weighs_46 (m_X4_weighsTwo (Cx_l C) hX (d := d - 1) (by omega) st p1 h) (by omega) (by decide) (Nat.le_of_ble_eq_true rfl) (fun s129 w130 hE131 hP132 => ?_) (fun s135 E133 q134 hE131 hP132 => ?_)
      rotate_left
      · exact False.elim hP132
      obtain ⟨r128, rfl, h⟩ := hP132
      refine X_tls ?_
      have g136 := h.1
      have h := h.2
      exact X_zret C rfl (nb_01 g136).1 dX4_weighs_49 (hn s129 _ h)
  · have h := h.2 c1
    refine X_aload_n C dX4_weighs_8 rfl 0 rfl (isRV_r _) ?_
    refine X_lconst (v := 1) C dX4_weighs_9 rfl ?_
    refine X_putSL (ci := 4) (j := 38) (q := (RX4, TX4, 54)) C rfl (by decide) q1804 rfl rfl dX4_weighs_10 (LX_S hX (k := 175) rfl) rfl ?_
    refine X_nm (fun s137 e138 => ?_)
    have h := h s137 e138
    refine X_aload_n C dX4_weighs_13 rfl 0 rfl (isRV_r _) ?_
    refine X_getF (ci := 4) (j := 37) (q := (RX4, TX4, 54)) C rfl (by decide) q1803 rfl dX4_weighs_14 (b := 198) (LX_S hX (k := 175) rfl) (LX_F hX (k := 175) (j := 37) rfl) rfl ?_
    refine X_iconst (v := 0) C dX4_weighs_17 rfl ?_
    refine X_lconst (v := 1) C dX4_weighs_18 rfl ?_
    refine X_lastS C (LX_S hX (k := 198) rfl) (LX_L hX (k := 198) rfl) (vp_dec rfl) rfl dX4_weighs_19 ?_
    refine X_nm (fun s139 e140 => ?_)
    have h := h s139 e140
    refine X_aload_n C dX4_weighs_20 rfl 0 rfl (isRV_r _) ?_
    refine X_getF (ci := 4) (j := 35) (q := (RX4, TX4, 54)) C rfl (by decide) q1801 rfl dX4_weighs_21 (b := 197) (LX_S hX (k := 175) rfl) (LX_F hX (k := 175) (j := 35) rfl) rfl ?_
    refine X_iconst (v := 0) C dX4_weighs_24 rfl ?_
    refine X_ialdS C (LX_S hX (k := 197) rfl) (LX_L hX (k := 197) rfl) (vp_dec rfl) rfl dX4_weighs_25 ?_
    refine X_iload_n C dX4_weighs_26 rfl 1 rfl ?_
    refine X_icmp_ne (tgt := 34) C dX4_weighs_27 (by decide) (fun c141 => ?_) (fun c141 => ?_)
    · have h := h.1 c141
      refine X_iconst (v := 0) C dX4_weighs_34 rfl ?_
      exact X_zret C rfl rfl dX4_weighs_35 (hn s139 _ h)
    · have h := h.2 c141
      refine X_iconst (v := 1) C dX4_weighs_30 rfl ?_
      refine X_goto (tgt := 35) C dX4_weighs_31 (by decide) ?_
      exact X_zret C rfl rfl dX4_weighs_35 (hn s139 _ h)

def w_X4_areAbove_b35 (Φ : Int32 → Prop) (K5 : St → Int64 → Int32 → Int32 → Prop) (st0 : St) (x1 : Int64) (x4 : Int32) (z0 : Int32) : Prop := K5 st0 x1 z0 (x4 + 1)
theorem t_X4_areAbove_b35 {θ : Th} {κ : Kx} {Ph : Ph} (hX : LX θ) {st0 : St} {d : Nat} (hd : 0 ≤ d) (C : Cx θ κ yX4_areAbove cX4_areAbove 5 (some Jvm.ClassFile.FieldType.boolean) [] d) {Φ : Int32 → Prop} (hn : ∀ r, Φ r → Ph.1 st0 (some (.int r))) {K5 : St → Int64 → Int32 → Int32 → Prop} (hK5 : ∀ (x1 : Int64) (x3 : Int32) (x4 : Int32), K5 st0 x1 x3 x4 → X θ κ Ph st0 5 [(0, .ref (ad θ 175)), (1, .long x1), (3, .int x3), (4, .int x4)] []) (x1 : Int64) (x4 : Int32) (z0 : Int32) (h : w_X4_areAbove_b35 Φ K5 st0 x1 x4 z0) : X θ κ Ph st0 35 [(0, .ref (ad θ 175)), (1, .long x1), (4, .int x4)] [.int z0] := by
  unfold w_X4_areAbove_b35 at h
  refine X_istore_n C dX4_areAbove_35 rfl (lo2 := [(3, _), (0, _), (1, _), (4, _)]) (by decide) rfl ?_
  refine X_iinc (v := (x4 + 1)) C (j := 3) dX4_areAbove_36 rfl rfl (lo2 := [(4, _), (3, _), (0, _), (1, _)]) (by decide) rfl ?_
  refine X_goto (tgt := 5) C dX4_areAbove_39 (by decide) ?_
  refine X_sub [2, 3, 1, 0] (lo2 := [(0, _), (1, _), (3, _), (4, _)]) rfl ?_
  exact hK5 x1 z0 (x4 + 1) h
def w_X4_areAbove_b34 (Φ : Int32 → Prop) (K5 : St → Int64 → Int32 → Int32 → Prop) (st0 : St) (x1 : Int64) (x4 : Int32) : Prop := w_X4_areAbove_b35 Φ K5 st0 x1 x4 0
theorem t_X4_areAbove_b34 {θ : Th} {κ : Kx} {Ph : Ph} (hX : LX θ) {st0 : St} {d : Nat} (hd : 0 ≤ d) (C : Cx θ κ yX4_areAbove cX4_areAbove 5 (some Jvm.ClassFile.FieldType.boolean) [] d) {Φ : Int32 → Prop} (hn : ∀ r, Φ r → Ph.1 st0 (some (.int r))) {K5 : St → Int64 → Int32 → Int32 → Prop} (hK5 : ∀ (x1 : Int64) (x3 : Int32) (x4 : Int32), K5 st0 x1 x3 x4 → X θ κ Ph st0 5 [(0, .ref (ad θ 175)), (1, .long x1), (3, .int x3), (4, .int x4)] []) (x1 : Int64) (x4 : Int32) (h : w_X4_areAbove_b34 Φ K5 st0 x1 x4) : X θ κ Ph st0 34 [(0, .ref (ad θ 175)), (1, .long x1), (4, .int x4)] [] := by
  unfold w_X4_areAbove_b34 at h
  refine X_iconst (v := 0) C dX4_areAbove_34 rfl ?_
  exact t_X4_areAbove_b35 hX hd C hn hK5 x1 x4 0 h
def w_X4_areAbove_l5 (Φ : Int32 → Prop) (E42 : St → Int32 → Prop) : Nat → St → Int64 → Int32 → Int32 → Prop
  | 0, _, _, _, _ => False
  | n + 1, st0, x1, x3, x4 => (((sI st0 175 36) ≤ x4) → E42 st0 x3) ∧ ((¬ (sI st0 175 36) ≤ x4) → ((x3 = 0) → w_X4_areAbove_b34 Φ (w_X4_areAbove_l5 Φ E42 n) st0 x1 x4) ∧ ((¬ x3 = 0) → vp_in x4 3 ∧ (((sL st0 198 x4.toNatClampNeg) < x1) → w_X4_areAbove_b34 Φ (w_X4_areAbove_l5 Φ E42 n) st0 x1 x4) ∧ ((¬ (sL st0 198 x4.toNatClampNeg) < x1) → w_X4_areAbove_b35 Φ (w_X4_areAbove_l5 Φ E42 n) st0 x1 x4 1)))
theorem t_X4_areAbove_l5 {θ : Th} {κ : Kx} {Ph : Ph} (hX : LX θ) {st0 : St} {d : Nat} (hd : 0 ≤ d) (C : Cx θ κ yX4_areAbove cX4_areAbove 5 (some Jvm.ClassFile.FieldType.boolean) [] d) {Φ : Int32 → Prop} (hn : ∀ r, Φ r → Ph.1 st0 (some (.int r))) {E42 : St → Int32 → Prop} (hE42 : ∀ (x3 : Int32), E42 st0 x3 → X θ κ Ph st0 42 [(3, .int x3)] []) : ∀ (n : Nat) (x1 : Int64) (x3 : Int32) (x4 : Int32), w_X4_areAbove_l5 Φ E42 n st0 x1 x3 x4 → X θ κ Ph st0 5 [(0, .ref (ad θ 175)), (1, .long x1), (3, .int x3), (4, .int x4)] [] := by
  intro n
  induction n with
  | zero => intro x1 x3 x4 h; exact h.elim
  | succ n hK5 =>
    intro x1 x3 x4 h
    rw [w_X4_areAbove_l5] at h
    refine X_iload C dX4_areAbove_5 3 rfl ?_
    refine X_aload_n C dX4_areAbove_7 rfl 0 rfl (isRV_r _) ?_
    refine X_getS (ci := 4) (j := 36) (q := (RX4, TX4, 54)) C rfl (by decide) q1802 rfl dX4_areAbove_8 (LX_S hX (k := 175) rfl) (v := .int (sI st0 175 36)) rfl ?_
    refine X_icmp_ge (tgt := 42) C dX4_areAbove_11 (by decide) (fun c1 => ?_) (fun c1 => ?_)
    · have h := h.1 c1
      refine X_sub [2] (lo2 := [(3, _)]) rfl ?_
      exact hE42 x3 h
    · have h := h.2 c1
      refine X_iload_n C dX4_areAbove_14 rfl 2 rfl ?_
      refine X_if_eq (tgt := 34) C dX4_areAbove_15 (by decide) (fun c2 => ?_) (fun c2 => ?_)
      · have h := h.1 c2
        refine X_sub [0, 1, 3] (lo2 := [(0, _), (1, _), (4, _)]) rfl ?_
        exact t_X4_areAbove_b34 hX hd C hn hK5 x1 x4 h
      · have h := h.2 c2
        refine X_aload_n C dX4_areAbove_18 rfl 0 rfl (isRV_r _) ?_
        refine X_getF (ci := 4) (j := 37) (q := (RX4, TX4, 54)) C rfl (by decide) q1803 rfl dX4_areAbove_19 (b := 198) (LX_S hX (k := 175) rfl) (LX_F hX (k := 175) (j := 37) rfl) rfl ?_
        refine X_iload C dX4_areAbove_22 3 rfl ?_
        have g3 := h.1
        have h := h.2
        refine X_laldS C (LX_S hX (k := 198) rfl) (LX_L hX (k := 198) rfl) g3 rfl dX4_areAbove_24 ?_
        refine X_lload_n C dX4_areAbove_25 rfl 1 rfl ?_
        refine X_lcmp_lt (tgt := 34) C dX4_areAbove_26 dX4_areAbove_27 (by decide) (fun c4 => ?_) (fun c4 => ?_)
        · have h := h.1 c4
          refine X_sub [0, 1, 3] (lo2 := [(0, _), (1, _), (4, _)]) rfl ?_
          exact t_X4_areAbove_b34 hX hd C hn hK5 x1 x4 h
        · have h := h.2 c4
          refine X_iconst (v := 1) C dX4_areAbove_30 rfl ?_
          refine X_goto (tgt := 35) C dX4_areAbove_31 (by decide) ?_
          refine X_sub [0, 1, 3] (lo2 := [(0, _), (1, _), (4, _)]) rfl ?_
          exact t_X4_areAbove_b35 hX hd C hn hK5 x1 x4 1 h
def w_X4_areAbove_b42 (Φ : Int32 → Prop) (st0 : St) (x3 : Int32) : Prop := (x3 = 0 ∨ x3 = 1) ∧ Φ x3
theorem t_X4_areAbove_b42 {θ : Th} {κ : Kx} {Ph : Ph} (hX : LX θ) {st0 : St} {d : Nat} (hd : 0 ≤ d) (C : Cx θ κ yX4_areAbove cX4_areAbove 5 (some Jvm.ClassFile.FieldType.boolean) [] d) {Φ : Int32 → Prop} (hn : ∀ r, Φ r → Ph.1 st0 (some (.int r))) (x3 : Int32) (h : w_X4_areAbove_b42 Φ st0 x3) : X θ κ Ph st0 42 [(3, .int x3)] [] := by
  unfold w_X4_areAbove_b42 at h
  refine X_iload_n C dX4_areAbove_42 rfl 0 rfl ?_
  have g5 := h.1
  have h := h.2
  exact X_zret C rfl (nb_01 g5).1 dX4_areAbove_43 (hn _ h)
def w_X4_areAbove (st0 : St) (p1 : Int64) (Φ : Int32 → Prop) : Prop := w_X4_areAbove_l5 Φ (fun (_ : St) (x3 : Int32) => w_X4_areAbove_b42 Φ st0 x3) gFU st0 p1 1 0
theorem nm_X4_areAbove : yX4_areAbove.cls ≠ "java/lang/invoke/MethodHandle" ∧ yX4_areAbove.cls ≠ "java/lang/invoke/VarHandle" ∧ (parseMethodDescriptor yX4_areAbove.desc).map (fun d => d.parameters.length) = some 1 := by decide +kernel
theorem e_X4_areAbove : plainFor yX4_areAbove = true := plainFor_of_name (by decide +kernel)
theorem m_X4_areAbove {θ : Th} {l : Launch} (hl0 : l.stackTraces = false) (hX : LX θ) {d : Nat} (hd : 0 ≤ d) (st0 : St) (p1 : Int64) {Φ : Int32 → Prop} (h : w_X4_areAbove st0 p1 Φ) : Ct θ l yX4_areAbove (ws_ yX4_areAbove cX4_areAbove 5 (some Jvm.ClassFile.FieldType.boolean)) d [.ref (ad θ 175), .long p1] st0 (rI st0 Φ, noX) := by
  refine Ct_entry hl0 e_X4_areAbove (Nat.le_of_ble_eq_true rfl) (fun κ hκ _ C => ?_)
  have hn : ∀ r, Φ r → ((rI st0 Φ, noX) : Ph).1 st0 (some (.int r)) := fun r q => ⟨r, rfl, rfl, q⟩
  change X _ _ _ _ _ [(0, .ref (ad θ 175)), (1, .long p1)] _
  unfold w_X4_areAbove at h
  refine X_iconst (v := 1) C dX4_areAbove_0 rfl ?_
  refine X_istore_n C dX4_areAbove_1 rfl (lo2 := [(3, _), (0, _), (1, _)]) (by decide) rfl ?_
  refine X_iconst (v := 0) C dX4_areAbove_2 rfl ?_
  refine X_istore C dX4_areAbove_3 (lo2 := [(4, _), (3, _), (0, _), (1, _)]) (by decide) rfl ?_
  refine X_sub [2, 3, 1, 0] (lo2 := [(0, _), (1, _), (3, _), (4, _)]) rfl ?_
  refine t_X4_areAbove_l5 hX hd C hn ?_ gFU p1 1 0 h
  · intro x3 h
    exact t_X4_areAbove_b42 hX hd C hn x3 h

def w_X4_times (st : St) (p1 : Int64) (p2 : Int64) (p3 : Int64) (p4 : Int64) (Φ : St → Prop) : Prop := w_X4_product st p1 p3 (fun (s2 : St) (r1 : Int64) => w_X4_product s2 p2 p4 (fun (s10 : St) (r9 : Int64) => w_X4_lowest s10 r1 r9 (fun (s18 : St) => Φ s18)))
theorem nm_X4_times : yX4_times.cls ≠ "java/lang/invoke/MethodHandle" ∧ yX4_times.cls ≠ "java/lang/invoke/VarHandle" ∧ (parseMethodDescriptor yX4_times.desc).map (fun d => d.parameters.length) = some 4 := by decide +kernel
theorem e_X4_times : plainFor yX4_times = true := plainFor_of_name (by decide +kernel)
theorem m_X4_times {θ : Th} {l : Launch} (hl0 : l.stackTraces = false) (hX : LX θ) {d : Nat} (hd : 2 ≤ d) (st : St) (p1 : Int64) (p2 : Int64) (p3 : Int64) (p4 : Int64) {Φ : St → Prop} (h : w_X4_times st p1 p2 p3 p4 Φ) : Ct θ l yX4_times (ws_ yX4_times cX4_times 11 (none : Option Jvm.ClassFile.FieldType)) d [.ref (ad θ 175), .long p1, .long p2, .long p3, .long p4] st (pV Φ, noX) := by
  refine Ct_entry hl0 e_X4_times (Nat.le_of_ble_eq_true rfl) (fun κ hκ _ C => ?_)
  have hn : ∀ st, Φ st → ((pV Φ, noX) : Ph).1 st none := fun st q => ⟨rfl, q⟩
  change X _ _ _ _ _ [(0, .ref (ad θ 175)), (1, .long p1), (3, .long p2), (5, .long p3), (7, .long p4)] _
  unfold w_X4_times at h
  refine X_aload_n C dX4_times_0 rfl 0 rfl (isRV_r _) ?_
  refine X_lload_n C dX4_times_1 rfl 1 rfl ?_
  refine X_lload C dX4_times_2 3 rfl ?_
  refine X_callVS (ci := 4) (q := (RX4, TX4, 54)) (As := [_, _]) (rest := []) C rfl (LX_S hX (k := 175) rfl) q2092 q2094 qs84 q136 q2095 ⟨rfl, nm_X4_product⟩ rfl dX4_times_4 (m_X4_product (Cx_l C) hX (d := d - 1) (by omega) st p1 p3 h) (by omega) (by decide) (Nat.le_of_ble_eq_true rfl) (fun s2 w3 hE4 hP5 => ?_) (fun s8 E6 q7 hE4 hP5 => ?_)
  rotate_left
  · exact False.elim hP5
  obtain ⟨r1, rfl, h⟩ := hP5
  refine X_tls ?_
  refine X_lstore C dX4_times_7 (lo2 := [(9, _), (0, _), (1, _), (3, _), (5, _), (7, _)]) (by decide) rfl ?_
  refine X_aload_n C dX4_times_9 rfl 1 rfl (isRV_r _) ?_
  refine X_lload C dX4_times_10 0 rfl ?_
  refine X_aload_n C dX4_times_12 rfl 1 rfl (isRV_r _) ?_
  refine X_lload_n C dX4_times_13 rfl 3 rfl ?_
  refine X_lload C dX4_times_14 5 rfl ?_
  refine X_callVS (ci := 4) (q := (RX4, TX4, 54)) (As := [_, _]) (rest := [_, _]) C rfl (LX_S hX (k := 175) rfl) q2092 q2094 qs84 q136 q2095 ⟨rfl, nm_X4_product⟩ rfl dX4_times_16 (m_X4_product (Cx_l C) hX (d := d - 1) (by omega) s2 p2 p4 h) (by omega) (by decide) (Nat.le_of_ble_eq_true rfl) (fun s10 w11 hE12 hP13 => ?_) (fun s16 E14 q15 hE12 hP13 => ?_)
  rotate_left
  · exact False.elim hP13
  obtain ⟨r9, rfl, h⟩ := hP13
  refine X_tls ?_
  refine X_callVS (ci := 4) (q := (RX4, TX4, 54)) (As := [_, _]) (rest := []) C rfl (LX_S hX (k := 175) rfl) q2081 q2083 qs82 q136 q2084 ⟨rfl, nm_X4_lowest⟩ rfl dX4_times_19 (m_X4_lowest (Cx_l C) hX (d := d - 1) (by omega) s10 r1 r9 h) (by omega) (by decide) (Nat.le_of_ble_eq_true rfl) (fun s18 w19 hE20 hP21 => ?_) (fun s24 E22 q23 hE20 hP21 => ?_)
  rotate_left
  · exact False.elim hP21
  obtain ⟨rfl, h⟩ := hP21
  refine X_tln ?_
  exact X_vret C rfl dX4_times_22 (hn s18 h)

def w_X4_sum_b69 (Φ : St → Int64 → Prop) (st : St) (x5 : Int64) (z0 : Int32) : Prop := (z0 = 0 ∨ z0 = 1) ∧ ∀ s5, s5 = putI st 175 20 z0 → Φ s5 x5
theorem t_X4_sum_b69 {θ : Th} {κ : Kx} {Ph : Ph} (hX : LX θ) {d : Nat} (hd : 0 ≤ d) (C : Cx θ κ yX4_sum cX4_sum 7 (some Jvm.ClassFile.FieldType.long) [] d) {Φ : St → Int64 → Prop} (hn : ∀ st r, Φ st r → Ph.1 st (some (.long r))) (st : St) (x5 : Int64) (z0 : Int32) (h : w_X4_sum_b69 Φ st x5 z0) : X θ κ Ph st 69 [(5, .long x5)] [.int z0, .ref (ad θ 175)] := by
  unfold w_X4_sum_b69 at h
  have g4 := h.1
  have h := h.2
  refine X_putSI (ci := 4) (j := 20) (q := (RX4, TX4, 54)) C rfl (by decide) q1786 rfl rfl dX4_sum_69 (LX_S hX (k := 175) rfl) rfl (nb_01 g4).1 (nb_01 g4).2 ?_
  refine X_nm (fun s5 e6 => ?_)
  have h := h s5 e6
  refine X_lload C dX4_sum_72 0 rfl ?_
  exact X_lret C rfl dX4_sum_74 (hn s5 _ h)
def w_X4_sum_b64 (Φ : St → Int64 → Prop) (st : St) (x5 : Int64) : Prop := w_X4_sum_b69 Φ st x5 1
theorem t_X4_sum_b64 {θ : Th} {κ : Kx} {Ph : Ph} (hX : LX θ) {d : Nat} (hd : 0 ≤ d) (C : Cx θ κ yX4_sum cX4_sum 7 (some Jvm.ClassFile.FieldType.long) [] d) {Φ : St → Int64 → Prop} (hn : ∀ st r, Φ st r → Ph.1 st (some (.long r))) (st : St) (x5 : Int64) (h : w_X4_sum_b64 Φ st x5) : X θ κ Ph st 64 [(5, .long x5)] [.ref (ad θ 175)] := by
  unfold w_X4_sum_b64 at h
  refine X_iconst (v := 1) C dX4_sum_64 rfl ?_
  refine X_goto (tgt := 69) C dX4_sum_65 (by decide) ?_
  exact t_X4_sum_b69 hX hd C hn st x5 1 h
def w_X4_sum_b68 (Φ : St → Int64 → Prop) (st : St) (x5 : Int64) : Prop := w_X4_sum_b69 Φ st x5 0
theorem t_X4_sum_b68 {θ : Th} {κ : Kx} {Ph : Ph} (hX : LX θ) {d : Nat} (hd : 0 ≤ d) (C : Cx θ κ yX4_sum cX4_sum 7 (some Jvm.ClassFile.FieldType.long) [] d) {Φ : St → Int64 → Prop} (hn : ∀ st r, Φ st r → Ph.1 st (some (.long r))) (st : St) (x5 : Int64) (h : w_X4_sum_b68 Φ st x5) : X θ κ Ph st 68 [(5, .long x5)] [.ref (ad θ 175)] := by
  unfold w_X4_sum_b68 at h
  refine X_iconst (v := 0) C dX4_sum_68 rfl ?_
  exact t_X4_sum_b69 hX hd C hn st x5 0 h
def w_X4_sum_b61 (Φ : St → Int64 → Prop) (st : St) (x5 : Int64) (z0 : Int32) (z1 : Int32) : Prop := ((z1 = z0) → w_X4_sum_b68 Φ st x5) ∧ ((¬ z1 = z0) → w_X4_sum_b64 Φ st x5)
theorem t_X4_sum_b61 {θ : Th} {κ : Kx} {Ph : Ph} (hX : LX θ) {d : Nat} (hd : 0 ≤ d) (C : Cx θ κ yX4_sum cX4_sum 7 (some Jvm.ClassFile.FieldType.long) [] d) {Φ : St → Int64 → Prop} (hn : ∀ st r, Φ st r → Ph.1 st (some (.long r))) (st : St) (x5 : Int64) (z0 : Int32) (z1 : Int32) (h : w_X4_sum_b61 Φ st x5 z0 z1) : X θ κ Ph st 61 [(5, .long x5)] [.int z0, .int z1, .ref (ad θ 175)] := by
  unfold w_X4_sum_b61 at h
  refine X_icmp_eq (tgt := 68) C dX4_sum_61 (by decide) (fun c12 => ?_) (fun c12 => ?_)
  · have h := h.1 c12
    exact t_X4_sum_b68 hX hd C hn st x5 h
  · have h := h.2 c12
    exact t_X4_sum_b64 hX hd C hn st x5 h
def w_X4_sum_b49 (Φ : St → Int64 → Prop) (st : St) (x5 : Int64) (z0 : Int32) : Prop := ((x5 < 0) → w_X4_sum_b61 Φ st x5 0 z0) ∧ ((¬ x5 < 0) → w_X4_sum_b61 Φ st x5 1 z0)
theorem t_X4_sum_b49 {θ : Th} {κ : Kx} {Ph : Ph} (hX : LX θ) {d : Nat} (hd : 0 ≤ d) (C : Cx θ κ yX4_sum cX4_sum 7 (some Jvm.ClassFile.FieldType.long) [] d) {Φ : St → Int64 → Prop} (hn : ∀ st r, Φ st r → Ph.1 st (some (.long r))) (st : St) (x5 : Int64) (z0 : Int32) (h : w_X4_sum_b49 Φ st x5 z0) : X θ κ Ph st 49 [(5, .long x5)] [.int z0, .ref (ad θ 175)] := by
  unfold w_X4_sum_b49 at h
  refine X_lload C dX4_sum_49 0 rfl ?_
  refine X_lconst (v := 0) C dX4_sum_51 rfl ?_
  refine X_lcmp_lt (tgt := 60) C dX4_sum_52 dX4_sum_53 (by decide) (fun c11 => ?_) (fun c11 => ?_)
  · have h := h.1 c11
    refine X_iconst (v := 0) C dX4_sum_60 rfl ?_
    exact t_X4_sum_b61 hX hd C hn st x5 0 z0 h
  · have h := h.2 c11
    refine X_iconst (v := 1) C dX4_sum_56 rfl ?_
    refine X_goto (tgt := 61) C dX4_sum_57 (by decide) ?_
    exact t_X4_sum_b61 hX hd C hn st x5 1 z0 h
def w_X4_sum_b35 (Φ : St → Int64 → Prop) (st : St) (x1 : Int64) (x5 : Int64) (z0 : Int32) (z1 : Int32) : Prop := ((z1 ≠ z0) → w_X4_sum_b68 Φ st x5) ∧ ((z1 = z0) → ((x1 < 0) → w_X4_sum_b49 Φ st x5 0) ∧ ((¬ x1 < 0) → w_X4_sum_b49 Φ st x5 1))
theorem t_X4_sum_b35 {θ : Th} {κ : Kx} {Ph : Ph} (hX : LX θ) {d : Nat} (hd : 0 ≤ d) (C : Cx θ κ yX4_sum cX4_sum 7 (some Jvm.ClassFile.FieldType.long) [] d) {Φ : St → Int64 → Prop} (hn : ∀ st r, Φ st r → Ph.1 st (some (.long r))) (st : St) (x1 : Int64) (x5 : Int64) (z0 : Int32) (z1 : Int32) (h : w_X4_sum_b35 Φ st x1 x5 z0 z1) : X θ κ Ph st 35 [(1, .long x1), (5, .long x5)] [.int z0, .int z1, .ref (ad θ 175)] := by
  unfold w_X4_sum_b35 at h
  refine X_icmp_ne (tgt := 68) C dX4_sum_35 (by decide) (fun c9 => ?_) (fun c9 => ?_)
  · have h := h.1 c9
    refine X_sub [1] (lo2 := [(5, _)]) rfl ?_
    exact t_X4_sum_b68 hX hd C hn st x5 h
  · have h := h.2 c9
    refine X_lload_n C dX4_sum_38 rfl 0 rfl ?_
    refine X_lconst (v := 0) C dX4_sum_39 rfl ?_
    refine X_lcmp_lt (tgt := 48) C dX4_sum_40 dX4_sum_41 (by decide) (fun c10 => ?_) (fun c10 => ?_)
    · have h := h.1 c10
      refine X_iconst (v := 0) C dX4_sum_48 rfl ?_
      refine X_sub [1] (lo2 := [(5, _)]) rfl ?_
      exact t_X4_sum_b49 hX hd C hn st x5 0 h
    · have h := h.2 c10
      refine X_iconst (v := 1) C dX4_sum_44 rfl ?_
      refine X_goto (tgt := 49) C dX4_sum_45 (by decide) ?_
      refine X_sub [1] (lo2 := [(5, _)]) rfl ?_
      exact t_X4_sum_b49 hX hd C hn st x5 1 h
def w_X4_sum_b24 (Φ : St → Int64 → Prop) (st : St) (x1 : Int64) (x3 : Int64) (x5 : Int64) (z0 : Int32) : Prop := ((x3 < 0) → w_X4_sum_b35 Φ st x1 x5 0 z0) ∧ ((¬ x3 < 0) → w_X4_sum_b35 Φ st x1 x5 1 z0)
theorem t_X4_sum_b24 {θ : Th} {κ : Kx} {Ph : Ph} (hX : LX θ) {d : Nat} (hd : 0 ≤ d) (C : Cx θ κ yX4_sum cX4_sum 7 (some Jvm.ClassFile.FieldType.long) [] d) {Φ : St → Int64 → Prop} (hn : ∀ st r, Φ st r → Ph.1 st (some (.long r))) (st : St) (x1 : Int64) (x3 : Int64) (x5 : Int64) (z0 : Int32) (h : w_X4_sum_b24 Φ st x1 x3 x5 z0) : X θ κ Ph st 24 [(1, .long x1), (3, .long x3), (5, .long x5)] [.int z0, .ref (ad θ 175)] := by
  unfold w_X4_sum_b24 at h
  refine X_lload_n C dX4_sum_24 rfl 1 rfl ?_
  refine X_lconst (v := 0) C dX4_sum_25 rfl ?_
  refine X_lcmp_lt (tgt := 34) C dX4_sum_26 dX4_sum_27 (by decide) (fun c8 => ?_) (fun c8 => ?_)
  · have h := h.1 c8
    refine X_iconst (v := 0) C dX4_sum_34 rfl ?_
    refine X_sub [0, 2] (lo2 := [(1, _), (5, _)]) rfl ?_
    exact t_X4_sum_b35 hX hd C hn st x1 x5 0 z0 h
  · have h := h.2 c8
    refine X_iconst (v := 1) C dX4_sum_30 rfl ?_
    refine X_goto (tgt := 35) C dX4_sum_31 (by decide) ?_
    refine X_sub [0, 2] (lo2 := [(1, _), (5, _)]) rfl ?_
    exact t_X4_sum_b35 hX hd C hn st x1 x5 1 z0 h
def w_X4_sum (st : St) (p1 : Int64) (p2 : Int64) (Φ : St → Int64 → Prop) : Prop := ∀ v1 : Int64, v1 = (p1 + p2) → (((sI st 175 20) ≠ 0) → w_X4_sum_b64 Φ st v1) ∧ (((sI st 175 20) = 0) → ((p1 < 0) → w_X4_sum_b24 Φ st p1 p2 v1 0) ∧ ((¬ p1 < 0) → w_X4_sum_b24 Φ st p1 p2 v1 1))
theorem nm_X4_sum : yX4_sum.cls ≠ "java/lang/invoke/MethodHandle" ∧ yX4_sum.cls ≠ "java/lang/invoke/VarHandle" ∧ (parseMethodDescriptor yX4_sum.desc).map (fun d => d.parameters.length) = some 2 := by decide +kernel
theorem e_X4_sum : plainFor yX4_sum = true := plainFor_of_name (by decide +kernel)
theorem m_X4_sum {θ : Th} {l : Launch} (hl0 : l.stackTraces = false) (hX : LX θ) {d : Nat} (hd : 0 ≤ d) (st : St) (p1 : Int64) (p2 : Int64) {Φ : St → Int64 → Prop} (h : w_X4_sum st p1 p2 Φ) : Ct θ l yX4_sum (ws_ yX4_sum cX4_sum 7 (some Jvm.ClassFile.FieldType.long)) d [.ref (ad θ 175), .long p1, .long p2] st (pL Φ, noX) := by
  refine Ct_entry hl0 e_X4_sum (Nat.le_of_ble_eq_true rfl) (fun κ hκ _ C => ?_)
  have hn : ∀ st r, Φ st r → ((pL Φ, noX) : Ph).1 st (some (.long r)) := fun st r q => ⟨r, rfl, q⟩
  change X _ _ _ _ _ [(0, .ref (ad θ 175)), (1, .long p1), (3, .long p2)] _
  unfold w_X4_sum at h
  refine X_lload_n C dX4_sum_0 rfl 1 rfl ?_
  refine X_lload_n C dX4_sum_1 rfl 2 rfl ?_
  refine X_ladd C dX4_sum_2 ?_
  refine X_topl (fun v1 e2 => ?_)
  have h := h v1 e2
  refine X_lstore C dX4_sum_3 (lo2 := [(5, _), (0, _), (1, _), (3, _)]) (by decide) rfl ?_
  refine X_aload_n C dX4_sum_5 rfl 1 rfl (isRV_r _) ?_
  refine X_aload_n C dX4_sum_6 rfl 1 rfl (isRV_r _) ?_
  refine X_getS (ci := 4) (j := 20) (q := (RX4, TX4, 54)) C rfl (by decide) q1786 rfl dX4_sum_7 (LX_S hX (k := 175) rfl) (v := .int (sI st 175 20)) rfl ?_
  refine X_if_ne (tgt := 64) C dX4_sum_10 (by decide) (fun c3 => ?_) (fun c3 => ?_)
  · have h := h.1 c3
    refine X_sub [0] (lo2 := [(5, _)]) rfl ?_
    exact t_X4_sum_b64 hX hd C hn st v1 h
  · have h := h.2 c3
    refine X_lload_n C dX4_sum_13 rfl 2 rfl ?_
    refine X_lconst (v := 0) C dX4_sum_14 rfl ?_
    refine X_lcmp_lt (tgt := 23) C dX4_sum_15 dX4_sum_16 (by decide) (fun c7 => ?_) (fun c7 => ?_)
    · have h := h.1 c7
      refine X_iconst (v := 0) C dX4_sum_23 rfl ?_
      refine X_sub [2, 3, 0] (lo2 := [(1, _), (3, _), (5, _)]) rfl ?_
      exact t_X4_sum_b24 hX hd C hn st p1 p2 v1 0 h
    · have h := h.2 c7
      refine X_iconst (v := 1) C dX4_sum_19 rfl ?_
      refine X_goto (tgt := 24) C dX4_sum_20 (by decide) ?_
      refine X_sub [2, 3, 0] (lo2 := [(1, _), (3, _), (5, _)]) rfl ?_
      exact t_X4_sum_b24 hX hd C hn st p1 p2 v1 1 h

def w_X4_add (st : St) (p1 : Int64) (p2 : Int64) (p3 : Int64) (p4 : Int64) (Φ : St → Prop) : Prop := w_X4_product st p1 p4 (fun (s2 : St) (r1 : Int64) => w_X4_product s2 p3 p2 (fun (s10 : St) (r9 : Int64) => w_X4_sum s10 r1 r9 (fun (s18 : St) (r17 : Int64) => w_X4_product s18 p2 p4 (fun (s26 : St) (r25 : Int64) => w_X4_lowest s26 r17 r25 (fun (s34 : St) => Φ s34)))))
theorem nm_X4_add : yX4_add.cls ≠ "java/lang/invoke/MethodHandle" ∧ yX4_add.cls ≠ "java/lang/invoke/VarHandle" ∧ (parseMethodDescriptor yX4_add.desc).map (fun d => d.parameters.length) = some 4 := by decide +kernel
theorem e_X4_add : plainFor yX4_add = true := plainFor_of_name (by decide +kernel)
theorem m_X4_add {θ : Th} {l : Launch} (hl0 : l.stackTraces = false) (hX : LX θ) {d : Nat} (hd : 2 ≤ d) (st : St) (p1 : Int64) (p2 : Int64) (p3 : Int64) (p4 : Int64) {Φ : St → Prop} (h : w_X4_add st p1 p2 p3 p4 Φ) : Ct θ l yX4_add (ws_ yX4_add cX4_add 11 (none : Option Jvm.ClassFile.FieldType)) d [.ref (ad θ 175), .long p1, .long p2, .long p3, .long p4] st (pV Φ, noX) := by
  refine Ct_entry hl0 e_X4_add (Nat.le_of_ble_eq_true rfl) (fun κ hκ _ C => ?_)
  have hn : ∀ st, Φ st → ((pV Φ, noX) : Ph).1 st none := fun st q => ⟨rfl, q⟩
  change X _ _ _ _ _ [(0, .ref (ad θ 175)), (1, .long p1), (3, .long p2), (5, .long p3), (7, .long p4)] _
  unfold w_X4_add at h
  refine X_aload_n C dX4_add_0 rfl 0 rfl (isRV_r _) ?_
  refine X_aload_n C dX4_add_1 rfl 0 rfl (isRV_r _) ?_
  refine X_lload_n C dX4_add_2 rfl 1 rfl ?_
  refine X_lload C dX4_add_3 4 rfl ?_
  refine X_callVS (ci := 4) (q := (RX4, TX4, 54)) (As := [_, _]) (rest := [_]) C rfl (LX_S hX (k := 175) rfl) q2092 q2094 qs84 q136 q2095 ⟨rfl, nm_X4_product⟩ rfl dX4_add_5 (m_X4_product (Cx_l C) hX (d := d - 1) (by omega) st p1 p4 h) (by omega) (by decide) (Nat.le_of_ble_eq_true rfl) (fun s2 w3 hE4 hP5 => ?_) (fun s8 E6 q7 hE4 hP5 => ?_)
  rotate_left
  · exact False.elim hP5
  obtain ⟨r1, rfl, h⟩ := hP5
  refine X_tls ?_
  refine X_aload_n C dX4_add_8 rfl 0 rfl (isRV_r _) ?_
  refine X_lload C dX4_add_9 3 rfl ?_
  refine X_lload_n C dX4_add_11 rfl 2 rfl ?_
  refine X_callVS (ci := 4) (q := (RX4, TX4, 54)) (As := [_, _]) (rest := [_, _]) C rfl (LX_S hX (k := 175) rfl) q2092 q2094 qs84 q136 q2095 ⟨rfl, nm_X4_product⟩ rfl dX4_add_12 (m_X4_product (Cx_l C) hX (d := d - 1) (by omega) s2 p3 p2 h) (by omega) (by decide) (Nat.le_of_ble_eq_true rfl) (fun s10 w11 hE12 hP13 => ?_) (fun s16 E14 q15 hE12 hP13 => ?_)
  rotate_left
  · exact False.elim hP13
  obtain ⟨r9, rfl, h⟩ := hP13
  refine X_tls ?_
  refine X_callVS (ci := 4) (q := (RX4, TX4, 54)) (As := [_, _]) (rest := []) C rfl (LX_S hX (k := 175) rfl) q2148 q2150 qs95 q136 q2151 ⟨rfl, nm_X4_sum⟩ rfl dX4_add_15 (m_X4_sum (Cx_l C) hX (d := d - 1) (by omega) s10 r1 r9 h) (by omega) (by decide) (Nat.le_of_ble_eq_true rfl) (fun s18 w19 hE20 hP21 => ?_) (fun s24 E22 q23 hE20 hP21 => ?_)
  rotate_left
  · exact False.elim hP21
  obtain ⟨r17, rfl, h⟩ := hP21
  refine X_tls ?_
  refine X_lstore C dX4_add_18 (lo2 := [(9, _), (0, _), (1, _), (3, _), (5, _), (7, _)]) (by decide) rfl ?_
  refine X_aload_n C dX4_add_20 rfl 1 rfl (isRV_r _) ?_
  refine X_lload C dX4_add_21 0 rfl ?_
  refine X_aload_n C dX4_add_23 rfl 1 rfl (isRV_r _) ?_
  refine X_lload_n C dX4_add_24 rfl 3 rfl ?_
  refine X_lload C dX4_add_25 5 rfl ?_
  refine X_callVS (ci := 4) (q := (RX4, TX4, 54)) (As := [_, _]) (rest := [_, _]) C rfl (LX_S hX (k := 175) rfl) q2092 q2094 qs84 q136 q2095 ⟨rfl, nm_X4_product⟩ rfl dX4_add_27 (m_X4_product (Cx_l C) hX (d := d - 1) (by omega) s18 p2 p4 h) (by omega) (by decide) (Nat.le_of_ble_eq_true rfl) (fun s26 w27 hE28 hP29 => ?_) (fun s32 E30 q31 hE28 hP29 => ?_)
  rotate_left
  · exact False.elim hP29
  obtain ⟨r25, rfl, h⟩ := hP29
  refine X_tls ?_
  refine X_callVS (ci := 4) (q := (RX4, TX4, 54)) (As := [_, _]) (rest := []) C rfl (LX_S hX (k := 175) rfl) q2081 q2083 qs82 q136 q2084 ⟨rfl, nm_X4_lowest⟩ rfl dX4_add_30 (m_X4_lowest (Cx_l C) hX (d := d - 1) (by omega) s26 r17 r25 h) (by omega) (by decide) (Nat.le_of_ble_eq_true rfl) (fun s34 w35 hE36 hP37 => ?_) (fun s40 E38 q39 hE36 hP37 => ?_)
  rotate_left
  · exact False.elim hP37
  obtain ⟨rfl, h⟩ := hP37
  refine X_tln ?_
  exact X_vret C rfl dX4_add_33 (hn s34 h)

def w_X4_mixes_l7 (Φ : St → Prop) (E100 : St → Prop) : Nat → St → Int64 → Int64 → Int32 → Prop
  | 0, _, _, _, _ => False
  | n + 1, st, x1, x3, x5 => (((sI st 175 36) ≤ x5) → E100 st) ∧ ((¬ (sI st 175 36) ≤ x5) → vp_in x5 3 ∧ w_X4_u st (sI st 197 x5.toNatClampNeg) (fun (s4 : St) => ∀ v11 : Int64, v11 = (sL s4 175 18) → ∀ v13 : Int64, v13 = (sL s4 175 19) → w_X4_lowest s4 (sL s4 198 x5.toNatClampNeg) (sL s4 175 38) (fun (s16 : St) => w_X4_times s16 (sL s16 175 18) (sL s16 175 19) v11 v13 (fun (s24 : St) => w_X4_add s24 x1 x3 (sL s24 175 18) (sL s24 175 19) (fun (s32 : St) => ∀ v39 : Int64, v39 = (sL s32 175 18) → ∀ v41 : Int64, v41 = (sL s32 175 19) → w_X4_mixes_l7 Φ E100 n s32 v39 v41 (x5 + 1))))))
theorem t_X4_mixes_l7 {θ : Th} {κ : Kx} {Ph : Ph} (hX : LX θ) {d : Nat} (hd : 7 ≤ d) (C : Cx θ κ yX4_mixes cX4_mixes 10 (none : Option Jvm.ClassFile.FieldType) [] d) {Φ : St → Prop} (hn : ∀ st, Φ st → Ph.1 st none) {E100 : St → Prop} (hE100 : ∀ (st : St), E100 st → X θ κ Ph st 100 [] []) : ∀ (n : Nat) (st : St) (x1 : Int64) (x3 : Int64) (x5 : Int32), w_X4_mixes_l7 Φ E100 n st x1 x3 x5 → X θ κ Ph st 7 [(0, .ref (ad θ 175)), (1, .long x1), (3, .long x3), (5, .int x5)] [] := by
  intro n
  induction n with
  | zero => intro st x1 x3 x5 h; exact h.elim
  | succ n hK7 =>
    intro st x1 x3 x5 h
    rw [w_X4_mixes_l7] at h
    refine X_iload C dX4_mixes_7 3 rfl ?_
    refine X_aload_n C dX4_mixes_9 rfl 0 rfl (isRV_r _) ?_
    refine X_getS (ci := 4) (j := 36) (q := (RX4, TX4, 54)) C rfl (by decide) q1802 rfl dX4_mixes_10 (LX_S hX (k := 175) rfl) (v := .int (sI st 175 36)) rfl ?_
    refine X_icmp_ge (tgt := 100) C dX4_mixes_13 (by decide) (fun c1 => ?_) (fun c1 => ?_)
    · have h := h.1 c1
      refine X_sub [] (lo2 := []) rfl ?_
      exact hE100 st h
    · have h := h.2 c1
      refine X_aload_n C dX4_mixes_16 rfl 0 rfl (isRV_r _) ?_
      refine X_aload_n C dX4_mixes_17 rfl 0 rfl (isRV_r _) ?_
      refine X_getF (ci := 4) (j := 35) (q := (RX4, TX4, 54)) C rfl (by decide) q1801 rfl dX4_mixes_18 (b := 197) (LX_S hX (k := 175) rfl) (LX_F hX (k := 175) (j := 35) rfl) rfl ?_
      refine X_iload C dX4_mixes_21 3 rfl ?_
      have g2 := h.1
      have h := h.2
      refine X_ialdS C (LX_S hX (k := 197) rfl) (LX_L hX (k := 197) rfl) g2 rfl dX4_mixes_23 ?_
      refine X_callVS (ci := 4) (q := (RX4, TX4, 54)) (As := [_]) (rest := []) C rfl (LX_S hX (k := 175) rfl) q2042 q2044 qs74 q136 q2045 ⟨rfl, nm_X4_u⟩ rfl dX4_mixes_24 (m_X4_u (Cx_l C) hX (d := d - 1) (by omega) st (sI st 197 x5.toNatClampNeg) h) (by omega) (by decide) (Nat.le_of_ble_eq_true rfl) (fun s4 w5 hE6 hP7 => ?_) (fun s10 E8 q9 hE6 hP7 => ?_)
      rotate_left
      · exact False.elim hP7
      obtain ⟨rfl, h⟩ := hP7
      refine X_tln ?_
      refine X_aload_n C dX4_mixes_27 rfl 0 rfl (isRV_r _) ?_
      refine X_getS (ci := 4) (j := 18) (q := (RX4, TX4, 54)) C rfl (by decide) q1784 rfl dX4_mixes_28 (LX_S hX (k := 175) rfl) (v := .long (sL s4 175 18)) rfl ?_
      refine X_topl (fun v11 e12 => ?_)
      have h := h v11 e12
      refine X_lstore C dX4_mixes_31 (lo2 := [(6, _), (0, _), (1, _), (3, _), (5, _)]) (by decide) rfl ?_
      refine X_aload_n C dX4_mixes_33 rfl 1 rfl (isRV_r _) ?_
      refine X_getS (ci := 4) (j := 19) (q := (RX4, TX4, 54)) C rfl (by decide) q1785 rfl dX4_mixes_34 (LX_S hX (k := 175) rfl) (v := .long (sL s4 175 19)) rfl ?_
      refine X_topl (fun v13 e14 => ?_)
      have h := h v13 e14
      refine X_lstore C dX4_mixes_37 (lo2 := [(8, _), (6, _), (0, _), (1, _), (3, _), (5, _)]) (by decide) rfl ?_
      refine X_aload_n C dX4_mixes_39 rfl 2 rfl (isRV_r _) ?_
      refine X_aload_n C dX4_mixes_40 rfl 2 rfl (isRV_r _) ?_
      refine X_getF (ci := 4) (j := 37) (q := (RX4, TX4, 54)) C rfl (by decide) q1803 rfl dX4_mixes_41 (b := 198) (LX_S hX (k := 175) rfl) (LX_F hX (k := 175) (j := 37) rfl) rfl ?_
      refine X_iload C dX4_mixes_44 5 rfl ?_
      refine X_laldS C (LX_S hX (k := 198) rfl) (LX_L hX (k := 198) rfl) g2 rfl dX4_mixes_46 ?_
      refine X_aload_n C dX4_mixes_47 rfl 2 rfl (isRV_r _) ?_
      refine X_getS (ci := 4) (j := 38) (q := (RX4, TX4, 54)) C rfl (by decide) q1804 rfl dX4_mixes_48 (LX_S hX (k := 175) rfl) (v := .long (sL s4 175 38)) rfl ?_
      refine X_callVS (ci := 4) (q := (RX4, TX4, 54)) (As := [_, _]) (rest := []) C rfl (LX_S hX (k := 175) rfl) q2081 q2083 qs82 q136 q2084 ⟨rfl, nm_X4_lowest⟩ rfl dX4_mixes_51 (m_X4_lowest (Cx_l C) hX (d := d - 1) (by omega) s4 (sL s4 198 x5.toNatClampNeg) (sL s4 175 38) h) (by omega) (by decide) (Nat.le_of_ble_eq_true rfl) (fun s16 w17 hE18 hP19 => ?_) (fun s22 E20 q21 hE18 hP19 => ?_)
      rotate_left
      · exact False.elim hP19
      obtain ⟨rfl, h⟩ := hP19
      refine X_tln ?_
      refine X_aload_n C dX4_mixes_54 rfl 2 rfl (isRV_r _) ?_
      refine X_aload_n C dX4_mixes_55 rfl 2 rfl (isRV_r _) ?_
      refine X_getS (ci := 4) (j := 18) (q := (RX4, TX4, 54)) C rfl (by decide) q1784 rfl dX4_mixes_56 (LX_S hX (k := 175) rfl) (v := .long (sL s16 175 18)) rfl ?_
      refine X_aload_n C dX4_mixes_59 rfl 2 rfl (isRV_r _) ?_
      refine X_getS (ci := 4) (j := 19) (q := (RX4, TX4, 54)) C rfl (by decide) q1785 rfl dX4_mixes_60 (LX_S hX (k := 175) rfl) (v := .long (sL s16 175 19)) rfl ?_
      refine X_lload C dX4_mixes_63 1 rfl ?_
      refine X_lload C dX4_mixes_65 0 rfl ?_
      refine X_callVS (ci := 4) (q := (RX4, TX4, 54)) (As := [_, _, _, _]) (rest := []) C rfl (LX_S hX (k := 175) rfl) q2140 q2142 qs93 q136 q2143 ⟨rfl, nm_X4_times⟩ rfl dX4_mixes_67 (m_X4_times (Cx_l C) hX (d := d - 1) (by omega) s16 (sL s16 175 18) (sL s16 175 19) v11 v13 h) (by omega) (by decide) (Nat.le_of_ble_eq_true rfl) (fun s24 w25 hE26 hP27 => ?_) (fun s30 E28 q29 hE26 hP27 => ?_)
      rotate_left
      · exact False.elim hP27
      obtain ⟨rfl, h⟩ := hP27
      refine X_tln ?_
      refine X_aload_n C dX4_mixes_70 rfl 2 rfl (isRV_r _) ?_
      refine X_lload_n C dX4_mixes_71 rfl 3 rfl ?_
      refine X_lload_n C dX4_mixes_72 rfl 4 rfl ?_
      refine X_aload_n C dX4_mixes_73 rfl 2 rfl (isRV_r _) ?_
      refine X_getS (ci := 4) (j := 18) (q := (RX4, TX4, 54)) C rfl (by decide) q1784 rfl dX4_mixes_74 (LX_S hX (k := 175) rfl) (v := .long (sL s24 175 18)) rfl ?_
      refine X_aload_n C dX4_mixes_77 rfl 2 rfl (isRV_r _) ?_
      refine X_getS (ci := 4) (j := 19) (q := (RX4, TX4, 54)) C rfl (by decide) q1785 rfl dX4_mixes_78 (LX_S hX (k := 175) rfl) (v := .long (sL s24 175 19)) rfl ?_
      refine X_callVS (ci := 4) (q := (RX4, TX4, 54)) (As := [_, _, _, _]) (rest := []) C rfl (LX_S hX (k := 175) rfl) q2144 q2146 qs94 q136 q2147 ⟨rfl, nm_X4_add⟩ rfl dX4_mixes_81 (m_X4_add (Cx_l C) hX (d := d - 1) (by omega) s24 x1 x3 (sL s24 175 18) (sL s24 175 19) h) (by omega) (by decide) (Nat.le_of_ble_eq_true rfl) (fun s32 w33 hE34 hP35 => ?_) (fun s38 E36 q37 hE34 hP35 => ?_)
      rotate_left
      · exact False.elim hP35
      obtain ⟨rfl, h⟩ := hP35
      refine X_tln ?_
      refine X_aload_n C dX4_mixes_84 rfl 2 rfl (isRV_r _) ?_
      refine X_getS (ci := 4) (j := 18) (q := (RX4, TX4, 54)) C rfl (by decide) q1784 rfl dX4_mixes_85 (LX_S hX (k := 175) rfl) (v := .long (sL s32 175 18)) rfl ?_
      refine X_topl (fun v39 e40 => ?_)
      have h := h v39 e40
      refine X_lstore_n C dX4_mixes_88 rfl (lo2 := [(1, _), (8, _), (6, _), (0, _), (3, _), (5, _)]) (by decide) rfl ?_
      refine X_aload_n C dX4_mixes_89 rfl 3 rfl (isRV_r _) ?_
      refine X_getS (ci := 4) (j := 19) (q := (RX4, TX4, 54)) C rfl (by decide) q1785 rfl dX4_mixes_90 (LX_S hX (k := 175) rfl) (v := .long (sL s32 175 19)) rfl ?_
      refine X_topl (fun v41 e42 => ?_)
      have h := h v41 e42
      refine X_lstore_n C dX4_mixes_93 rfl (lo2 := [(3, _), (1, _), (8, _), (6, _), (0, _), (5, _)]) (by decide) rfl ?_
      refine X_iinc (v := (x5 + 1)) C (j := 5) dX4_mixes_94 rfl rfl (lo2 := [(5, _), (3, _), (1, _), (8, _), (6, _), (0, _)]) (by decide) rfl ?_
      refine X_goto (tgt := 7) C dX4_mixes_97 (by decide) ?_
      refine X_sub [5, 2, 1, 0] (lo2 := [(0, _), (1, _), (3, _), (5, _)]) rfl ?_
      exact hK7 s32 v39 v41 (x5 + 1) h
def w_X4_mixes_b100 (Φ : St → Prop) (st : St) : Prop := Φ st
theorem t_X4_mixes_b100 {θ : Th} {κ : Kx} {Ph : Ph} (hX : LX θ) {d : Nat} (hd : 7 ≤ d) (C : Cx θ κ yX4_mixes cX4_mixes 10 (none : Option Jvm.ClassFile.FieldType) [] d) {Φ : St → Prop} (hn : ∀ st, Φ st → Ph.1 st none) (st : St) (h : w_X4_mixes_b100 Φ st) : X θ κ Ph st 100 [] [] := by
  unfold w_X4_mixes_b100 at h
  exact X_vret C rfl dX4_mixes_100 (hn st h)
def w_X4_mixes (st : St) (Φ : St → Prop) : Prop := w_X4_mixes_l7 Φ (fun (s43 : St) => w_X4_mixes_b100 Φ s43) gFU st 0 1 0
theorem nm_X4_mixes : yX4_mixes.cls ≠ "java/lang/invoke/MethodHandle" ∧ yX4_mixes.cls ≠ "java/lang/invoke/VarHandle" ∧ (parseMethodDescriptor yX4_mixes.desc).map (fun d => d.parameters.length) = some 0 := by decide +kernel
theorem e_X4_mixes : plainFor yX4_mixes = true := plainFor_of_name (by decide +kernel)
theorem m_X4_mixes {θ : Th} {l : Launch} (hl0 : l.stackTraces = false) (hX : LX θ) {d : Nat} (hd : 7 ≤ d) (st : St) {Φ : St → Prop} (h : w_X4_mixes st Φ) : Ct θ l yX4_mixes (ws_ yX4_mixes cX4_mixes 10 (none : Option Jvm.ClassFile.FieldType)) d [.ref (ad θ 175)] st (pV Φ, noX) := by
  refine Ct_entry hl0 e_X4_mixes (Nat.le_of_ble_eq_true rfl) (fun κ hκ _ C => ?_)
  have hn : ∀ st, Φ st → ((pV Φ, noX) : Ph).1 st none := fun st q => ⟨rfl, q⟩
  change X _ _ _ _ _ [(0, .ref (ad θ 175))] _
  unfold w_X4_mixes at h
  refine X_lconst (v := 0) C dX4_mixes_0 rfl ?_
  refine X_lstore_n C dX4_mixes_1 rfl (lo2 := [(1, _), (0, _)]) (by decide) rfl ?_
  refine X_lconst (v := 1) C dX4_mixes_2 rfl ?_
  refine X_lstore_n C dX4_mixes_3 rfl (lo2 := [(3, _), (1, _), (0, _)]) (by decide) rfl ?_
  refine X_iconst (v := 0) C dX4_mixes_4 rfl ?_
  refine X_istore C dX4_mixes_5 (lo2 := [(5, _), (3, _), (1, _), (0, _)]) (by decide) rfl ?_
  refine X_sub [3, 2, 1, 0] (lo2 := [(0, _), (1, _), (3, _), (5, _)]) rfl ?_
  refine t_X4_mixes_l7 hX hd C hn ?_ gFU st 0 1 0 h
  · intro s43 h
    exact t_X4_mixes_b100 hX hd C hn s43 h

def w_X4_mix_b52 (Φ : St → Int64 → Prop) (st : St) : Prop := w_X4_findsFar st 1 (fun (s11 : St) (r10 : Int64) => Φ s11 r10)
theorem t_X4_mix_b52 {θ : Th} {κ : Kx} {Ph : Ph} (hX : LX θ) {d : Nat} (hd : 8 ≤ d) (C : Cx θ κ yX4_mix cX4_mix 7 (some Jvm.ClassFile.FieldType.long) [] d) {Φ : St → Int64 → Prop} (hn : ∀ st r, Φ st r → Ph.1 st (some (.long r))) (st : St) (h : w_X4_mix_b52 Φ st) : X θ κ Ph st 52 [(0, .ref (ad θ 175))] [] := by
  unfold w_X4_mix_b52 at h
  refine X_aload_n C dX4_mix_52 rfl 0 rfl (isRV_r _) ?_
  refine X_iconst (v := 1) C dX4_mix_53 rfl ?_
  refine X_callVS (ci := 4) (q := (RX4, TX4, 54)) (As := [_]) (rest := []) C rfl (LX_S hX (k := 175) rfl) q2033 q2035 qs72 q136 q2036 ⟨rfl, nm_X4_findsFar⟩ rfl dX4_mix_54 (m_X4_findsFar (Cx_l C) hX (d := d - 1) (by omega) st 1 h) (by omega) (by decide) (Nat.le_of_ble_eq_true rfl) (fun s11 w12 hE13 hP14 => ?_) (fun s17 E15 q16 hE13 hP14 => ?_)
  rotate_left
  · exact False.elim hP14
  obtain ⟨r10, rfl, h⟩ := hP14
  refine X_tls ?_
  exact X_lret C rfl dX4_mix_57 (hn s11 _ h)
def w_X4_mix_b164 (Φ : St → Int64 → Prop) (st : St) : Prop := w_X4_findsFar st 3 (fun (s52 : St) (r51 : Int64) => Φ s52 r51)
theorem t_X4_mix_b164 {θ : Th} {κ : Kx} {Ph : Ph} (hX : LX θ) {d : Nat} (hd : 8 ≤ d) (C : Cx θ κ yX4_mix cX4_mix 7 (some Jvm.ClassFile.FieldType.long) [] d) {Φ : St → Int64 → Prop} (hn : ∀ st r, Φ st r → Ph.1 st (some (.long r))) (st : St) (h : w_X4_mix_b164 Φ st) : X θ κ Ph st 164 [(0, .ref (ad θ 175))] [] := by
  unfold w_X4_mix_b164 at h
  refine X_aload_n C dX4_mix_164 rfl 0 rfl (isRV_r _) ?_
  refine X_iconst (v := 3) C dX4_mix_165 rfl ?_
  refine X_callVS (ci := 4) (q := (RX4, TX4, 54)) (As := [_]) (rest := []) C rfl (LX_S hX (k := 175) rfl) q2033 q2035 qs72 q136 q2036 ⟨rfl, nm_X4_findsFar⟩ rfl dX4_mix_166 (m_X4_findsFar (Cx_l C) hX (d := d - 1) (by omega) st 3 h) (by omega) (by decide) (Nat.le_of_ble_eq_true rfl) (fun s52 w53 hE54 hP55 => ?_) (fun s58 E56 q57 hE54 hP55 => ?_)
  rotate_left
  · exact False.elim hP55
  obtain ⟨r51, rfl, h⟩ := hP55
  refine X_tls ?_
  exact X_lret C rfl dX4_mix_169 (hn s52 _ h)
def w_X4_mix_b140 (Φ : St → Int64 → Prop) (st : St) (x1 : Int32) (x5 : Int32) (x6 : Int32) (z0 : Int32) : Prop := ∀ s48, s48 = putI st 175 36 z0 → ((x6 = 0) → w_X4_mix_b164 Φ s48) ∧ ((¬ x6 = 0) → w_X4_weighs s48 x1 (fun (s60 : St) (r59 : Int32) => ((r59 = 0) → w_X4_mix_b164 Φ s60) ∧ ((¬ r59 = 0) → w_X4_areAbove s60 1 (fun (r68 : Int32) => ((r68 ≠ 0) → w_X4_begins s60 (fun (s78 : St) => w_X4_mixes s78 (fun (s86 : St) => (((sI s86 175 20) = 0) → ((x5 ≠ 0) → Φ s86 (sL s86 175 19)) ∧ ((x5 = 0) → Φ s86 (sL s86 175 18))) ∧ ((¬ (sI s86 175 20) = 0) → w_X4_findsFar s86 6 (fun (s96 : St) (r95 : Int64) => Φ s96 r95))))) ∧ ((r68 = 0) → w_X4_mix_b164 Φ s60)))))
theorem t_X4_mix_b140 {θ : Th} {κ : Kx} {Ph : Ph} (hX : LX θ) {d : Nat} (hd : 8 ≤ d) (C : Cx θ κ yX4_mix cX4_mix 7 (some Jvm.ClassFile.FieldType.long) [] d) {Φ : St → Int64 → Prop} (hn : ∀ st r, Φ st r → Ph.1 st (some (.long r))) (st : St) (x1 : Int32) (x5 : Int32) (x6 : Int32) (z0 : Int32) (h : w_X4_mix_b140 Φ st x1 x5 x6 z0) : X θ κ Ph st 140 [(0, .ref (ad θ 175)), (1, .int x1), (5, .int x5), (6, .int x6)] [.int z0, .ref (ad θ 175)] := by
  unfold w_X4_mix_b140 at h
  refine X_putSI (ci := 4) (j := 36) (q := (RX4, TX4, 54)) C rfl (by decide) q1802 rfl rfl dX4_mix_140 (LX_S hX (k := 175) rfl) rfl rfl rfl ?_
  refine X_nm (fun s48 e49 => ?_)
  have h := h s48 e49
  refine X_iload C dX4_mix_143 3 rfl ?_
  refine X_if_eq (tgt := 164) C dX4_mix_145 (by decide) (fun c50 => ?_) (fun c50 => ?_)
  · have h := h.1 c50
    refine X_sub [0] (lo2 := [(0, _)]) rfl ?_
    exact t_X4_mix_b164 hX hd C hn s48 h
  · have h := h.2 c50
    refine X_aload_n C dX4_mix_148 rfl 0 rfl (isRV_r _) ?_
    refine X_iload_n C dX4_mix_149 rfl 1 rfl ?_
    refine X_callVS (ci := 4) (q := (RX4, TX4, 54)) (As := [_]) (rest := []) C rfl (LX_S hX (k := 175) rfl) q2116 q2118 qs87 q136 q2119 ⟨rfl, nm_X4_weighs⟩ rfl dX4_mix_150 (m_X4_weighs (Cx_l C) hX (d := d - 1) (by omega) s48 x1 h) (by omega) (by decide) (Nat.le_of_ble_eq_true rfl) (fun s60 w61 hE62 hP63 => ?_) (fun s66 E64 q65 hE62 hP63 => ?_)
    rotate_left
    · exact False.elim hP63
    obtain ⟨r59, rfl, h⟩ := hP63
    refine X_tls ?_
    refine X_if_eq (tgt := 164) C dX4_mix_153 (by decide) (fun c67 => ?_) (fun c67 => ?_)
    · have h := h.1 c67
      refine X_sub [0] (lo2 := [(0, _)]) rfl ?_
      exact t_X4_mix_b164 hX hd C hn s60 h
    · have h := h.2 c67
      refine X_aload_n C dX4_mix_156 rfl 0 rfl (isRV_r _) ?_
      refine X_lconst (v := 1) C dX4_mix_157 rfl ?_
      refine X_callVS (ci := 4) (q := (RX4, TX4, 54)) (As := [_]) (rest := []) C rfl (LX_S hX (k := 175) rfl) q2132 q2134 qs91 q136 q2135 ⟨rfl, nm_X4_areAbove⟩ rfl dX4_mix_158 (m_X4_areAbove (Cx_l C) hX (d := d - 1) (by omega) s60 1 h) (by omega) (by decide) (Nat.le_of_ble_eq_true rfl) (fun s74 w69 hE70 hP71 => ?_) (fun s75 E72 q73 hE70 hP71 => ?_)
      rotate_left
      · exact False.elim hP71
      obtain ⟨r68, rfl, rfl, h⟩ := hP71
      refine X_tls ?_
      refine X_if_ne (tgt := 170) C dX4_mix_161 (by decide) (fun c76 => ?_) (fun c76 => ?_)
      · have h := h.1 c76
        refine X_aload_n C dX4_mix_170 rfl 0 rfl (isRV_r _) ?_
        refine X_callVS (ci := 4) (q := (RX4, TX4, 54)) (As := []) (rest := []) C rfl (LX_S hX (k := 175) rfl) q2038 q2040 qs73 q136 q2041 ⟨rfl, nm_X4_begins⟩ rfl dX4_mix_171 (m_X4_begins (Cx_l C) hX (d := d - 1) (by omega) s60 h) (by omega) (by decide) (Nat.le_of_ble_eq_true rfl) (fun s78 w79 hE80 hP81 => ?_) (fun s84 E82 q83 hE80 hP81 => ?_)
        rotate_left
        · exact False.elim hP81
        obtain ⟨rfl, h⟩ := hP81
        refine X_tln ?_
        refine X_aload_n C dX4_mix_174 rfl 0 rfl (isRV_r _) ?_
        refine X_callVS (ci := 4) (q := (RX4, TX4, 54)) (As := []) (rest := []) C rfl (LX_S hX (k := 175) rfl) q2136 q2138 qs92 q136 q2139 ⟨rfl, nm_X4_mixes⟩ rfl dX4_mix_175 (m_X4_mixes (Cx_l C) hX (d := d - 1) (by omega) s78 h) (by omega) (by decide) (Nat.le_of_ble_eq_true rfl) (fun s86 w87 hE88 hP89 => ?_) (fun s92 E90 q91 hE88 hP89 => ?_)
        rotate_left
        · exact False.elim hP89
        obtain ⟨rfl, h⟩ := hP89
        refine X_tln ?_
        refine X_aload_n C dX4_mix_178 rfl 0 rfl (isRV_r _) ?_
        refine X_getS (ci := 4) (j := 20) (q := (RX4, TX4, 54)) C rfl (by decide) q1786 rfl dX4_mix_179 (LX_S hX (k := 175) rfl) (v := .int (sI s86 175 20)) rfl ?_
        refine X_if_eq (tgt := 194) C dX4_mix_182 (by decide) (fun c93 => ?_) (fun c93 => ?_)
        · have h := h.1 c93
          refine X_iload C dX4_mix_194 2 rfl ?_
          refine X_if_ne (tgt := 206) C dX4_mix_196 (by decide) (fun c94 => ?_) (fun c94 => ?_)
          · have h := h.1 c94
            refine X_aload_n C dX4_mix_206 rfl 0 rfl (isRV_r _) ?_
            refine X_getS (ci := 4) (j := 19) (q := (RX4, TX4, 54)) C rfl (by decide) q1785 rfl dX4_mix_207 (LX_S hX (k := 175) rfl) (v := .long (sL s86 175 19)) rfl ?_
            exact X_lret C rfl dX4_mix_210 (hn s86 _ h)
          · have h := h.2 c94
            refine X_aload_n C dX4_mix_199 rfl 0 rfl (isRV_r _) ?_
            refine X_getS (ci := 4) (j := 18) (q := (RX4, TX4, 54)) C rfl (by decide) q1784 rfl dX4_mix_200 (LX_S hX (k := 175) rfl) (v := .long (sL s86 175 18)) rfl ?_
            refine X_goto (tgt := 210) C dX4_mix_203 (by decide) ?_
            exact X_lret C rfl dX4_mix_210 (hn s86 _ h)
        · have h := h.2 c93
          refine X_aload_n C dX4_mix_185 rfl 0 rfl (isRV_r _) ?_
          refine X_bipush (v := 6) C dX4_mix_186 rfl ?_
          refine X_callVS (ci := 4) (q := (RX4, TX4, 54)) (As := [_]) (rest := []) C rfl (LX_S hX (k := 175) rfl) q2033 q2035 qs72 q136 q2036 ⟨rfl, nm_X4_findsFar⟩ rfl dX4_mix_188 (m_X4_findsFar (Cx_l C) hX (d := d - 1) (by omega) s86 6 h) (by omega) (by decide) (Nat.le_of_ble_eq_true rfl) (fun s96 w97 hE98 hP99 => ?_) (fun s102 E100 q101 hE98 hP99 => ?_)
          rotate_left
          · exact False.elim hP99
          obtain ⟨r95, rfl, h⟩ := hP99
          refine X_tls ?_
          refine X_goto (tgt := 210) C dX4_mix_191 (by decide) ?_
          exact X_lret C rfl dX4_mix_210 (hn s96 _ h)
      · have h := h.2 c76
        refine X_sub [0] (lo2 := [(0, _)]) rfl ?_
        exact t_X4_mix_b164 hX hd C hn s60 h
def w_X4_mix_b97 (Φ : St → Int64 → Prop) (st : St) (x1 : Int32) (x2 : Int32) (x3 : Int32) (x4 : Int32) (x5 : Int32) (z0 : Int32) : Prop := ∀ s40, s40 = putI st 197 0 x2 → ∀ s42, s42 = putI s40 197 1 x3 → ∀ s44, s44 = putI s42 197 2 x4 → ((0 ≤ x3) → ((0 ≤ x4) → w_X4_mix_b140 Φ s44 x1 x5 z0 3) ∧ ((¬ 0 ≤ x4) → w_X4_mix_b140 Φ s44 x1 x5 z0 2)) ∧ ((¬ 0 ≤ x3) → w_X4_mix_b140 Φ s44 x1 x5 z0 1)
theorem t_X4_mix_b97 {θ : Th} {κ : Kx} {Ph : Ph} (hX : LX θ) {d : Nat} (hd : 8 ≤ d) (C : Cx θ κ yX4_mix cX4_mix 7 (some Jvm.ClassFile.FieldType.long) [] d) {Φ : St → Int64 → Prop} (hn : ∀ st r, Φ st r → Ph.1 st (some (.long r))) (st : St) (x1 : Int32) (x2 : Int32) (x3 : Int32) (x4 : Int32) (x5 : Int32) (z0 : Int32) (h : w_X4_mix_b97 Φ st x1 x2 x3 x4 x5 z0) : X θ κ Ph st 97 [(0, .ref (ad θ 175)), (1, .int x1), (2, .int x2), (3, .int x3), (4, .int x4), (5, .int x5)] [.int z0] := by
  unfold w_X4_mix_b97 at h
  refine X_istore C dX4_mix_97 (lo2 := [(6, _), (0, _), (1, _), (2, _), (3, _), (4, _), (5, _)]) (by decide) rfl ?_
  refine X_aload_n C dX4_mix_99 rfl 1 rfl (isRV_r _) ?_
  refine X_getF (ci := 4) (j := 35) (q := (RX4, TX4, 54)) C rfl (by decide) q1801 rfl dX4_mix_100 (b := 197) (LX_S hX (k := 175) rfl) (LX_F hX (k := 175) (j := 35) rfl) rfl ?_
  refine X_iconst (v := 0) C dX4_mix_103 rfl ?_
  refine X_iload_n C dX4_mix_104 rfl 3 rfl ?_
  refine X_iastS C (LX_S hX (k := 197) rfl) (LX_L hX (k := 197) rfl) (vp_dec rfl) rfl dX4_mix_105 ?_
  refine X_nm (fun s40 e41 => ?_)
  have h := h s40 e41
  refine X_aload_n C dX4_mix_106 rfl 1 rfl (isRV_r _) ?_
  refine X_getF (ci := 4) (j := 35) (q := (RX4, TX4, 54)) C rfl (by decide) q1801 rfl dX4_mix_107 (b := 197) (LX_S hX (k := 175) rfl) (LX_F hX (k := 175) (j := 35) rfl) rfl ?_
  refine X_iconst (v := 1) C dX4_mix_110 rfl ?_
  refine X_iload_n C dX4_mix_111 rfl 4 rfl ?_
  refine X_iastS C (LX_S hX (k := 197) rfl) (LX_L hX (k := 197) rfl) (vp_dec rfl) rfl dX4_mix_112 ?_
  refine X_nm (fun s42 e43 => ?_)
  have h := h s42 e43
  refine X_aload_n C dX4_mix_113 rfl 1 rfl (isRV_r _) ?_
  refine X_getF (ci := 4) (j := 35) (q := (RX4, TX4, 54)) C rfl (by decide) q1801 rfl dX4_mix_114 (b := 197) (LX_S hX (k := 175) rfl) (LX_F hX (k := 175) (j := 35) rfl) rfl ?_
  refine X_iconst (v := 2) C dX4_mix_117 rfl ?_
  refine X_iload C dX4_mix_118 5 rfl ?_
  refine X_iastS C (LX_S hX (k := 197) rfl) (LX_L hX (k := 197) rfl) (vp_dec rfl) rfl dX4_mix_120 ?_
  refine X_nm (fun s44 e45 => ?_)
  have h := h s44 e45
  refine X_aload_n C dX4_mix_121 rfl 1 rfl (isRV_r _) ?_
  refine X_iload_n C dX4_mix_122 rfl 4 rfl ?_
  refine X_if_ge (tgt := 130) C dX4_mix_123 (by decide) (fun c46 => ?_) (fun c46 => ?_)
  · have h := h.1 c46
    refine X_iload C dX4_mix_130 5 rfl ?_
    refine X_if_ge (tgt := 139) C dX4_mix_132 (by decide) (fun c47 => ?_) (fun c47 => ?_)
    · have h := h.1 c47
      refine X_iconst (v := 3) C dX4_mix_139 rfl ?_
      refine X_sub [1, 2, 6, 0] (lo2 := [(0, _), (1, _), (5, _), (6, _)]) rfl ?_
      exact t_X4_mix_b140 hX hd C hn s44 x1 x5 z0 3 h
    · have h := h.2 c47
      refine X_iconst (v := 2) C dX4_mix_135 rfl ?_
      refine X_goto (tgt := 140) C dX4_mix_136 (by decide) ?_
      refine X_sub [1, 2, 6, 0] (lo2 := [(0, _), (1, _), (5, _), (6, _)]) rfl ?_
      exact t_X4_mix_b140 hX hd C hn s44 x1 x5 z0 2 h
  · have h := h.2 c46
    refine X_iconst (v := 1) C dX4_mix_126 rfl ?_
    refine X_goto (tgt := 140) C dX4_mix_127 (by decide) ?_
    refine X_sub [1, 2, 6, 0] (lo2 := [(0, _), (1, _), (5, _), (6, _)]) rfl ?_
    exact t_X4_mix_b140 hX hd C hn s44 x1 x5 z0 1 h
def w_X4_mix_b92 (Φ : St → Int64 → Prop) (st : St) (x1 : Int32) (x2 : Int32) (x3 : Int32) (x4 : Int32) (x5 : Int32) : Prop := w_X4_mix_b97 Φ st x1 x2 x3 x4 x5 1
theorem t_X4_mix_b92 {θ : Th} {κ : Kx} {Ph : Ph} (hX : LX θ) {d : Nat} (hd : 8 ≤ d) (C : Cx θ κ yX4_mix cX4_mix 7 (some Jvm.ClassFile.FieldType.long) [] d) {Φ : St → Int64 → Prop} (hn : ∀ st r, Φ st r → Ph.1 st (some (.long r))) (st : St) (x1 : Int32) (x2 : Int32) (x3 : Int32) (x4 : Int32) (x5 : Int32) (h : w_X4_mix_b92 Φ st x1 x2 x3 x4 x5) : X θ κ Ph st 92 [(0, .ref (ad θ 175)), (1, .int x1), (2, .int x2), (3, .int x3), (4, .int x4), (5, .int x5)] [] := by
  unfold w_X4_mix_b92 at h
  refine X_iconst (v := 1) C dX4_mix_92 rfl ?_
  refine X_goto (tgt := 97) C dX4_mix_93 (by decide) ?_
  exact t_X4_mix_b97 hX hd C hn st x1 x2 x3 x4 x5 1 h
def w_X4_mix_b96 (Φ : St → Int64 → Prop) (st : St) (x1 : Int32) (x2 : Int32) (x3 : Int32) (x4 : Int32) (x5 : Int32) : Prop := w_X4_mix_b97 Φ st x1 x2 x3 x4 x5 0
theorem t_X4_mix_b96 {θ : Th} {κ : Kx} {Ph : Ph} (hX : LX θ) {d : Nat} (hd : 8 ≤ d) (C : Cx θ κ yX4_mix cX4_mix 7 (some Jvm.ClassFile.FieldType.long) [] d) {Φ : St → Int64 → Prop} (hn : ∀ st r, Φ st r → Ph.1 st (some (.long r))) (st : St) (x1 : Int32) (x2 : Int32) (x3 : Int32) (x4 : Int32) (x5 : Int32) (h : w_X4_mix_b96 Φ st x1 x2 x3 x4 x5) : X θ κ Ph st 96 [(0, .ref (ad θ 175)), (1, .int x1), (2, .int x2), (3, .int x3), (4, .int x4), (5, .int x5)] [] := by
  unfold w_X4_mix_b96 at h
  refine X_iconst (v := 0) C dX4_mix_96 rfl ?_
  exact t_X4_mix_b97 hX hd C hn st x1 x2 x3 x4 x5 0 h
def w_X4_mix_b67 (Φ : St → Int64 → Prop) (st : St) (x1 : Int32) (x2 : Int32) (x3 : Int32) (x4 : Int32) (x5 : Int32) : Prop := ((x4 < 0) → w_X4_mix_b92 Φ st x1 x2 x3 x4 x5) ∧ ((¬ x4 < 0) → ((x3 < 0) → w_X4_mix_b96 Φ st x1 x2 x3 x4 x5) ∧ ((¬ x3 < 0) → ((x4 ≤ x3) → w_X4_mix_b96 Φ st x1 x2 x3 x4 x5) ∧ ((¬ x4 ≤ x3) → (((sI st 177 0) ≠ 3) → w_X4_mix_b96 Φ st x1 x2 x3 x4 x5) ∧ (((sI st 177 0) = 3) → w_X4_mix_b92 Φ st x1 x2 x3 x4 x5))))
theorem t_X4_mix_b67 {θ : Th} {κ : Kx} {Ph : Ph} (hX : LX θ) {d : Nat} (hd : 8 ≤ d) (C : Cx θ κ yX4_mix cX4_mix 7 (some Jvm.ClassFile.FieldType.long) [] d) {Φ : St → Int64 → Prop} (hn : ∀ st r, Φ st r → Ph.1 st (some (.long r))) (st : St) (x1 : Int32) (x2 : Int32) (x3 : Int32) (x4 : Int32) (x5 : Int32) (h : w_X4_mix_b67 Φ st x1 x2 x3 x4 x5) : X θ κ Ph st 67 [(0, .ref (ad θ 175)), (1, .int x1), (2, .int x2), (3, .int x3), (4, .int x4), (5, .int x5)] [] := by
  unfold w_X4_mix_b67 at h
  refine X_iload C dX4_mix_67 4 rfl ?_
  refine X_if_lt (tgt := 92) C dX4_mix_69 (by decide) (fun c39 => ?_) (fun c39 => ?_)
  · have h := h.1 c39
    exact t_X4_mix_b92 hX hd C hn st x1 x2 x3 x4 x5 h
  · have h := h.2 c39
    refine X_iload_n C dX4_mix_72 rfl 3 rfl ?_
    refine X_if_lt (tgt := 96) C dX4_mix_73 (by decide) (fun c103 => ?_) (fun c103 => ?_)
    · have h := h.1 c103
      exact t_X4_mix_b96 hX hd C hn st x1 x2 x3 x4 x5 h
    · have h := h.2 c103
      refine X_iload_n C dX4_mix_76 rfl 3 rfl ?_
      refine X_iload C dX4_mix_77 4 rfl ?_
      refine X_icmp_ge (tgt := 96) C dX4_mix_79 (by decide) (fun c104 => ?_) (fun c104 => ?_)
      · have h := h.1 c104
        exact t_X4_mix_b96 hX hd C hn st x1 x2 x3 x4 x5 h
      · have h := h.2 c104
        refine X_aload_n C dX4_mix_82 rfl 0 rfl (isRV_r _) ?_
        refine X_getF (ci := 4) (j := 1) (q := (RX4, TX4, 54)) C rfl (by decide) q1767 rfl dX4_mix_83 (b := 177) (LX_S hX (k := 175) rfl) (LX_F hX (k := 175) (j := 1) rfl) rfl ?_
        refine X_iconst (v := 0) C dX4_mix_86 rfl ?_
        refine X_ialdS C (LX_S hX (k := 177) rfl) (LX_L hX (k := 177) rfl) (vp_dec rfl) rfl dX4_mix_87 ?_
        refine X_iconst (v := 3) C dX4_mix_88 rfl ?_
        refine X_icmp_ne (tgt := 96) C dX4_mix_89 (by decide) (fun c105 => ?_) (fun c105 => ?_)
        · have h := h.1 c105
          exact t_X4_mix_b96 hX hd C hn st x1 x2 x3 x4 x5 h
        · have h := h.2 c105
          exact t_X4_mix_b92 hX hd C hn st x1 x2 x3 x4 x5 h
def w_X4_mix_b44 (Φ : St → Int64 → Prop) (st : St) (x1 : Int32) (x2 : Int32) (x3 : Int32) (x4 : Int32) (x5 : Int32) : Prop := w_X4_isPart x5 (fun (r29 : Int32) => ((r29 ≠ 0) → ((x3 < 0) → w_X4_mix_b67 Φ st x1 x2 x3 x4 x5) ∧ ((¬ x3 < 0) → ((x3 ≤ x2) → w_X4_mix_b96 Φ st x1 x2 x3 x4 x5) ∧ ((¬ x3 ≤ x2) → w_X4_mix_b67 Φ st x1 x2 x3 x4 x5))) ∧ ((r29 = 0) → w_X4_mix_b52 Φ st))
theorem t_X4_mix_b44 {θ : Th} {κ : Kx} {Ph : Ph} (hX : LX θ) {d : Nat} (hd : 8 ≤ d) (C : Cx θ κ yX4_mix cX4_mix 7 (some Jvm.ClassFile.FieldType.long) [] d) {Φ : St → Int64 → Prop} (hn : ∀ st r, Φ st r → Ph.1 st (some (.long r))) (st : St) (x1 : Int32) (x2 : Int32) (x3 : Int32) (x4 : Int32) (x5 : Int32) (h : w_X4_mix_b44 Φ st x1 x2 x3 x4 x5) : X θ κ Ph st 44 [(0, .ref (ad θ 175)), (1, .int x1), (2, .int x2), (3, .int x3), (4, .int x4), (5, .int x5)] [] := by
  unfold w_X4_mix_b44 at h
  refine X_iload C dX4_mix_44 5 rfl ?_
  refine X_callS (As := [_]) (rest := []) C q2030 q2031 q136 q2032 nm_X4_isPart rfl dX4_mix_46 (m_X4_isPart (Cx_l C) hX (d := d - 1) (by omega) st x5 h) (by omega) (by decide) (Nat.le_of_ble_eq_true rfl) (fun s35 w30 hE31 hP32 => ?_) (fun s36 E33 q34 hE31 hP32 => ?_)
  rotate_left
  · exact False.elim hP32
  obtain ⟨r29, rfl, rfl, h⟩ := hP32
  refine X_tls ?_
  refine X_if_ne (tgt := 58) C dX4_mix_49 (by decide) (fun c37 => ?_) (fun c37 => ?_)
  · have h := h.1 c37
    refine X_iload_n C dX4_mix_58 rfl 3 rfl ?_
    refine X_if_lt (tgt := 67) C dX4_mix_59 (by decide) (fun c38 => ?_) (fun c38 => ?_)
    · have h := h.1 c38
      exact t_X4_mix_b67 hX hd C hn st x1 x2 x3 x4 x5 h
    · have h := h.2 c38
      refine X_iload_n C dX4_mix_62 rfl 2 rfl ?_
      refine X_iload_n C dX4_mix_63 rfl 3 rfl ?_
      refine X_icmp_ge (tgt := 96) C dX4_mix_64 (by decide) (fun c106 => ?_) (fun c106 => ?_)
      · have h := h.1 c106
        exact t_X4_mix_b96 hX hd C hn st x1 x2 x3 x4 x5 h
      · have h := h.2 c106
        exact t_X4_mix_b67 hX hd C hn st x1 x2 x3 x4 x5 h
  · have h := h.2 c37
    refine X_sub [0] (lo2 := [(0, _)]) rfl ?_
    exact t_X4_mix_b52 hX hd C hn st h
def w_X4_mix_b29 (Φ : St → Int64 → Prop) (st : St) (x1 : Int32) (x2 : Int32) (x3 : Int32) (x4 : Int32) (x5 : Int32) : Prop := ((x4 = (-1)) → w_X4_mix_b44 Φ st x1 x2 x3 x4 x5) ∧ ((¬ x4 = (-1)) → w_X4_isPoint st x4 (fun (r107 : Int32) => ((r107 = 0) → w_X4_mix_b52 Φ st) ∧ ((¬ r107 = 0) → w_X4_mix_b44 Φ st x1 x2 x3 x4 x5)))
theorem t_X4_mix_b29 {θ : Th} {κ : Kx} {Ph : Ph} (hX : LX θ) {d : Nat} (hd : 8 ≤ d) (C : Cx θ κ yX4_mix cX4_mix 7 (some Jvm.ClassFile.FieldType.long) [] d) {Φ : St → Int64 → Prop} (hn : ∀ st r, Φ st r → Ph.1 st (some (.long r))) (st : St) (x1 : Int32) (x2 : Int32) (x3 : Int32) (x4 : Int32) (x5 : Int32) (h : w_X4_mix_b29 Φ st x1 x2 x3 x4 x5) : X θ κ Ph st 29 [(0, .ref (ad θ 175)), (1, .int x1), (2, .int x2), (3, .int x3), (4, .int x4), (5, .int x5)] [] := by
  unfold w_X4_mix_b29 at h
  refine X_iload C dX4_mix_29 4 rfl ?_
  refine X_iconst (v := (-1)) C dX4_mix_31 rfl ?_
  refine X_icmp_eq (tgt := 44) C dX4_mix_32 (by decide) (fun c28 => ?_) (fun c28 => ?_)
  · have h := h.1 c28
    exact t_X4_mix_b44 hX hd C hn st x1 x2 x3 x4 x5 h
  · have h := h.2 c28
    refine X_aload_n C dX4_mix_35 rfl 0 rfl (isRV_r _) ?_
    refine X_iload C dX4_mix_36 4 rfl ?_
    refine X_callVS (ci := 4) (q := (RX4, TX4, 54)) (As := [_]) (rest := []) C rfl (LX_S hX (k := 175) rfl) q1992 q1994 qs67 q136 q1995 ⟨rfl, nm_X4_isPoint⟩ rfl dX4_mix_38 (m_X4_isPoint (Cx_l C) hX (d := d - 1) (by omega) st x4 h) (by omega) (by decide) (Nat.le_of_ble_eq_true rfl) (fun s113 w108 hE109 hP110 => ?_) (fun s114 E111 q112 hE109 hP110 => ?_)
    rotate_left
    · exact False.elim hP110
    obtain ⟨r107, rfl, rfl, h⟩ := hP110
    refine X_tls ?_
    refine X_if_eq (tgt := 52) C dX4_mix_41 (by decide) (fun c115 => ?_) (fun c115 => ?_)
    · have h := h.1 c115
      refine X_sub [0] (lo2 := [(0, _)]) rfl ?_
      exact t_X4_mix_b52 hX hd C hn st h
    · have h := h.2 c115
      exact t_X4_mix_b44 hX hd C hn st x1 x2 x3 x4 x5 h
def w_X4_mix (st : St) (p1 : Int32) (p2 : Int32) (p3 : Int32) (p4 : Int32) (p5 : Int32) (Φ : St → Int64 → Prop) : Prop := w_X4_isPoint st p1 (fun (r1 : Int32) => ((r1 = 0) → w_X4_mix_b52 Φ st) ∧ ((¬ r1 = 0) → w_X4_isPoint st p2 (fun (r18 : Int32) => ((r18 = 0) → w_X4_mix_b52 Φ st) ∧ ((¬ r18 = 0) → ((p3 = (-1)) → w_X4_mix_b29 Φ st p1 p2 p3 p4 p5) ∧ ((¬ p3 = (-1)) → w_X4_isPoint st p3 (fun (r116 : Int32) => ((r116 = 0) → w_X4_mix_b52 Φ st) ∧ ((¬ r116 = 0) → w_X4_mix_b29 Φ st p1 p2 p3 p4 p5)))))))
theorem nm_X4_mix : yX4_mix.cls ≠ "java/lang/invoke/MethodHandle" ∧ yX4_mix.cls ≠ "java/lang/invoke/VarHandle" ∧ (parseMethodDescriptor yX4_mix.desc).map (fun d => d.parameters.length) = some 5 := by decide +kernel
theorem e_X4_mix : plainFor yX4_mix = true := plainFor_of_name (by decide +kernel)
theorem m_X4_mix {θ : Th} {l : Launch} (hl0 : l.stackTraces = false) (hX : LX θ) {d : Nat} (hd : 8 ≤ d) (st : St) (p1 : Int32) (p2 : Int32) (p3 : Int32) (p4 : Int32) (p5 : Int32) {Φ : St → Int64 → Prop} (h : w_X4_mix st p1 p2 p3 p4 p5 Φ) : Ct θ l yX4_mix (ws_ yX4_mix cX4_mix 7 (some Jvm.ClassFile.FieldType.long)) d [.ref (ad θ 175), .int p1, .int p2, .int p3, .int p4, .int p5] st (pL Φ, noX) := by
  refine Ct_entry hl0 e_X4_mix (Nat.le_of_ble_eq_true rfl) (fun κ hκ _ C => ?_)
  have hn : ∀ st r, Φ st r → ((pL Φ, noX) : Ph).1 st (some (.long r)) := fun st r q => ⟨r, rfl, q⟩
  change X _ _ _ _ _ [(0, .ref (ad θ 175)), (1, .int p1), (2, .int p2), (3, .int p3), (4, .int p4), (5, .int p5)] _
  unfold w_X4_mix at h
  refine X_aload_n C dX4_mix_0 rfl 0 rfl (isRV_r _) ?_
  refine X_iload_n C dX4_mix_1 rfl 1 rfl ?_
  refine X_callVS (ci := 4) (q := (RX4, TX4, 54)) (As := [_]) (rest := []) C rfl (LX_S hX (k := 175) rfl) q1992 q1994 qs67 q136 q1995 ⟨rfl, nm_X4_isPoint⟩ rfl dX4_mix_2 (m_X4_isPoint (Cx_l C) hX (d := d - 1) (by omega) st p1 h) (by omega) (by decide) (Nat.le_of_ble_eq_true rfl) (fun s7 w2 hE3 hP4 => ?_) (fun s8 E5 q6 hE3 hP4 => ?_)
  rotate_left
  · exact False.elim hP4
  obtain ⟨r1, rfl, rfl, h⟩ := hP4
  refine X_tls ?_
  refine X_if_eq (tgt := 52) C dX4_mix_5 (by decide) (fun c9 => ?_) (fun c9 => ?_)
  · have h := h.1 c9
    refine X_sub [0] (lo2 := [(0, _)]) rfl ?_
    exact t_X4_mix_b52 hX hd C hn st h
  · have h := h.2 c9
    refine X_aload_n C dX4_mix_8 rfl 0 rfl (isRV_r _) ?_
    refine X_iload_n C dX4_mix_9 rfl 2 rfl ?_
    refine X_callVS (ci := 4) (q := (RX4, TX4, 54)) (As := [_]) (rest := []) C rfl (LX_S hX (k := 175) rfl) q1992 q1994 qs67 q136 q1995 ⟨rfl, nm_X4_isPoint⟩ rfl dX4_mix_10 (m_X4_isPoint (Cx_l C) hX (d := d - 1) (by omega) st p2 h) (by omega) (by decide) (Nat.le_of_ble_eq_true rfl) (fun s24 w19 hE20 hP21 => ?_) (fun s25 E22 q23 hE20 hP21 => ?_)
    rotate_left
    · exact False.elim hP21
    obtain ⟨r18, rfl, rfl, h⟩ := hP21
    refine X_tls ?_
    refine X_if_eq (tgt := 52) C dX4_mix_13 (by decide) (fun c26 => ?_) (fun c26 => ?_)
    · have h := h.1 c26
      refine X_sub [0] (lo2 := [(0, _)]) rfl ?_
      exact t_X4_mix_b52 hX hd C hn st h
    · have h := h.2 c26
      refine X_iload_n C dX4_mix_16 rfl 3 rfl ?_
      refine X_iconst (v := (-1)) C dX4_mix_17 rfl ?_
      refine X_icmp_eq (tgt := 29) C dX4_mix_18 (by decide) (fun c27 => ?_) (fun c27 => ?_)
      · have h := h.1 c27
        exact t_X4_mix_b29 hX hd C hn st p1 p2 p3 p4 p5 h
      · have h := h.2 c27
        refine X_aload_n C dX4_mix_21 rfl 0 rfl (isRV_r _) ?_
        refine X_iload_n C dX4_mix_22 rfl 3 rfl ?_
        refine X_callVS (ci := 4) (q := (RX4, TX4, 54)) (As := [_]) (rest := []) C rfl (LX_S hX (k := 175) rfl) q1992 q1994 qs67 q136 q1995 ⟨rfl, nm_X4_isPoint⟩ rfl dX4_mix_23 (m_X4_isPoint (Cx_l C) hX (d := d - 1) (by omega) st p3 h) (by omega) (by decide) (Nat.le_of_ble_eq_true rfl) (fun s122 w117 hE118 hP119 => ?_) (fun s123 E120 q121 hE118 hP119 => ?_)
        rotate_left
        · exact False.elim hP119
        obtain ⟨r116, rfl, rfl, h⟩ := hP119
        refine X_tls ?_
        refine X_if_eq (tgt := 52) C dX4_mix_26 (by decide) (fun c124 => ?_) (fun c124 => ?_)
        · have h := h.1 c124
          refine X_sub [0] (lo2 := [(0, _)]) rfl ?_
          exact t_X4_mix_b52 hX hd C hn st h
        · have h := h.2 c124
          exact t_X4_mix_b29 hX hd C hn st p1 p2 p3 p4 p5 h
