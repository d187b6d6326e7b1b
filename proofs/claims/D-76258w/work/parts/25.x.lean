set_option maxRecDepth 100000
def w_X0_answers (st : St) (p1 : Nat) (Φ : St → Int32 → Prop) : Prop := vp_in (sI st p1 6) 9 ∧ ∀ s2, s2 = putI st 1 ((sI st p1 6).toNatClampNeg) ((sI st 1 (sI st p1 6).toNatClampNeg) + 1) → Φ s2 ((-1000000000) - (sI s2 p1 6))
theorem nm_X0_answers : yX0_answers.cls ≠ "java/lang/invoke/MethodHandle" ∧ yX0_answers.cls ≠ "java/lang/invoke/VarHandle" ∧ (parseMethodDescriptor yX0_answers.desc).map (fun d => d.parameters.length) = some 1 := by decide +kernel
theorem e_X0_answers : plainFor yX0_answers = true := plainFor_of_name (by decide +kernel)
theorem m_X0_answers {θ : Th} {l : Launch} (hl0 : l.stackTraces = false) (hX : LX θ) {d : Nat} (hd : 0 ≤ d) (st : St) (p1 : Nat) (hs_p1 : sh st p1 = 6) (hb_p1 : p1 < gBIG) {Φ : St → Int32 → Prop} (h : w_X0_answers st p1 Φ) : Ct θ l yX0_answers (ws_ yX0_answers cX0_answers 2 (some Jvm.ClassFile.FieldType.int)) d [.ref (ad θ 0), .ref (ad θ p1)] st (pI Φ, noX) := by
  refine Ct_entry hl0 e_X0_answers (Nat.le_of_ble_eq_true rfl) (fun κ hκ _ C => ?_)
  have hn : ∀ st r, Φ st r → ((pI Φ, noX) : Ph).1 st (some (.int r)) := fun st r q => ⟨r, rfl, q⟩
  change X _ _ _ _ _ [(0, .ref (ad θ 0)), (1, .ref (ad θ p1))] _
  unfold w_X0_answers at h
  refine X_aload_n C dX0_answers_0 rfl 0 rfl (isRV_r _) ?_
  refine X_getF (ci := 0) (j := 0) (q := (RX0, TX0, 49)) C rfl (by decide) q260 rfl dX0_answers_1 (b := 1) (LX_S hX (k := 0) rfl) (LX_F hX (k := 0) (j := 0) rfl) rfl ?_
  refine X_aload_n C dX0_answers_4 rfl 1 rfl (isRV_r _) ?_
  refine X_get (ci := 5) (j := 6) (q := (RX5, TX5, 7)) C rfl (by decide) q492 rfl dX0_answers_5 hs_p1 (v := .int (sI st p1 6)) rfl ?_
  refine X_dup2 C dX0_answers_8 rfl rfl ?_
  have g1 := h.1
  have h := h.2
  refine X_ialdS C (LX_S hX (k := 1) rfl) (LX_L hX (k := 1) rfl) g1 rfl dX0_answers_9 ?_
  refine X_iconst (v := 1) C dX0_answers_10 rfl ?_
  refine X_iadd C dX0_answers_11 ?_
  refine X_iastS C (LX_S hX (k := 1) rfl) (LX_L hX (k := 1) rfl) g1 rfl dX0_answers_12 ?_
  refine X_nm (fun s2 e3 => ?_)
  have h := h s2 e3
  have hs_p1 : sh s2 p1 = 6 := by rw [e3]; exact hs_p1
  refine X_ldc C q516 dX0_answers_13 ?_
  refine X_aload_n C dX0_answers_15 rfl 1 rfl (isRV_r _) ?_
  refine X_get (ci := 5) (j := 6) (q := (RX5, TX5, 7)) C rfl (by decide) q492 rfl dX0_answers_16 hs_p1 (v := .int (sI s2 p1 6)) rfl ?_
  refine X_isub C dX0_answers_19 ?_
  exact X_iret C rfl dX0_answers_20 (hn s2 _ h)

def w_X0_states (st : St) (p1 : Int32) (Φ : St → Int32 → Prop) : Prop := w_X0_in p1.toInt64 2 3 (fun (r1 : Int32) => w_X0_must st r1 (fun (s10 : St) => ∀ v29 : Int32, v29 = (sI s10 2 0) → w_X1_states 2 s10 p1 (fun (s32 : St) => ∀ s39, s39 = putI s32 0 43 0 → Φ s39 v29)) (fun (s11 : St) (a12 : Nat) => w_X0_answers s11 a12 (fun (s16 : St) (r15 : Int32) => Φ s16 r15)))
theorem nm_X0_states : yX0_states.cls ≠ "java/lang/invoke/MethodHandle" ∧ yX0_states.cls ≠ "java/lang/invoke/VarHandle" ∧ (parseMethodDescriptor yX0_states.desc).map (fun d => d.parameters.length) = some 1 := by decide +kernel
theorem e_X0_states : plainFor yX0_states = true := plainFor_of_name (by decide +kernel)
theorem m_X0_states {θ : Th} {l : Launch} (hl0 : l.stackTraces = false) (hX : LX θ) {d : Nat} (hd : 6 ≤ d) (st : St) (p1 : Int32) {Φ : St → Int32 → Prop} (h : w_X0_states st p1 Φ) : Ct θ l yX0_states (wsW_ yX0_states cX0_states 3 (some Jvm.ClassFile.FieldType.int) [(0, 36, 37, 1)]) d [.ref (ad θ 0), .int p1] st (pI Φ, noX) := by
  refine Ct_entryW hl0 e_X0_states (Nat.le_of_ble_eq_true rfl) (fun κ hκ _ C => ?_)
  have hn : ∀ st r, Φ st r → ((pI Φ, noX) : Ph).1 st (some (.int r)) := fun st r q => ⟨r, rfl, q⟩
  change X _ _ _ _ _ [(0, .ref (ad θ 0)), (1, .int p1)] _
  unfold w_X0_states at h
  refine X_iload_n C dX0_states_0 rfl 1 rfl ?_
  refine X_i2l C dX0_states_1 ?_
  refine X_ldc2 C q413 dX0_states_2 ?_
  refine X_ldc2 C q414 dX0_states_5 ?_
  refine X_callS (As := [_, _, _]) (rest := []) C q415 q416 q132 q417 nm_X0_in rfl dX0_states_8 (m_X0_in (Cx_l C) (d := d - 1) (by omega) st p1.toInt64 2 3 h) (by omega) (by decide) (Nat.le_of_ble_eq_true rfl) (fun s7 w2 hE3 hP4 => ?_) (fun s8 E5 q6 hE3 hP4 => ?_)
  rotate_left
  · exact False.elim hP4
  obtain ⟨r1, rfl, rfl, h⟩ := hP4
  refine X_tls ?_
  refine X_callS (As := [_]) (rest := []) C q418 q419 q132 q420 nm_X0_must rfl dX0_states_11 (m_X0_must (Cx_l C) hX (d := d - 1) (by omega) st r1 h) (by omega) (by decide) (Nat.le_of_ble_eq_true rfl) (fun s10 w23 hE24 hP25 => ?_) (fun s28 E26 q27 hE24 hP25 => ?_)
  rotate_left
  · rcases hP25 with ⟨rfl, a_, rfl, hb_, hs_, h⟩
    refine XT_catch C [] ⟨0, 36, 37, 1⟩ [] rfl (fun _ h => absurd h List.not_mem_nil) (by decide) (by decide) q412 q425 ?_
    refine X_astore_n C dX0_states_37 rfl (isRV_r _) (lo2 := [(2, _), (0, _), (1, _)]) (by decide) rfl ?_
    refine X_aload_n C dX0_states_38 rfl 1 rfl (isRV_r _) ?_
    refine X_aload_n C dX0_states_39 rfl 0 rfl (isRV_r _) ?_
    refine X_callVS (ci := 0) (q := (RX0, TX0, 49)) (As := [_]) (rest := []) C rfl (LX_S hX (k := 0) rfl) q512 q514 qs4 q132 q515 ⟨rfl, nm_X0_answers⟩ rfl dX0_states_40 (m_X0_answers (Cx_l C) hX (d := d - 1) (by omega) s28 a_ hs_ hb_ h) (by omega) (by decide) (Nat.le_of_ble_eq_true rfl) (fun s16 w17 hE18 hP19 => ?_) (fun s22 E20 q21 hE18 hP19 => ?_)
    rotate_left
    · exact False.elim hP19
    obtain ⟨r15, rfl, h⟩ := hP19
    refine X_tls ?_
    have hs_ := Ext_sh hE18 hs_ (by decide)
    exact X_iret C rfl dX0_states_43 (hn s16 _ h)
  obtain ⟨rfl, h⟩ := hP25
  refine X_tln ?_
  refine X_aload_n C dX0_states_14 rfl 0 rfl (isRV_r _) ?_
  refine X_getF (ci := 0) (j := 1) (q := (RX0, TX0, 49)) C rfl (by decide) q261 rfl dX0_states_15 (b := 2) (LX_S hX (k := 0) rfl) (LX_F hX (k := 0) (j := 1) rfl) rfl ?_
  refine X_getNS (ci := 1) (j := 0) (q := (RX1, TX1, 10)) C rfl (by decide) q189 rfl dX0_states_18 (LH_0 (LX_H2 hX)) (v := .int (sI s10 2 0)) rfl ?_
  refine X_topi (fun v29 e30 => ?_)
  have h := h v29 e30
  refine X_istore_n C dX0_states_21 rfl (lo2 := [(2, _), (0, _), (1, _)]) (by decide) rfl ?_
  refine X_aload_n C dX0_states_22 rfl 1 rfl (isRV_r _) ?_
  refine X_getF (ci := 0) (j := 1) (q := (RX0, TX0, 49)) C rfl (by decide) q261 rfl dX0_states_23 (b := 2) (LX_S hX (k := 0) rfl) (LX_F hX (k := 0) (j := 1) rfl) rfl ?_
  refine X_iload_n C dX0_states_26 rfl 2 rfl ?_
  refine X_callVS (ci := 1) (q := (RX1, TX1, 10)) (As := [_]) (rest := []) C rfl (LH_0 (LX_H2 hX)) q508 q509 q510 q133 q511 ⟨rfl, nm_X1_states⟩ rfl dX0_states_27 (m_X1_states (Cx_l C) (LX_H2 hX) (d := d - 1) (by omega) s10 p1 h) (by omega) (by decide) (Nat.le_of_ble_eq_true rfl) (fun s32 w33 hE34 hP35 => ?_) (fun s38 E36 q37 hE34 hP35 => ?_)
  rotate_left
  · exact False.elim hP35
  obtain ⟨rfl, h⟩ := hP35
  refine X_tln ?_
  refine X_aload_n C dX0_states_30 rfl 1 rfl (isRV_r _) ?_
  refine X_iconst (v := 0) C dX0_states_31 rfl ?_
  refine X_putSI (ci := 0) (j := 43) (q := (RX0, TX0, 49)) C rfl (by decide) q303 rfl rfl dX0_states_32 (LX_S hX (k := 0) rfl) rfl rfl rfl ?_
  refine X_nm (fun s39 e40 => ?_)
  have h := h s39 e40
  refine X_iload_n C dX0_states_35 rfl 0 rfl ?_
  exact X_iret C rfl dX0_states_36 (hn s39 _ h)

def w_X0_parts (st : St) (p1 : Int32) (Φ : St → Int32 → Prop) : Prop := w_X0_in p1.toInt64 1 4 (fun (r1 : Int32) => w_X0_must st r1 (fun (s10 : St) => ∀ v29 : Int32, v29 = (sI s10 2 1) → w_X1_parts 2 s10 p1 (fun (s32 : St) => ∀ s39, s39 = putI s32 0 43 0 → Φ s39 v29)) (fun (s11 : St) (a12 : Nat) => w_X0_answers s11 a12 (fun (s16 : St) (r15 : Int32) => Φ s16 r15)))
theorem nm_X0_parts : yX0_parts.cls ≠ "java/lang/invoke/MethodHandle" ∧ yX0_parts.cls ≠ "java/lang/invoke/VarHandle" ∧ (parseMethodDescriptor yX0_parts.desc).map (fun d => d.parameters.length) = some 1 := by decide +kernel
theorem e_X0_parts : plainFor yX0_parts = true := plainFor_of_name (by decide +kernel)
theorem m_X0_parts {θ : Th} {l : Launch} (hl0 : l.stackTraces = false) (hX : LX θ) {d : Nat} (hd : 6 ≤ d) (st : St) (p1 : Int32) {Φ : St → Int32 → Prop} (h : w_X0_parts st p1 Φ) : Ct θ l yX0_parts (wsW_ yX0_parts cX0_parts 3 (some Jvm.ClassFile.FieldType.int) [(0, 34, 35, 1)]) d [.ref (ad θ 0), .int p1] st (pI Φ, noX) := by
  refine Ct_entryW hl0 e_X0_parts (Nat.le_of_ble_eq_true rfl) (fun κ hκ _ C => ?_)
  have hn : ∀ st r, Φ st r → ((pI Φ, noX) : Ph).1 st (some (.int r)) := fun st r q => ⟨r, rfl, q⟩
  change X _ _ _ _ _ [(0, .ref (ad θ 0)), (1, .int p1)] _
  unfold w_X0_parts at h
  refine X_iload_n C dX0_parts_0 rfl 1 rfl ?_
  refine X_i2l C dX0_parts_1 ?_
  refine X_lconst (v := 1) C dX0_parts_2 rfl ?_
  refine X_ldc2 C q521 dX0_parts_3 ?_
  refine X_callS (As := [_, _, _]) (rest := []) C q415 q416 q132 q417 nm_X0_in rfl dX0_parts_6 (m_X0_in (Cx_l C) (d := d - 1) (by omega) st p1.toInt64 1 4 h) (by omega) (by decide) (Nat.le_of_ble_eq_true rfl) (fun s7 w2 hE3 hP4 => ?_) (fun s8 E5 q6 hE3 hP4 => ?_)
  rotate_left
  · exact False.elim hP4
  obtain ⟨r1, rfl, rfl, h⟩ := hP4
  refine X_tls ?_
  refine X_callS (As := [_]) (rest := []) C q418 q419 q132 q420 nm_X0_must rfl dX0_parts_9 (m_X0_must (Cx_l C) hX (d := d - 1) (by omega) st r1 h) (by omega) (by decide) (Nat.le_of_ble_eq_true rfl) (fun s10 w23 hE24 hP25 => ?_) (fun s28 E26 q27 hE24 hP25 => ?_)
  rotate_left
  · rcases hP25 with ⟨rfl, a_, rfl, hb_, hs_, h⟩
    refine XT_catch C [] ⟨0, 34, 35, 1⟩ [] rfl (fun _ h => absurd h List.not_mem_nil) (by decide) (by decide) q412 q425 ?_
    refine X_astore_n C dX0_parts_35 rfl (isRV_r _) (lo2 := [(2, _), (0, _), (1, _)]) (by decide) rfl ?_
    refine X_aload_n C dX0_parts_36 rfl 1 rfl (isRV_r _) ?_
    refine X_aload_n C dX0_parts_37 rfl 0 rfl (isRV_r _) ?_
    refine X_callVS (ci := 0) (q := (RX0, TX0, 49)) (As := [_]) (rest := []) C rfl (LX_S hX (k := 0) rfl) q512 q514 qs4 q132 q515 ⟨rfl, nm_X0_answers⟩ rfl dX0_parts_38 (m_X0_answers (Cx_l C) hX (d := d - 1) (by omega) s28 a_ hs_ hb_ h) (by omega) (by decide) (Nat.le_of_ble_eq_true rfl) (fun s16 w17 hE18 hP19 => ?_) (fun s22 E20 q21 hE18 hP19 => ?_)
    rotate_left
    · exact False.elim hP19
    obtain ⟨r15, rfl, h⟩ := hP19
    refine X_tls ?_
    have hs_ := Ext_sh hE18 hs_ (by decide)
    exact X_iret C rfl dX0_parts_41 (hn s16 _ h)
  obtain ⟨rfl, h⟩ := hP25
  refine X_tln ?_
  refine X_aload_n C dX0_parts_12 rfl 0 rfl (isRV_r _) ?_
  refine X_getF (ci := 0) (j := 1) (q := (RX0, TX0, 49)) C rfl (by decide) q261 rfl dX0_parts_13 (b := 2) (LX_S hX (k := 0) rfl) (LX_F hX (k := 0) (j := 1) rfl) rfl ?_
  refine X_getNS (ci := 1) (j := 1) (q := (RX1, TX1, 10)) C rfl (by decide) q191 rfl dX0_parts_16 (LH_0 (LX_H2 hX)) (v := .int (sI s10 2 1)) rfl ?_
  refine X_topi (fun v29 e30 => ?_)
  have h := h v29 e30
  refine X_istore_n C dX0_parts_19 rfl (lo2 := [(2, _), (0, _), (1, _)]) (by decide) rfl ?_
  refine X_aload_n C dX0_parts_20 rfl 1 rfl (isRV_r _) ?_
  refine X_getF (ci := 0) (j := 1) (q := (RX0, TX0, 49)) C rfl (by decide) q261 rfl dX0_parts_21 (b := 2) (LX_S hX (k := 0) rfl) (LX_F hX (k := 0) (j := 1) rfl) rfl ?_
  refine X_iload_n C dX0_parts_24 rfl 2 rfl ?_
  refine X_callVS (ci := 1) (q := (RX1, TX1, 10)) (As := [_]) (rest := []) C rfl (LH_0 (LX_H2 hX)) q522 q523 q524 q133 q525 ⟨rfl, nm_X1_parts⟩ rfl dX0_parts_25 (m_X1_parts (Cx_l C) (LX_H2 hX) (d := d - 1) (by omega) s10 p1 h) (by omega) (by decide) (Nat.le_of_ble_eq_true rfl) (fun s32 w33 hE34 hP35 => ?_) (fun s38 E36 q37 hE34 hP35 => ?_)
  rotate_left
  · exact False.elim hP35
  obtain ⟨rfl, h⟩ := hP35
  refine X_tln ?_
  refine X_aload_n C dX0_parts_28 rfl 1 rfl (isRV_r _) ?_
  refine X_iconst (v := 0) C dX0_parts_29 rfl ?_
  refine X_putSI (ci := 0) (j := 43) (q := (RX0, TX0, 49)) C rfl (by decide) q303 rfl rfl dX0_parts_30 (LX_S hX (k := 0) rfl) rfl rfl rfl ?_
  refine X_nm (fun s39 e40 => ?_)
  have h := h s39 e40
  refine X_iload_n C dX0_parts_33 rfl 0 rfl ?_
  exact X_iret C rfl dX0_parts_34 (hn s39 _ h)

def w_X0_size_b29 (Φ : St → Int32 → Prop) (st : St) (x1 : Int32) (x2 : Int32) (z0 : Int32) : Prop := w_X0_must st z0 (fun (s11 : St) => ∀ v30 : Int32, v30 = ((10 * (sI s11 2 2)) + (sI s11 2 3)) → ∀ s32, s32 = putI s11 2 2 x1 → ∀ s34, s34 = putI s32 2 3 x2 → Φ s34 v30) (fun (s12 : St) (a13 : Nat) => w_X0_answers s12 a13 (fun (s17 : St) (r16 : Int32) => Φ s17 r16))
theorem t_X0_size_b29 {θ : Th} {κ : Kx} {Ph : Ph} (hX : LX θ) {d : Nat} (hd : 6 ≤ d) (C : Cx θ κ yX0_size cX0_size 4 (some Jvm.ClassFile.FieldType.int) [(0, 68, 69, 1)] d) {Φ : St → Int32 → Prop} (hn : ∀ st r, Φ st r → Ph.1 st (some (.int r))) (st : St) (x1 : Int32) (x2 : Int32) (z0 : Int32) (h : w_X0_size_b29 Φ st x1 x2 z0) : X θ κ Ph st 29 [(0, .ref (ad θ 0)), (1, .int x1), (2, .int x2)] [.int z0] := by
  unfold w_X0_size_b29 at h
  refine X_callS (As := [_]) (rest := []) C q418 q419 q132 q420 nm_X0_must rfl dX0_size_29 (m_X0_must (Cx_l C) hX (d := d - 1) (by omega) st z0 h) (by omega) (by decide) (Nat.le_of_ble_eq_true rfl) (fun s11 w24 hE25 hP26 => ?_) (fun s29 E27 q28 hE25 hP26 => ?_)
  rotate_left
  · rcases hP26 with ⟨rfl, a_, rfl, hb_, hs_, h⟩
    refine XT_catch C [] ⟨0, 68, 69, 1⟩ [] rfl (fun _ h => absurd h List.not_mem_nil) (by decide) (by decide) q412 q425 ?_
    refine X_astore_n C dX0_size_69 rfl (isRV_r _) (lo2 := [(3, _), (0, _), (1, _), (2, _)]) (by decide) rfl ?_
    refine X_aload_n C dX0_size_70 rfl 1 rfl (isRV_r _) ?_
    refine X_aload_n C dX0_size_71 rfl 0 rfl (isRV_r _) ?_
    refine X_callVS (ci := 0) (q := (RX0, TX0, 49)) (As := [_]) (rest := []) C rfl (LX_S hX (k := 0) rfl) q512 q514 qs4 q132 q515 ⟨rfl, nm_X0_answers⟩ rfl dX0_size_72 (m_X0_answers (Cx_l C) hX (d := d - 1) (by omega) s29 a_ hs_ hb_ h) (by omega) (by decide) (Nat.le_of_ble_eq_true rfl) (fun s17 w18 hE19 hP20 => ?_) (fun s23 E21 q22 hE19 hP20 => ?_)
    rotate_left
    · exact False.elim hP20
    obtain ⟨r16, rfl, h⟩ := hP20
    refine X_tls ?_
    have hs_ := Ext_sh hE19 hs_ (by decide)
    exact X_iret C rfl dX0_size_75 (hn s17 _ h)
  obtain ⟨rfl, h⟩ := hP26
  refine X_tln ?_
  refine X_bipush (v := 10) C dX0_size_32 rfl ?_
  refine X_aload_n C dX0_size_34 rfl 0 rfl (isRV_r _) ?_
  refine X_getF (ci := 0) (j := 1) (q := (RX0, TX0, 49)) C rfl (by decide) q261 rfl dX0_size_35 (b := 2) (LX_S hX (k := 0) rfl) (LX_F hX (k := 0) (j := 1) rfl) rfl ?_
  refine X_getNS (ci := 1) (j := 2) (q := (RX1, TX1, 10)) C rfl (by decide) q193 rfl dX0_size_38 (LH_0 (LX_H2 hX)) (v := .int (sI s11 2 2)) rfl ?_
  refine X_imul C dX0_size_41 ?_
  refine X_aload_n C dX0_size_42 rfl 0 rfl (isRV_r _) ?_
  refine X_getF (ci := 0) (j := 1) (q := (RX0, TX0, 49)) C rfl (by decide) q261 rfl dX0_size_43 (b := 2) (LX_S hX (k := 0) rfl) (LX_F hX (k := 0) (j := 1) rfl) rfl ?_
  refine X_getNS (ci := 1) (j := 3) (q := (RX1, TX1, 10)) C rfl (by decide) q195 rfl dX0_size_46 (LH_0 (LX_H2 hX)) (v := .int (sI s11 2 3)) rfl ?_
  refine X_iadd C dX0_size_49 ?_
  refine X_topi (fun v30 e31 => ?_)
  have h := h v30 e31
  refine X_istore_n C dX0_size_50 rfl (lo2 := [(3, _), (0, _), (1, _), (2, _)]) (by decide) rfl ?_
  refine X_aload_n C dX0_size_51 rfl 1 rfl (isRV_r _) ?_
  refine X_getF (ci := 0) (j := 1) (q := (RX0, TX0, 49)) C rfl (by decide) q261 rfl dX0_size_52 (b := 2) (LX_S hX (k := 0) rfl) (LX_F hX (k := 0) (j := 1) rfl) rfl ?_
  refine X_iload_n C dX0_size_55 rfl 2 rfl ?_
  refine X_putNSI (ci := 1) (j := 2) (q := (RX1, TX1, 10)) C rfl (by decide) q193 rfl rfl dX0_size_56 (LH_0 (LX_H2 hX)) rfl rfl rfl ?_
  refine X_nm (fun s32 e33 => ?_)
  have h := h s32 e33
  refine X_aload_n C dX0_size_59 rfl 1 rfl (isRV_r _) ?_
  refine X_getF (ci := 0) (j := 1) (q := (RX0, TX0, 49)) C rfl (by decide) q261 rfl dX0_size_60 (b := 2) (LX_S hX (k := 0) rfl) (LX_F hX (k := 0) (j := 1) rfl) rfl ?_
  refine X_iload_n C dX0_size_63 rfl 3 rfl ?_
  refine X_putNSI (ci := 1) (j := 3) (q := (RX1, TX1, 10)) C rfl (by decide) q195 rfl rfl dX0_size_64 (LH_0 (LX_H2 hX)) rfl rfl rfl ?_
  refine X_nm (fun s34 e35 => ?_)
  have h := h s34 e35
  refine X_iload_n C dX0_size_67 rfl 0 rfl ?_
  exact X_iret C rfl dX0_size_68 (hn s34 _ h)
def w_X0_size_b28 (Φ : St → Int32 → Prop) (st : St) (x1 : Int32) (x2 : Int32) : Prop := w_X0_size_b29 Φ st x1 x2 0
theorem t_X0_size_b28 {θ : Th} {κ : Kx} {Ph : Ph} (hX : LX θ) {d : Nat} (hd : 6 ≤ d) (C : Cx θ κ yX0_size cX0_size 4 (some Jvm.ClassFile.FieldType.int) [(0, 68, 69, 1)] d) {Φ : St → Int32 → Prop} (hn : ∀ st r, Φ st r → Ph.1 st (some (.int r))) (st : St) (x1 : Int32) (x2 : Int32) (h : w_X0_size_b28 Φ st x1 x2) : X θ κ Ph st 28 [(0, .ref (ad θ 0)), (1, .int x1), (2, .int x2)] [] := by
  unfold w_X0_size_b28 at h
  refine X_iconst (v := 0) C dX0_size_28 rfl ?_
  exact t_X0_size_b29 hX hd C hn st x1 x2 0 h
def w_X0_size (st : St) (p1 : Int32) (p2 : Int32) (Φ : St → Int32 → Prop) : Prop := w_X0_in p1.toInt64 1 3 (fun (r1 : Int32) => ((r1 = 0) → w_X0_size_b28 Φ st p1 p2) ∧ ((¬ r1 = 0) → w_X0_in p2.toInt64 1 3 (fun (r36 : Int32) => ((r36 = 0) → w_X0_size_b28 Φ st p1 p2) ∧ ((¬ r36 = 0) → w_X0_size_b29 Φ st p1 p2 1))))
theorem nm_X0_size : yX0_size.cls ≠ "java/lang/invoke/MethodHandle" ∧ yX0_size.cls ≠ "java/lang/invoke/VarHandle" ∧ (parseMethodDescriptor yX0_size.desc).map (fun d => d.parameters.length) = some 2 := by decide +kernel
theorem e_X0_size : plainFor yX0_size = true := plainFor_of_name (by decide +kernel)
theorem m_X0_size {θ : Th} {l : Launch} (hl0 : l.stackTraces = false) (hX : LX θ) {d : Nat} (hd : 6 ≤ d) (st : St) (p1 : Int32) (p2 : Int32) {Φ : St → Int32 → Prop} (h : w_X0_size st p1 p2 Φ) : Ct θ l yX0_size (wsW_ yX0_size cX0_size 4 (some Jvm.ClassFile.FieldType.int) [(0, 68, 69, 1)]) d [.ref (ad θ 0), .int p1, .int p2] st (pI Φ, noX) := by
  refine Ct_entryW hl0 e_X0_size (Nat.le_of_ble_eq_true rfl) (fun κ hκ _ C => ?_)
  have hn : ∀ st r, Φ st r → ((pI Φ, noX) : Ph).1 st (some (.int r)) := fun st r q => ⟨r, rfl, q⟩
  change X _ _ _ _ _ [(0, .ref (ad θ 0)), (1, .int p1), (2, .int p2)] _
  unfold w_X0_size at h
  refine X_iload_n C dX0_size_0 rfl 1 rfl ?_
  refine X_i2l C dX0_size_1 ?_
  refine X_lconst (v := 1) C dX0_size_2 rfl ?_
  refine X_ldc2 C q414 dX0_size_3 ?_
  refine X_callS (As := [_, _, _]) (rest := []) C q415 q416 q132 q417 nm_X0_in rfl dX0_size_6 (m_X0_in (Cx_l C) (d := d - 1) (by omega) st p1.toInt64 1 3 h) (by omega) (by decide) (Nat.le_of_ble_eq_true rfl) (fun s7 w2 hE3 hP4 => ?_) (fun s8 E5 q6 hE3 hP4 => ?_)
  rotate_left
  · exact False.elim hP4
  obtain ⟨r1, rfl, rfl, h⟩ := hP4
  refine X_tls ?_
  refine X_if_eq (tgt := 28) C dX0_size_9 (by decide) (fun c9 => ?_) (fun c9 => ?_)
  · have h := h.1 c9
    exact t_X0_size_b28 hX hd C hn st p1 p2 h
  · have h := h.2 c9
    refine X_iload_n C dX0_size_12 rfl 2 rfl ?_
    refine X_i2l C dX0_size_13 ?_
    refine X_lconst (v := 1) C dX0_size_14 rfl ?_
    refine X_ldc2 C q414 dX0_size_15 ?_
    refine X_callS (As := [_, _, _]) (rest := []) C q415 q416 q132 q417 nm_X0_in rfl dX0_size_18 (m_X0_in (Cx_l C) (d := d - 1) (by omega) st p2.toInt64 1 3 h) (by omega) (by decide) (Nat.le_of_ble_eq_true rfl) (fun s42 w37 hE38 hP39 => ?_) (fun s43 E40 q41 hE38 hP39 => ?_)
    rotate_left
    · exact False.elim hP39
    obtain ⟨r36, rfl, rfl, h⟩ := hP39
    refine X_tls ?_
    refine X_if_eq (tgt := 28) C dX0_size_21 (by decide) (fun c44 => ?_) (fun c44 => ?_)
    · have h := h.1 c44
      exact t_X0_size_b28 hX hd C hn st p1 p2 h
    · have h := h.2 c44
      refine X_iconst (v := 1) C dX0_size_24 rfl ?_
      refine X_goto (tgt := 29) C dX0_size_25 (by decide) ?_
      exact t_X0_size_b29 hX hd C hn st p1 p2 1 h

def w_X0_cell_b41 (Φ : St → Int32 → Prop) (st : St) (x1 : Int32) (x2 : Int32) (x3 : Int32) (x4 : Int32) (z0 : Int32) : Prop := w_X0_must st z0 (fun (s11 : St) => vp_in x1 3 ∧ vp_in x2 3 ∧ vp_in x3 3 ∧ ∀ v33 : Int32, v33 = (sI s11 (2 + (3 + 4 * x1.toNatClampNeg + x2.toNatClampNeg)) x3.toNatClampNeg) → ∀ s35, s35 = putI s11 (2 + (3 + 4 * x1.toNatClampNeg + x2.toNatClampNeg)) (x3.toNatClampNeg) x4 → Φ s35 v33) (fun (s12 : St) (a13 : Nat) => w_X0_answers s12 a13 (fun (s17 : St) (r16 : Int32) => Φ s17 r16))
theorem t_X0_cell_b41 {θ : Th} {κ : Kx} {Ph : Ph} (hX : LX θ) {d : Nat} (hd : 6 ≤ d) (C : Cx θ κ yX0_cell cX0_cell 6 (some Jvm.ClassFile.FieldType.int) [(0, 76, 77, 1)] d) {Φ : St → Int32 → Prop} (hn : ∀ st r, Φ st r → Ph.1 st (some (.int r))) (st : St) (x1 : Int32) (x2 : Int32) (x3 : Int32) (x4 : Int32) (z0 : Int32) (h : w_X0_cell_b41 Φ st x1 x2 x3 x4 z0) : X θ κ Ph st 41 [(0, .ref (ad θ 0)), (1, .int x1), (2, .int x2), (3, .int x3), (4, .int x4)] [.int z0] := by
  unfold w_X0_cell_b41 at h
  refine X_callS (As := [_]) (rest := []) C q418 q419 q132 q420 nm_X0_must rfl dX0_cell_41 (m_X0_must (Cx_l C) hX (d := d - 1) (by omega) st z0 h) (by omega) (by decide) (Nat.le_of_ble_eq_true rfl) (fun s11 w24 hE25 hP26 => ?_) (fun s29 E27 q28 hE25 hP26 => ?_)
  rotate_left
  · rcases hP26 with ⟨rfl, a_, rfl, hb_, hs_, h⟩
    refine XT_catch C [] ⟨0, 76, 77, 1⟩ [] rfl (fun _ h => absurd h List.not_mem_nil) (by decide) (by decide) q412 q425 ?_
    refine X_astore C dX0_cell_77 (isRV_r _) (lo2 := [(5, _), (0, _), (1, _), (2, _), (3, _), (4, _)]) (by decide) rfl ?_
    refine X_aload_n C dX0_cell_79 rfl 1 rfl (isRV_r _) ?_
    refine X_aload C dX0_cell_80 0 rfl (isRV_r _) ?_
    refine X_callVS (ci := 0) (q := (RX0, TX0, 49)) (As := [_]) (rest := []) C rfl (LX_S hX (k := 0) rfl) q512 q514 qs4 q132 q515 ⟨rfl, nm_X0_answers⟩ rfl dX0_cell_82 (m_X0_answers (Cx_l C) hX (d := d - 1) (by omega) s29 a_ hs_ hb_ h) (by omega) (by decide) (Nat.le_of_ble_eq_true rfl) (fun s17 w18 hE19 hP20 => ?_) (fun s23 E21 q22 hE19 hP20 => ?_)
    rotate_left
    · exact False.elim hP20
    obtain ⟨r16, rfl, h⟩ := hP20
    refine X_tls ?_
    have hs_ := Ext_sh hE19 hs_ (by decide)
    exact X_iret C rfl dX0_cell_85 (hn s17 _ h)
  obtain ⟨rfl, h⟩ := hP26
  refine X_tln ?_
  refine X_aload_n C dX0_cell_44 rfl 0 rfl (isRV_r _) ?_
  refine X_getF (ci := 0) (j := 1) (q := (RX0, TX0, 49)) C rfl (by decide) q261 rfl dX0_cell_45 (b := 2) (LX_S hX (k := 0) rfl) (LX_F hX (k := 0) (j := 1) rfl) rfl ?_
  refine X_getNF (ci := 1) (j := 5) (q := (RX1, TX1, 10)) C rfl (by decide) q199 rfl dX0_cell_48 (b := (2 + 1)) (LH_0 (LX_H2 hX)) (LH_F (LX_H2 hX) (k := 0) (j := 5) rfl) rfl ?_
  refine X_iload_n C dX0_cell_51 rfl 1 rfl ?_
  have g30 := h.1
  have h := h.2
  refine X_aaldF C 7 rfl (LH_S (LX_H2 hX) (k := 1) rfl) (by decide) rfl (LH_L (LX_H2 hX) (k := 1) rfl) g30 rfl (b := (2 + (2 + 4 * x1.toNatClampNeg))) (LHf_sub (LX_H2 hX) (i := x1.toNatClampNeg) (in_lt g30)).2.2 dX0_cell_52 rfl ?_
  refine X_iload_n C dX0_cell_53 rfl 2 rfl ?_
  have g31 := h.1
  have h := h.2
  refine X_aaldF C 6 rfl (LHf_sub (LX_H2 hX) (i := x1.toNatClampNeg) (in_lt g30)).1 (by decide) rfl (LHf_sub (LX_H2 hX) (i := x1.toNatClampNeg) (in_lt g30)).2.1 g31 rfl (b := (2 + (3 + 4 * x1.toNatClampNeg + x2.toNatClampNeg))) (LHf_game (LX_H2 hX) (i := x1.toNatClampNeg) (j := x2.toNatClampNeg) (in_lt g30) (in_lt g31)).2.2 dX0_cell_54 rfl ?_
  refine X_iload_n C dX0_cell_55 rfl 3 rfl ?_
  have g32 := h.1
  have h := h.2
  refine X_ialdS C (LHf_game (LX_H2 hX) (i := x1.toNatClampNeg) (j := x2.toNatClampNeg) (in_lt g30) (in_lt g31)).1 (LHf_game (LX_H2 hX) (i := x1.toNatClampNeg) (j := x2.toNatClampNeg) (in_lt g30) (in_lt g31)).2.1 g32 rfl dX0_cell_56 ?_
  refine X_topi (fun v33 e34 => ?_)
  have h := h v33 e34
  refine X_istore C dX0_cell_57 (lo2 := [(5, _), (0, _), (1, _), (2, _), (3, _), (4, _)]) (by decide) rfl ?_
  refine X_aload_n C dX0_cell_59 rfl 1 rfl (isRV_r _) ?_
  refine X_getF (ci := 0) (j := 1) (q := (RX0, TX0, 49)) C rfl (by decide) q261 rfl dX0_cell_60 (b := 2) (LX_S hX (k := 0) rfl) (LX_F hX (k := 0) (j := 1) rfl) rfl ?_
  refine X_getNF (ci := 1) (j := 5) (q := (RX1, TX1, 10)) C rfl (by decide) q199 rfl dX0_cell_63 (b := (2 + 1)) (LH_0 (LX_H2 hX)) (LH_F (LX_H2 hX) (k := 0) (j := 5) rfl) rfl ?_
  refine X_iload_n C dX0_cell_66 rfl 2 rfl ?_
  refine X_aaldF C 7 rfl (LH_S (LX_H2 hX) (k := 1) rfl) (by decide) rfl (LH_L (LX_H2 hX) (k := 1) rfl) g30 rfl (b := (2 + (2 + 4 * x1.toNatClampNeg))) (LHf_sub (LX_H2 hX) (i := x1.toNatClampNeg) (in_lt g30)).2.2 dX0_cell_67 rfl ?_
  refine X_iload_n C dX0_cell_68 rfl 3 rfl ?_
  refine X_aaldF C 6 rfl (LHf_sub (LX_H2 hX) (i := x1.toNatClampNeg) (in_lt g30)).1 (by decide) rfl (LHf_sub (LX_H2 hX) (i := x1.toNatClampNeg) (in_lt g30)).2.1 g31 rfl (b := (2 + (3 + 4 * x1.toNatClampNeg + x2.toNatClampNeg))) (LHf_game (LX_H2 hX) (i := x1.toNatClampNeg) (j := x2.toNatClampNeg) (in_lt g30) (in_lt g31)).2.2 dX0_cell_69 rfl ?_
  refine X_iload_n C dX0_cell_70 rfl 4 rfl ?_
  refine X_iload C dX0_cell_71 5 rfl ?_
  refine X_iastS C (LHf_game (LX_H2 hX) (i := x1.toNatClampNeg) (j := x2.toNatClampNeg) (in_lt g30) (in_lt g31)).1 (LHf_game (LX_H2 hX) (i := x1.toNatClampNeg) (j := x2.toNatClampNeg) (in_lt g30) (in_lt g31)).2.1 g32 rfl dX0_cell_73 ?_
  refine X_nm (fun s35 e36 => ?_)
  have h := h s35 e36
  refine X_iload C dX0_cell_74 0 rfl ?_
  exact X_iret C rfl dX0_cell_76 (hn s35 _ h)
def w_X0_cell_b40 (Φ : St → Int32 → Prop) (st : St) (x1 : Int32) (x2 : Int32) (x3 : Int32) (x4 : Int32) : Prop := w_X0_cell_b41 Φ st x1 x2 x3 x4 0
theorem t_X0_cell_b40 {θ : Th} {κ : Kx} {Ph : Ph} (hX : LX θ) {d : Nat} (hd : 6 ≤ d) (C : Cx θ κ yX0_cell cX0_cell 6 (some Jvm.ClassFile.FieldType.int) [(0, 76, 77, 1)] d) {Φ : St → Int32 → Prop} (hn : ∀ st r, Φ st r → Ph.1 st (some (.int r))) (st : St) (x1 : Int32) (x2 : Int32) (x3 : Int32) (x4 : Int32) (h : w_X0_cell_b40 Φ st x1 x2 x3 x4) : X θ κ Ph st 40 [(0, .ref (ad θ 0)), (1, .int x1), (2, .int x2), (3, .int x3), (4, .int x4)] [] := by
  unfold w_X0_cell_b40 at h
  refine X_iconst (v := 0) C dX0_cell_40 rfl ?_
  exact t_X0_cell_b41 hX hd C hn st x1 x2 x3 x4 0 h
def w_X0_cell (st : St) (p1 : Int32) (p2 : Int32) (p3 : Int32) (p4 : Int32) (Φ : St → Int32 → Prop) : Prop := w_X0_isPlace p1 (fun (r1 : Int32) => ((r1 = 0) → w_X0_cell_b40 Φ st p1 p2 p3 p4) ∧ ((¬ r1 = 0) → w_X0_isPlace p2 (fun (r37 : Int32) => ((r37 = 0) → w_X0_cell_b40 Φ st p1 p2 p3 p4) ∧ ((¬ r37 = 0) → w_X0_isPlace p3 (fun (r46 : Int32) => ((r46 = 0) → w_X0_cell_b40 Φ st p1 p2 p3 p4) ∧ ((¬ r46 = 0) → w_X0_in p4.toInt64 (-20) 20 (fun (r55 : Int32) => ((r55 = 0) → w_X0_cell_b40 Φ st p1 p2 p3 p4) ∧ ((¬ r55 = 0) → w_X0_cell_b41 Φ st p1 p2 p3 p4 1))))))))
theorem nm_X0_cell : yX0_cell.cls ≠ "java/lang/invoke/MethodHandle" ∧ yX0_cell.cls ≠ "java/lang/invoke/VarHandle" ∧ (parseMethodDescriptor yX0_cell.desc).map (fun d => d.parameters.length) = some 4 := by decide +kernel
theorem e_X0_cell : plainFor yX0_cell = true := plainFor_of_name (by decide +kernel)
theorem m_X0_cell {θ : Th} {l : Launch} (hl0 : l.stackTraces = false) (hX : LX θ) {d : Nat} (hd : 6 ≤ d) (st : St) (p1 : Int32) (p2 : Int32) (p3 : Int32) (p4 : Int32) {Φ : St → Int32 → Prop} (h : w_X0_cell st p1 p2 p3 p4 Φ) : Ct θ l yX0_cell (wsW_ yX0_cell cX0_cell 6 (some Jvm.ClassFile.FieldType.int) [(0, 76, 77, 1)]) d [.ref (ad θ 0), .int p1, .int p2, .int p3, .int p4] st (pI Φ, noX) := by
  refine Ct_entryW hl0 e_X0_cell (Nat.le_of_ble_eq_true rfl) (fun κ hκ _ C => ?_)
  have hn : ∀ st r, Φ st r → ((pI Φ, noX) : Ph).1 st (some (.int r)) := fun st r q => ⟨r, rfl, q⟩
  change X _ _ _ _ _ [(0, .ref (ad θ 0)), (1, .int p1), (2, .int p2), (3, .int p3), (4, .int p4)] _
  unfold w_X0_cell at h
  refine X_iload_n C dX0_cell_0 rfl 1 rfl ?_
  refine X_callS (As := [_]) (rest := []) C q534 q535 q132 q536 nm_X0_isPlace rfl dX0_cell_1 (m_X0_isPlace (Cx_l C) (d := d - 1) (by omega) st p1 h) (by omega) (by decide) (Nat.le_of_ble_eq_true rfl) (fun s7 w2 hE3 hP4 => ?_) (fun s8 E5 q6 hE3 hP4 => ?_)
  rotate_left
  · exact False.elim hP4
  obtain ⟨r1, rfl, rfl, h⟩ := hP4
  refine X_tls ?_
  refine X_if_eq (tgt := 40) C dX0_cell_4 (by decide) (fun c9 => ?_) (fun c9 => ?_)
  · have h := h.1 c9
    exact t_X0_cell_b40 hX hd C hn st p1 p2 p3 p4 h
  · have h := h.2 c9
    refine X_iload_n C dX0_cell_7 rfl 2 rfl ?_
    refine X_callS (As := [_]) (rest := []) C q534 q535 q132 q536 nm_X0_isPlace rfl dX0_cell_8 (m_X0_isPlace (Cx_l C) (d := d - 1) (by omega) st p2 h) (by omega) (by decide) (Nat.le_of_ble_eq_true rfl) (fun s43 w38 hE39 hP40 => ?_) (fun s44 E41 q42 hE39 hP40 => ?_)
    rotate_left
    · exact False.elim hP40
    obtain ⟨r37, rfl, rfl, h⟩ := hP40
    refine X_tls ?_
    refine X_if_eq (tgt := 40) C dX0_cell_11 (by decide) (fun c45 => ?_) (fun c45 => ?_)
    · have h := h.1 c45
      exact t_X0_cell_b40 hX hd C hn st p1 p2 p3 p4 h
    · have h := h.2 c45
      refine X_iload_n C dX0_cell_14 rfl 3 rfl ?_
      refine X_callS (As := [_]) (rest := []) C q534 q535 q132 q536 nm_X0_isPlace rfl dX0_cell_15 (m_X0_isPlace (Cx_l C) (d := d - 1) (by omega) st p3 h) (by omega) (by decide) (Nat.le_of_ble_eq_true rfl) (fun s52 w47 hE48 hP49 => ?_) (fun s53 E50 q51 hE48 hP49 => ?_)
      rotate_left
      · exact False.elim hP49
      obtain ⟨r46, rfl, rfl, h⟩ := hP49
      refine X_tls ?_
      refine X_if_eq (tgt := 40) C dX0_cell_18 (by decide) (fun c54 => ?_) (fun c54 => ?_)
      · have h := h.1 c54
        exact t_X0_cell_b40 hX hd C hn st p1 p2 p3 p4 h
      · have h := h.2 c54
        refine X_iload C dX0_cell_21 4 rfl ?_
        refine X_i2l C dX0_cell_23 ?_
        refine X_ldc2 C q537 dX0_cell_24 ?_
        refine X_ldc2 C q538 dX0_cell_27 ?_
        refine X_callS (As := [_, _, _]) (rest := []) C q415 q416 q132 q417 nm_X0_in rfl dX0_cell_30 (m_X0_in (Cx_l C) (d := d - 1) (by omega) st p4.toInt64 (-20) 20 h) (by omega) (by decide) (Nat.le_of_ble_eq_true rfl) (fun s61 w56 hE57 hP58 => ?_) (fun s62 E59 q60 hE57 hP58 => ?_)
        rotate_left
        · exact False.elim hP58
        obtain ⟨r55, rfl, rfl, h⟩ := hP58
        refine X_tls ?_
        refine X_if_eq (tgt := 40) C dX0_cell_33 (by decide) (fun c63 => ?_) (fun c63 => ?_)
        · have h := h.1 c63
          exact t_X0_cell_b40 hX hd C hn st p1 p2 p3 p4 h
        · have h := h.2 c63
          refine X_iconst (v := 1) C dX0_cell_36 rfl ?_
          refine X_goto (tgt := 41) C dX0_cell_37 (by decide) ?_
          exact t_X0_cell_b41 hX hd C hn st p1 p2 p3 p4 1 h

def w_X0_look_b26 (Φ : St → Int32 → Prop) (st : St) (x1 : Int32) (x2 : Int32) (x3 : Int32) (z0 : Int32) : Prop := w_X0_must st z0 (fun (s11 : St) => vp_in x1 3 ∧ vp_in x2 3 ∧ vp_in x3 3 ∧ Φ s11 (sI s11 (2 + (3 + 4 * x1.toNatClampNeg + x2.toNatClampNeg)) x3.toNatClampNeg)) (fun (s12 : St) (a13 : Nat) => w_X0_answers s12 a13 (fun (s17 : St) (r16 : Int32) => Φ s17 r16))
theorem t_X0_look_b26 {θ : Th} {κ : Kx} {Ph : Ph} (hX : LX θ) {d : Nat} (hd : 6 ≤ d) (C : Cx θ κ yX0_look cX0_look 5 (some Jvm.ClassFile.FieldType.int) [(0, 42, 43, 1)] d) {Φ : St → Int32 → Prop} (hn : ∀ st r, Φ st r → Ph.1 st (some (.int r))) (st : St) (x1 : Int32) (x2 : Int32) (x3 : Int32) (z0 : Int32) (h : w_X0_look_b26 Φ st x1 x2 x3 z0) : X θ κ Ph st 26 [(0, .ref (ad θ 0)), (1, .int x1), (2, .int x2), (3, .int x3)] [.int z0] := by
  unfold w_X0_look_b26 at h
  refine X_callS (As := [_]) (rest := []) C q418 q419 q132 q420 nm_X0_must rfl dX0_look_26 (m_X0_must (Cx_l C) hX (d := d - 1) (by omega) st z0 h) (by omega) (by decide) (Nat.le_of_ble_eq_true rfl) (fun s11 w24 hE25 hP26 => ?_) (fun s29 E27 q28 hE25 hP26 => ?_)
  rotate_left
  · rcases hP26 with ⟨rfl, a_, rfl, hb_, hs_, h⟩
    refine XT_catch C [] ⟨0, 42, 43, 1⟩ [] rfl (fun _ h => absurd h List.not_mem_nil) (by decide) (by decide) q412 q425 ?_
    refine X_astore C dX0_look_43 (isRV_r _) (lo2 := [(4, _), (0, _), (1, _), (2, _), (3, _)]) (by decide) rfl ?_
    refine X_aload_n C dX0_look_45 rfl 1 rfl (isRV_r _) ?_
    refine X_aload C dX0_look_46 0 rfl (isRV_r _) ?_
    refine X_callVS (ci := 0) (q := (RX0, TX0, 49)) (As := [_]) (rest := []) C rfl (LX_S hX (k := 0) rfl) q512 q514 qs4 q132 q515 ⟨rfl, nm_X0_answers⟩ rfl dX0_look_48 (m_X0_answers (Cx_l C) hX (d := d - 1) (by omega) s29 a_ hs_ hb_ h) (by omega) (by decide) (Nat.le_of_ble_eq_true rfl) (fun s17 w18 hE19 hP20 => ?_) (fun s23 E21 q22 hE19 hP20 => ?_)
    rotate_left
    · exact False.elim hP20
    obtain ⟨r16, rfl, h⟩ := hP20
    refine X_tls ?_
    have hs_ := Ext_sh hE19 hs_ (by decide)
    exact X_iret C rfl dX0_look_51 (hn s17 _ h)
  obtain ⟨rfl, h⟩ := hP26
  refine X_tln ?_
  refine X_aload_n C dX0_look_29 rfl 0 rfl (isRV_r _) ?_
  refine X_getF (ci := 0) (j := 1) (q := (RX0, TX0, 49)) C rfl (by decide) q261 rfl dX0_look_30 (b := 2) (LX_S hX (k := 0) rfl) (LX_F hX (k := 0) (j := 1) rfl) rfl ?_
  refine X_getNF (ci := 1) (j := 5) (q := (RX1, TX1, 10)) C rfl (by decide) q199 rfl dX0_look_33 (b := (2 + 1)) (LH_0 (LX_H2 hX)) (LH_F (LX_H2 hX) (k := 0) (j := 5) rfl) rfl ?_
  refine X_iload_n C dX0_look_36 rfl 1 rfl ?_
  have g30 := h.1
  have h := h.2
  refine X_aaldF C 7 rfl (LH_S (LX_H2 hX) (k := 1) rfl) (by decide) rfl (LH_L (LX_H2 hX) (k := 1) rfl) g30 rfl (b := (2 + (2 + 4 * x1.toNatClampNeg))) (LHf_sub (LX_H2 hX) (i := x1.toNatClampNeg) (in_lt g30)).2.2 dX0_look_37 rfl ?_
  refine X_iload_n C dX0_look_38 rfl 2 rfl ?_
  have g31 := h.1
  have h := h.2
  refine X_aaldF C 6 rfl (LHf_sub (LX_H2 hX) (i := x1.toNatClampNeg) (in_lt g30)).1 (by decide) rfl (LHf_sub (LX_H2 hX) (i := x1.toNatClampNeg) (in_lt g30)).2.1 g31 rfl (b := (2 + (3 + 4 * x1.toNatClampNeg + x2.toNatClampNeg))) (LHf_game (LX_H2 hX) (i := x1.toNatClampNeg) (j := x2.toNatClampNeg) (in_lt g30) (in_lt g31)).2.2 dX0_look_39 rfl ?_
  refine X_iload_n C dX0_look_40 rfl 3 rfl ?_
  have g32 := h.1
  have h := h.2
  refine X_ialdS C (LHf_game (LX_H2 hX) (i := x1.toNatClampNeg) (j := x2.toNatClampNeg) (in_lt g30) (in_lt g31)).1 (LHf_game (LX_H2 hX) (i := x1.toNatClampNeg) (j := x2.toNatClampNeg) (in_lt g30) (in_lt g31)).2.1 g32 rfl dX0_look_41 ?_
  exact X_iret C rfl dX0_look_42 (hn s11 _ h)
def w_X0_look_b25 (Φ : St → Int32 → Prop) (st : St) (x1 : Int32) (x2 : Int32) (x3 : Int32) : Prop := w_X0_look_b26 Φ st x1 x2 x3 0
theorem t_X0_look_b25 {θ : Th} {κ : Kx} {Ph : Ph} (hX : LX θ) {d : Nat} (hd : 6 ≤ d) (C : Cx θ κ yX0_look cX0_look 5 (some Jvm.ClassFile.FieldType.int) [(0, 42, 43, 1)] d) {Φ : St → Int32 → Prop} (hn : ∀ st r, Φ st r → Ph.1 st (some (.int r))) (st : St) (x1 : Int32) (x2 : Int32) (x3 : Int32) (h : w_X0_look_b25 Φ st x1 x2 x3) : X θ κ Ph st 25 [(0, .ref (ad θ 0)), (1, .int x1), (2, .int x2), (3, .int x3)] [] := by
  unfold w_X0_look_b25 at h
  refine X_iconst (v := 0) C dX0_look_25 rfl ?_
  exact t_X0_look_b26 hX hd C hn st x1 x2 x3 0 h
def w_X0_look (st : St) (p1 : Int32) (p2 : Int32) (p3 : Int32) (Φ : St → Int32 → Prop) : Prop := w_X0_isPlace p1 (fun (r1 : Int32) => ((r1 = 0) → w_X0_look_b25 Φ st p1 p2 p3) ∧ ((¬ r1 = 0) → w_X0_isPlace p2 (fun (r33 : Int32) => ((r33 = 0) → w_X0_look_b25 Φ st p1 p2 p3) ∧ ((¬ r33 = 0) → w_X0_isPlace p3 (fun (r42 : Int32) => ((r42 = 0) → w_X0_look_b25 Φ st p1 p2 p3) ∧ ((¬ r42 = 0) → w_X0_look_b26 Φ st p1 p2 p3 1))))))
theorem nm_X0_look : yX0_look.cls ≠ "java/lang/invoke/MethodHandle" ∧ yX0_look.cls ≠ "java/lang/invoke/VarHandle" ∧ (parseMethodDescriptor yX0_look.desc).map (fun d => d.parameters.length) = some 3 := by decide +kernel
theorem e_X0_look : plainFor yX0_look = true := plainFor_of_name (by decide +kernel)
theorem m_X0_look {θ : Th} {l : Launch} (hl0 : l.stackTraces = false) (hX : LX θ) {d : Nat} (hd : 6 ≤ d) (st : St) (p1 : Int32) (p2 : Int32) (p3 : Int32) {Φ : St → Int32 → Prop} (h : w_X0_look st p1 p2 p3 Φ) : Ct θ l yX0_look (wsW_ yX0_look cX0_look 5 (some Jvm.ClassFile.FieldType.int) [(0, 42, 43, 1)]) d [.ref (ad θ 0), .int p1, .int p2, .int p3] st (pI Φ, noX) := by
  refine Ct_entryW hl0 e_X0_look (Nat.le_of_ble_eq_true rfl) (fun κ hκ _ C => ?_)
  have hn : ∀ st r, Φ st r → ((pI Φ, noX) : Ph).1 st (some (.int r)) := fun st r q => ⟨r, rfl, q⟩
  change X _ _ _ _ _ [(0, .ref (ad θ 0)), (1, .int p1), (2, .int p2), (3, .int p3)] _
  unfold w_X0_look at h
  refine X_iload_n C dX0_look_0 rfl 1 rfl ?_
  refine X_callS (As := [_]) (rest := []) C q534 q535 q132 q536 nm_X0_isPlace rfl dX0_look_1 (m_X0_isPlace (Cx_l C) (d := d - 1) (by omega) st p1 h) (by omega) (by decide) (Nat.le_of_ble_eq_true rfl) (fun s7 w2 hE3 hP4 => ?_) (fun s8 E5 q6 hE3 hP4 => ?_)
  rotate_left
  · exact False.elim hP4
  obtain ⟨r1, rfl, rfl, h⟩ := hP4
  refine X_tls ?_
  refine X_if_eq (tgt := 25) C dX0_look_4 (by decide) (fun c9 => ?_) (fun c9 => ?_)
  · have h := h.1 c9
    exact t_X0_look_b25 hX hd C hn st p1 p2 p3 h
  · have h := h.2 c9
    refine X_iload_n C dX0_look_7 rfl 2 rfl ?_
    refine X_callS (As := [_]) (rest := []) C q534 q535 q132 q536 nm_X0_isPlace rfl dX0_look_8 (m_X0_isPlace (Cx_l C) (d := d - 1) (by omega) st p2 h) (by omega) (by decide) (Nat.le_of_ble_eq_true rfl) (fun s39 w34 hE35 hP36 => ?_) (fun s40 E37 q38 hE35 hP36 => ?_)
    rotate_left
    · exact False.elim hP36
    obtain ⟨r33, rfl, rfl, h⟩ := hP36
    refine X_tls ?_
    refine X_if_eq (tgt := 25) C dX0_look_11 (by decide) (fun c41 => ?_) (fun c41 => ?_)
    · have h := h.1 c41
      exact t_X0_look_b25 hX hd C hn st p1 p2 p3 h
    · have h := h.2 c41
      refine X_iload_n C dX0_look_14 rfl 3 rfl ?_
      refine X_callS (As := [_]) (rest := []) C q534 q535 q132 q536 nm_X0_isPlace rfl dX0_look_15 (m_X0_isPlace (Cx_l C) (d := d - 1) (by omega) st p3 h) (by omega) (by decide) (Nat.le_of_ble_eq_true rfl) (fun s48 w43 hE44 hP45 => ?_) (fun s49 E46 q47 hE44 hP45 => ?_)
      rotate_left
      · exact False.elim hP45
      obtain ⟨r42, rfl, rfl, h⟩ := hP45
      refine X_tls ?_
      refine X_if_eq (tgt := 25) C dX0_look_18 (by decide) (fun c50 => ?_) (fun c50 => ?_)
      · have h := h.1 c50
        exact t_X0_look_b25 hX hd C hn st p1 p2 p3 h
      · have h := h.2 c50
        refine X_iconst (v := 1) C dX0_look_21 rfl ?_
        refine X_goto (tgt := 26) C dX0_look_22 (by decide) ?_
        exact t_X0_look_b26 hX hd C hn st p1 p2 p3 1 h

def w_X0_prior (st : St) (p1 : Int32) (Φ : St → Int32 → Prop) : Prop := w_X1_isPoint 2 st p1 (fun (r1 : Int32) => w_X0_must st r1 (fun (s10 : St) => ∀ v29 : Int32, v29 = (sI s10 2 4) → ∀ s31, s31 = putI s10 2 4 p1 → Φ s31 v29) (fun (s11 : St) (a12 : Nat) => w_X0_answers s11 a12 (fun (s16 : St) (r15 : Int32) => Φ s16 r15)))
theorem nm_X0_prior : yX0_prior.cls ≠ "java/lang/invoke/MethodHandle" ∧ yX0_prior.cls ≠ "java/lang/invoke/VarHandle" ∧ (parseMethodDescriptor yX0_prior.desc).map (fun d => d.parameters.length) = some 1 := by decide +kernel
theorem e_X0_prior : plainFor yX0_prior = true := plainFor_of_name (by decide +kernel)
theorem m_X0_prior {θ : Th} {l : Launch} (hl0 : l.stackTraces = false) (hX : LX θ) {d : Nat} (hd : 6 ≤ d) (st : St) (p1 : Int32) {Φ : St → Int32 → Prop} (h : w_X0_prior st p1 Φ) : Ct θ l yX0_prior (wsW_ yX0_prior cX0_prior 3 (some Jvm.ClassFile.FieldType.int) [(0, 28, 29, 1)]) d [.ref (ad θ 0), .int p1] st (pI Φ, noX) := by
  refine Ct_entryW hl0 e_X0_prior (Nat.le_of_ble_eq_true rfl) (fun κ hκ _ C => ?_)
  have hn : ∀ st r, Φ st r → ((pI Φ, noX) : Ph).1 st (some (.int r)) := fun st r q => ⟨r, rfl, q⟩
  change X _ _ _ _ _ [(0, .ref (ad θ 0)), (1, .int p1)] _
  unfold w_X0_prior at h
  refine X_aload_n C dX0_prior_0 rfl 0 rfl (isRV_r _) ?_
  refine X_getF (ci := 0) (j := 1) (q := (RX0, TX0, 49)) C rfl (by decide) q261 rfl dX0_prior_1 (b := 2) (LX_S hX (k := 0) rfl) (LX_F hX (k := 0) (j := 1) rfl) rfl ?_
  refine X_iload_n C dX0_prior_4 rfl 1 rfl ?_
  refine X_callVS (ci := 1) (q := (RX1, TX1, 10)) (As := [_]) (rest := []) C rfl (LH_0 (LX_H2 hX)) q619 q620 q621 q133 q622 ⟨rfl, nm_X1_isPoint⟩ rfl dX0_prior_5 (m_X1_isPoint (Cx_l C) (LX_H2 hX) (d := d - 1) (by omega) st p1 h) (by omega) (by decide) (Nat.le_of_ble_eq_true rfl) (fun s7 w2 hE3 hP4 => ?_) (fun s8 E5 q6 hE3 hP4 => ?_)
  rotate_left
  · exact False.elim hP4
  obtain ⟨r1, rfl, rfl, h⟩ := hP4
  refine X_tls ?_
  refine X_callS (As := [_]) (rest := []) C q418 q419 q132 q420 nm_X0_must rfl dX0_prior_8 (m_X0_must (Cx_l C) hX (d := d - 1) (by omega) st r1 h) (by omega) (by decide) (Nat.le_of_ble_eq_true rfl) (fun s10 w23 hE24 hP25 => ?_) (fun s28 E26 q27 hE24 hP25 => ?_)
  rotate_left
  · rcases hP25 with ⟨rfl, a_, rfl, hb_, hs_, h⟩
    refine XT_catch C [] ⟨0, 28, 29, 1⟩ [] rfl (fun _ h => absurd h List.not_mem_nil) (by decide) (by decide) q412 q425 ?_
    refine X_astore_n C dX0_prior_29 rfl (isRV_r _) (lo2 := [(2, _), (0, _), (1, _)]) (by decide) rfl ?_
    refine X_aload_n C dX0_prior_30 rfl 1 rfl (isRV_r _) ?_
    refine X_aload_n C dX0_prior_31 rfl 0 rfl (isRV_r _) ?_
    refine X_callVS (ci := 0) (q := (RX0, TX0, 49)) (As := [_]) (rest := []) C rfl (LX_S hX (k := 0) rfl) q512 q514 qs4 q132 q515 ⟨rfl, nm_X0_answers⟩ rfl dX0_prior_32 (m_X0_answers (Cx_l C) hX (d := d - 1) (by omega) s28 a_ hs_ hb_ h) (by omega) (by decide) (Nat.le_of_ble_eq_true rfl) (fun s16 w17 hE18 hP19 => ?_) (fun s22 E20 q21 hE18 hP19 => ?_)
    rotate_left
    · exact False.elim hP19
    obtain ⟨r15, rfl, h⟩ := hP19
    refine X_tls ?_
    have hs_ := Ext_sh hE18 hs_ (by decide)
    exact X_iret C rfl dX0_prior_35 (hn s16 _ h)
  obtain ⟨rfl, h⟩ := hP25
  refine X_tln ?_
  refine X_aload_n C dX0_prior_11 rfl 0 rfl (isRV_r _) ?_
  refine X_getF (ci := 0) (j := 1) (q := (RX0, TX0, 49)) C rfl (by decide) q261 rfl dX0_prior_12 (b := 2) (LX_S hX (k := 0) rfl) (LX_F hX (k := 0) (j := 1) rfl) rfl ?_
  refine X_getNS (ci := 1) (j := 4) (q := (RX1, TX1, 10)) C rfl (by decide) q197 rfl dX0_prior_15 (LH_0 (LX_H2 hX)) (v := .int (sI s10 2 4)) rfl ?_
  refine X_topi (fun v29 e30 => ?_)
  have h := h v29 e30
  refine X_istore_n C dX0_prior_18 rfl (lo2 := [(2, _), (0, _), (1, _)]) (by decide) rfl ?_
  refine X_aload_n C dX0_prior_19 rfl 1 rfl (isRV_r _) ?_
  refine X_getF (ci := 0) (j := 1) (q := (RX0, TX0, 49)) C rfl (by decide) q261 rfl dX0_prior_20 (b := 2) (LX_S hX (k := 0) rfl) (LX_F hX (k := 0) (j := 1) rfl) rfl ?_
  refine X_iload_n C dX0_prior_23 rfl 2 rfl ?_
  refine X_putNSI (ci := 1) (j := 4) (q := (RX1, TX1, 10)) C rfl (by decide) q197 rfl rfl dX0_prior_24 (LH_0 (LX_H2 hX)) rfl rfl rfl ?_
  refine X_nm (fun s31 e32 => ?_)
  have h := h s31 e32
  refine X_iload_n C dX0_prior_27 rfl 0 rfl ?_
  exact X_iret C rfl dX0_prior_28 (hn s31 _ h)

def w_X0_target_b30 (Φ : St → Int32 → Prop) (st : St) (x1 : Int32) (x2 : Int32) (z0 : Int32) : Prop := w_X0_must st z0 (fun (s11 : St) => vp_in x1 3 ∧ ∀ v31 : Int32, v31 = (sI s11 (2 + 14) x1.toNatClampNeg) → ∀ s33, s33 = putI s11 (2 + 14) (x1.toNatClampNeg) x2 → Φ s33 v31) (fun (s12 : St) (a13 : Nat) => w_X0_answers s12 a13 (fun (s17 : St) (r16 : Int32) => Φ s17 r16))
theorem t_X0_target_b30 {θ : Th} {κ : Kx} {Ph : Ph} (hX : LX θ) {d : Nat} (hd : 6 ≤ d) (C : Cx θ κ yX0_target cX0_target 4 (some Jvm.ClassFile.FieldType.int) [(0, 54, 55, 1)] d) {Φ : St → Int32 → Prop} (hn : ∀ st r, Φ st r → Ph.1 st (some (.int r))) (st : St) (x1 : Int32) (x2 : Int32) (z0 : Int32) (h : w_X0_target_b30 Φ st x1 x2 z0) : X θ κ Ph st 30 [(0, .ref (ad θ 0)), (1, .int x1), (2, .int x2)] [.int z0] := by
  unfold w_X0_target_b30 at h
  refine X_callS (As := [_]) (rest := []) C q418 q419 q132 q420 nm_X0_must rfl dX0_target_30 (m_X0_must (Cx_l C) hX (d := d - 1) (by omega) st z0 h) (by omega) (by decide) (Nat.le_of_ble_eq_true rfl) (fun s11 w24 hE25 hP26 => ?_) (fun s29 E27 q28 hE25 hP26 => ?_)
  rotate_left
  · rcases hP26 with ⟨rfl, a_, rfl, hb_, hs_, h⟩
    refine XT_catch C [] ⟨0, 54, 55, 1⟩ [] rfl (fun _ h => absurd h List.not_mem_nil) (by decide) (by decide) q412 q425 ?_
    refine X_astore_n C dX0_target_55 rfl (isRV_r _) (lo2 := [(3, _), (0, _), (1, _), (2, _)]) (by decide) rfl ?_
    refine X_aload_n C dX0_target_56 rfl 1 rfl (isRV_r _) ?_
    refine X_aload_n C dX0_target_57 rfl 0 rfl (isRV_r _) ?_
    refine X_callVS (ci := 0) (q := (RX0, TX0, 49)) (As := [_]) (rest := []) C rfl (LX_S hX (k := 0) rfl) q512 q514 qs4 q132 q515 ⟨rfl, nm_X0_answers⟩ rfl dX0_target_58 (m_X0_answers (Cx_l C) hX (d := d - 1) (by omega) s29 a_ hs_ hb_ h) (by omega) (by decide) (Nat.le_of_ble_eq_true rfl) (fun s17 w18 hE19 hP20 => ?_) (fun s23 E21 q22 hE19 hP20 => ?_)
    rotate_left
    · exact False.elim hP20
    obtain ⟨r16, rfl, h⟩ := hP20
    refine X_tls ?_
    have hs_ := Ext_sh hE19 hs_ (by decide)
    exact X_iret C rfl dX0_target_61 (hn s17 _ h)
  obtain ⟨rfl, h⟩ := hP26
  refine X_tln ?_
  refine X_aload_n C dX0_target_33 rfl 0 rfl (isRV_r _) ?_
  refine X_getF (ci := 0) (j := 1) (q := (RX0, TX0, 49)) C rfl (by decide) q261 rfl dX0_target_34 (b := 2) (LX_S hX (k := 0) rfl) (LX_F hX (k := 0) (j := 1) rfl) rfl ?_
  refine X_getNF (ci := 1) (j := 6) (q := (RX1, TX1, 10)) C rfl (by decide) q201 rfl dX0_target_37 (b := (2 + 14)) (LH_0 (LX_H2 hX)) (LH_F (LX_H2 hX) (k := 0) (j := 6) rfl) rfl ?_
  refine X_iload_n C dX0_target_40 rfl 1 rfl ?_
  have g30 := h.1
  have h := h.2
  refine X_ialdS C (LH_S (LX_H2 hX) (k := 14) rfl) (LH_L (LX_H2 hX) (k := 14) rfl) g30 rfl dX0_target_41 ?_
  refine X_topi (fun v31 e32 => ?_)
  have h := h v31 e32
  refine X_istore_n C dX0_target_42 rfl (lo2 := [(3, _), (0, _), (1, _), (2, _)]) (by decide) rfl ?_
  refine X_aload_n C dX0_target_43 rfl 1 rfl (isRV_r _) ?_
  refine X_getF (ci := 0) (j := 1) (q := (RX0, TX0, 49)) C rfl (by decide) q261 rfl dX0_target_44 (b := 2) (LX_S hX (k := 0) rfl) (LX_F hX (k := 0) (j := 1) rfl) rfl ?_
  refine X_getNF (ci := 1) (j := 6) (q := (RX1, TX1, 10)) C rfl (by decide) q201 rfl dX0_target_47 (b := (2 + 14)) (LH_0 (LX_H2 hX)) (LH_F (LX_H2 hX) (k := 0) (j := 6) rfl) rfl ?_
  refine X_iload_n C dX0_target_50 rfl 2 rfl ?_
  refine X_iload_n C dX0_target_51 rfl 3 rfl ?_
  refine X_iastS C (LH_S (LX_H2 hX) (k := 14) rfl) (LH_L (LX_H2 hX) (k := 14) rfl) g30 rfl dX0_target_52 ?_
  refine X_nm (fun s33 e34 => ?_)
  have h := h s33 e34
  refine X_iload_n C dX0_target_53 rfl 0 rfl ?_
  exact X_iret C rfl dX0_target_54 (hn s33 _ h)
def w_X0_target_b29 (Φ : St → Int32 → Prop) (st : St) (x1 : Int32) (x2 : Int32) : Prop := w_X0_target_b30 Φ st x1 x2 0
theorem t_X0_target_b29 {θ : Th} {κ : Kx} {Ph : Ph} (hX : LX θ) {d : Nat} (hd : 6 ≤ d) (C : Cx θ κ yX0_target cX0_target 4 (some Jvm.ClassFile.FieldType.int) [(0, 54, 55, 1)] d) {Φ : St → Int32 → Prop} (hn : ∀ st r, Φ st r → Ph.1 st (some (.int r))) (st : St) (x1 : Int32) (x2 : Int32) (h : w_X0_target_b29 Φ st x1 x2) : X θ κ Ph st 29 [(0, .ref (ad θ 0)), (1, .int x1), (2, .int x2)] [] := by
  unfold w_X0_target_b29 at h
  refine X_iconst (v := 0) C dX0_target_29 rfl ?_
  exact t_X0_target_b30 hX hd C hn st x1 x2 0 h
def w_X0_target (st : St) (p1 : Int32) (p2 : Int32) (Φ : St → Int32 → Prop) : Prop := w_X1_isState 2 st p1 (fun (r1 : Int32) => ((r1 = 0) → w_X0_target_b29 Φ st p1 p2) ∧ ((¬ r1 = 0) → w_X0_in p2.toInt64 (-99) 99 (fun (r35 : Int32) => ((r35 = 0) → w_X0_target_b29 Φ st p1 p2) ∧ ((¬ r35 = 0) → w_X0_target_b30 Φ st p1 p2 1))))
theorem nm_X0_target : yX0_target.cls ≠ "java/lang/invoke/MethodHandle" ∧ yX0_target.cls ≠ "java/lang/invoke/VarHandle" ∧ (parseMethodDescriptor yX0_target.desc).map (fun d => d.parameters.length) = some 2 := by decide +kernel
theorem e_X0_target : plainFor yX0_target = true := plainFor_of_name (by decide +kernel)
theorem m_X0_target {θ : Th} {l : Launch} (hl0 : l.stackTraces = false) (hX : LX θ) {d : Nat} (hd : 6 ≤ d) (st : St) (p1 : Int32) (p2 : Int32) {Φ : St → Int32 → Prop} (h : w_X0_target st p1 p2 Φ) : Ct θ l yX0_target (wsW_ yX0_target cX0_target 4 (some Jvm.ClassFile.FieldType.int) [(0, 54, 55, 1)]) d [.ref (ad θ 0), .int p1, .int p2] st (pI Φ, noX) := by
  refine Ct_entryW hl0 e_X0_target (Nat.le_of_ble_eq_true rfl) (fun κ hκ _ C => ?_)
  have hn : ∀ st r, Φ st r → ((pI Φ, noX) : Ph).1 st (some (.int r)) := fun st r q => ⟨r, rfl, q⟩
  change X _ _ _ _ _ [(0, .ref (ad θ 0)), (1, .int p1), (2, .int p2)] _
  unfold w_X0_target at h
  refine X_aload_n C dX0_target_0 rfl 0 rfl (isRV_r _) ?_
  refine X_getF (ci := 0) (j := 1) (q := (RX0, TX0, 49)) C rfl (by decide) q261 rfl dX0_target_1 (b := 2) (LX_S hX (k := 0) rfl) (LX_F hX (k := 0) (j := 1) rfl) rfl ?_
  refine X_iload_n C dX0_target_4 rfl 1 rfl ?_
  refine X_callVS (ci := 1) (q := (RX1, TX1, 10)) (As := [_]) (rest := []) C rfl (LH_0 (LX_H2 hX)) q628 q629 q630 q133 q631 ⟨rfl, nm_X1_isState⟩ rfl dX0_target_5 (m_X1_isState (Cx_l C) (LX_H2 hX) (d := d - 1) (by omega) st p1 h) (by omega) (by decide) (Nat.le_of_ble_eq_true rfl) (fun s7 w2 hE3 hP4 => ?_) (fun s8 E5 q6 hE3 hP4 => ?_)
  rotate_left
  · exact False.elim hP4
  obtain ⟨r1, rfl, rfl, h⟩ := hP4
  refine X_tls ?_
  refine X_if_eq (tgt := 29) C dX0_target_8 (by decide) (fun c9 => ?_) (fun c9 => ?_)
  · have h := h.1 c9
    exact t_X0_target_b29 hX hd C hn st p1 p2 h
  · have h := h.2 c9
    refine X_iload_n C dX0_target_11 rfl 2 rfl ?_
    refine X_i2l C dX0_target_12 ?_
    refine X_ldc2 C q632 dX0_target_13 ?_
    refine X_ldc2 C q633 dX0_target_16 ?_
    refine X_callS (As := [_, _, _]) (rest := []) C q415 q416 q132 q417 nm_X0_in rfl dX0_target_19 (m_X0_in (Cx_l C) (d := d - 1) (by omega) st p2.toInt64 (-99) 99 h) (by omega) (by decide) (Nat.le_of_ble_eq_true rfl) (fun s41 w36 hE37 hP38 => ?_) (fun s42 E39 q40 hE37 hP38 => ?_)
    rotate_left
    · exact False.elim hP38
    obtain ⟨r35, rfl, rfl, h⟩ := hP38
    refine X_tls ?_
    refine X_if_eq (tgt := 29) C dX0_target_22 (by decide) (fun c43 => ?_) (fun c43 => ?_)
    · have h := h.1 c43
      exact t_X0_target_b29 hX hd C hn st p1 p2 h
    · have h := h.2 c43
      refine X_iconst (v := 1) C dX0_target_25 rfl ?_
      refine X_goto (tgt := 30) C dX0_target_26 (by decide) ?_
      exact t_X0_target_b30 hX hd C hn st p1 p2 1 h

def w_X0_give_b27 (Φ : St → Int32 → Prop) (st : St) (x1 : Int32) (x2 : Int32) (z0 : Int32) : Prop := w_X0_must st z0 (fun (s11 : St) => vp_in x1 15 ∧ vp_in x2 3 ∧ Φ s11 (sI s11 (2 + (16 + x1.toNatClampNeg)) x2.toNatClampNeg)) (fun (s12 : St) (a13 : Nat) => w_X0_answers s12 a13 (fun (s17 : St) (r16 : Int32) => Φ s17 r16))
theorem t_X0_give_b27 {θ : Th} {κ : Kx} {Ph : Ph} (hX : LX θ) {d : Nat} (hd : 6 ≤ d) (C : Cx θ κ yX0_give cX0_give 4 (some Jvm.ClassFile.FieldType.int) [(0, 41, 42, 1)] d) {Φ : St → Int32 → Prop} (hn : ∀ st r, Φ st r → Ph.1 st (some (.int r))) (st : St) (x1 : Int32) (x2 : Int32) (z0 : Int32) (h : w_X0_give_b27 Φ st x1 x2 z0) : X θ κ Ph st 27 [(0, .ref (ad θ 0)), (1, .int x1), (2, .int x2)] [.int z0] := by
  unfold w_X0_give_b27 at h
  refine X_callS (As := [_]) (rest := []) C q418 q419 q132 q420 nm_X0_must rfl dX0_give_27 (m_X0_must (Cx_l C) hX (d := d - 1) (by omega) st z0 h) (by omega) (by decide) (Nat.le_of_ble_eq_true rfl) (fun s11 w24 hE25 hP26 => ?_) (fun s29 E27 q28 hE25 hP26 => ?_)
  rotate_left
  · rcases hP26 with ⟨rfl, a_, rfl, hb_, hs_, h⟩
    refine XT_catch C [] ⟨0, 41, 42, 1⟩ [] rfl (fun _ h => absurd h List.not_mem_nil) (by decide) (by decide) q412 q425 ?_
    refine X_astore_n C dX0_give_42 rfl (isRV_r _) (lo2 := [(3, _), (0, _), (1, _), (2, _)]) (by decide) rfl ?_
    refine X_aload_n C dX0_give_43 rfl 1 rfl (isRV_r _) ?_
    refine X_aload_n C dX0_give_44 rfl 0 rfl (isRV_r _) ?_
    refine X_callVS (ci := 0) (q := (RX0, TX0, 49)) (As := [_]) (rest := []) C rfl (LX_S hX (k := 0) rfl) q512 q514 qs4 q132 q515 ⟨rfl, nm_X0_answers⟩ rfl dX0_give_45 (m_X0_answers (Cx_l C) hX (d := d - 1) (by omega) s29 a_ hs_ hb_ h) (by omega) (by decide) (Nat.le_of_ble_eq_true rfl) (fun s17 w18 hE19 hP20 => ?_) (fun s23 E21 q22 hE19 hP20 => ?_)
    rotate_left
    · exact False.elim hP20
    obtain ⟨r16, rfl, h⟩ := hP20
    refine X_tls ?_
    have hs_ := Ext_sh hE19 hs_ (by decide)
    exact X_iret C rfl dX0_give_48 (hn s17 _ h)
  obtain ⟨rfl, h⟩ := hP26
  refine X_tln ?_
  refine X_aload_n C dX0_give_30 rfl 0 rfl (isRV_r _) ?_
  refine X_getF (ci := 0) (j := 1) (q := (RX0, TX0, 49)) C rfl (by decide) q261 rfl dX0_give_31 (b := 2) (LX_S hX (k := 0) rfl) (LX_F hX (k := 0) (j := 1) rfl) rfl ?_
  refine X_getNF (ci := 1) (j := 8) (q := (RX1, TX1, 10)) C rfl (by decide) q205 rfl dX0_give_34 (b := (2 + 15)) (LH_0 (LX_H2 hX)) (LH_F (LX_H2 hX) (k := 0) (j := 8) rfl) rfl ?_
  refine X_iload_n C dX0_give_37 rfl 1 rfl ?_
  have g30 := h.1
  have h := h.2
  refine X_aaldF C 6 rfl (LH_S (LX_H2 hX) (k := 15) rfl) (by decide) rfl (LH_L (LX_H2 hX) (k := 15) rfl) g30 rfl (b := (2 + (16 + x1.toNatClampNeg))) (LHf_give (LX_H2 hX) (i := x1.toNatClampNeg) (in_lt g30)).2.2 dX0_give_38 rfl ?_
  refine X_iload_n C dX0_give_39 rfl 2 rfl ?_
  have g31 := h.1
  have h := h.2
  refine X_ialdS C (LHf_give (LX_H2 hX) (i := x1.toNatClampNeg) (in_lt g30)).1 (LHf_give (LX_H2 hX) (i := x1.toNatClampNeg) (in_lt g30)).2.1 g31 rfl dX0_give_40 ?_
  exact X_iret C rfl dX0_give_41 (hn s11 _ h)
def w_X0_give_b26 (Φ : St → Int32 → Prop) (st : St) (x1 : Int32) (x2 : Int32) : Prop := w_X0_give_b27 Φ st x1 x2 0
theorem t_X0_give_b26 {θ : Th} {κ : Kx} {Ph : Ph} (hX : LX θ) {d : Nat} (hd : 6 ≤ d) (C : Cx θ κ yX0_give cX0_give 4 (some Jvm.ClassFile.FieldType.int) [(0, 41, 42, 1)] d) {Φ : St → Int32 → Prop} (hn : ∀ st r, Φ st r → Ph.1 st (some (.int r))) (st : St) (x1 : Int32) (x2 : Int32) (h : w_X0_give_b26 Φ st x1 x2) : X θ κ Ph st 26 [(0, .ref (ad θ 0)), (1, .int x1), (2, .int x2)] [] := by
  unfold w_X0_give_b26 at h
  refine X_iconst (v := 0) C dX0_give_26 rfl ?_
  exact t_X0_give_b27 hX hd C hn st x1 x2 0 h
def w_X0_give (st : St) (p1 : Int32) (p2 : Int32) (Φ : St → Int32 → Prop) : Prop := w_X1_isPoint 2 st p1 (fun (r1 : Int32) => ((r1 = 0) → w_X0_give_b26 Φ st p1 p2) ∧ ((¬ r1 = 0) → w_X1_isState 2 st p2 (fun (r32 : Int32) => ((r32 = 0) → w_X0_give_b26 Φ st p1 p2) ∧ ((¬ r32 = 0) → w_X0_give_b27 Φ st p1 p2 1))))
theorem nm_X0_give : yX0_give.cls ≠ "java/lang/invoke/MethodHandle" ∧ yX0_give.cls ≠ "java/lang/invoke/VarHandle" ∧ (parseMethodDescriptor yX0_give.desc).map (fun d => d.parameters.length) = some 2 := by decide +kernel
theorem e_X0_give : plainFor yX0_give = true := plainFor_of_name (by decide +kernel)
theorem m_X0_give {θ : Th} {l : Launch} (hl0 : l.stackTraces = false) (hX : LX θ) {d : Nat} (hd : 6 ≤ d) (st : St) (p1 : Int32) (p2 : Int32) {Φ : St → Int32 → Prop} (h : w_X0_give st p1 p2 Φ) : Ct θ l yX0_give (wsW_ yX0_give cX0_give 4 (some Jvm.ClassFile.FieldType.int) [(0, 41, 42, 1)]) d [.ref (ad θ 0), .int p1, .int p2] st (pI Φ, noX) := by
  refine Ct_entryW hl0 e_X0_give (Nat.le_of_ble_eq_true rfl) (fun κ hκ _ C => ?_)
  have hn : ∀ st r, Φ st r → ((pI Φ, noX) : Ph).1 st (some (.int r)) := fun st r q => ⟨r, rfl, q⟩
  change X _ _ _ _ _ [(0, .ref (ad θ 0)), (1, .int p1), (2, .int p2)] _
  unfold w_X0_give at h
  refine X_aload_n C dX0_give_0 rfl 0 rfl (isRV_r _) ?_
  refine X_getF (ci := 0) (j := 1) (q := (RX0, TX0, 49)) C rfl (by decide) q261 rfl dX0_give_1 (b := 2) (LX_S hX (k := 0) rfl) (LX_F hX (k := 0) (j := 1) rfl) rfl ?_
  refine X_iload_n C dX0_give_4 rfl 1 rfl ?_
  refine X_callVS (ci := 1) (q := (RX1, TX1, 10)) (As := [_]) (rest := []) C rfl (LH_0 (LX_H2 hX)) q619 q620 q621 q133 q622 ⟨rfl, nm_X1_isPoint⟩ rfl dX0_give_5 (m_X1_isPoint (Cx_l C) (LX_H2 hX) (d := d - 1) (by omega) st p1 h) (by omega) (by decide) (Nat.le_of_ble_eq_true rfl) (fun s7 w2 hE3 hP4 => ?_) (fun s8 E5 q6 hE3 hP4 => ?_)
  rotate_left
  · exact False.elim hP4
  obtain ⟨r1, rfl, rfl, h⟩ := hP4
  refine X_tls ?_
  refine X_if_eq (tgt := 26) C dX0_give_8 (by decide) (fun c9 => ?_) (fun c9 => ?_)
  · have h := h.1 c9
    exact t_X0_give_b26 hX hd C hn st p1 p2 h
  · have h := h.2 c9
    refine X_aload_n C dX0_give_11 rfl 0 rfl (isRV_r _) ?_
    refine X_getF (ci := 0) (j := 1) (q := (RX0, TX0, 49)) C rfl (by decide) q261 rfl dX0_give_12 (b := 2) (LX_S hX (k := 0) rfl) (LX_F hX (k := 0) (j := 1) rfl) rfl ?_
    refine X_iload_n C dX0_give_15 rfl 2 rfl ?_
    refine X_callVS (ci := 1) (q := (RX1, TX1, 10)) (As := [_]) (rest := []) C rfl (LH_0 (LX_H2 hX)) q628 q629 q630 q133 q631 ⟨rfl, nm_X1_isState⟩ rfl dX0_give_16 (m_X1_isState (Cx_l C) (LX_H2 hX) (d := d - 1) (by omega) st p2 h) (by omega) (by decide) (Nat.le_of_ble_eq_true rfl) (fun s38 w33 hE34 hP35 => ?_) (fun s39 E36 q37 hE34 hP35 => ?_)
    rotate_left
    · exact False.elim hP35
    obtain ⟨r32, rfl, rfl, h⟩ := hP35
    refine X_tls ?_
    refine X_if_eq (tgt := 26) C dX0_give_19 (by decide) (fun c40 => ?_) (fun c40 => ?_)
    · have h := h.1 c40
      exact t_X0_give_b26 hX hd C hn st p1 p2 h
    · have h := h.2 c40
      refine X_iconst (v := 1) C dX0_give_22 rfl ?_
      refine X_goto (tgt := 27) C dX0_give_23 (by decide) ?_
      exact t_X0_give_b27 hX hd C hn st p1 p2 1 h

def w_X0_average_b38 (Φ : St → Int32 → Prop) (st : St) (x1 : Int32) (x2 : Int32) (x3 : Int32) (z0 : Int32) : Prop := w_X0_must st z0 (fun (s11 : St) => w_X1_average 2 s11 x1 x2 x3 (fun (r30 : Int32) => Φ s11 r30)) (fun (s12 : St) (a13 : Nat) => w_X0_answers s12 a13 (fun (s17 : St) (r16 : Int32) => Φ s17 r16))
theorem t_X0_average_b38 {θ : Th} {κ : Kx} {Ph : Ph} (hX : LX θ) {d : Nat} (hd : 6 ≤ d) (C : Cx θ κ yX0_average cX0_average 5 (some Jvm.ClassFile.FieldType.int) [(0, 51, 52, 1)] d) {Φ : St → Int32 → Prop} (hn : ∀ st r, Φ st r → Ph.1 st (some (.int r))) (st : St) (x1 : Int32) (x2 : Int32) (x3 : Int32) (z0 : Int32) (h : w_X0_average_b38 Φ st x1 x2 x3 z0) : X θ κ Ph st 38 [(0, .ref (ad θ 0)), (1, .int x1), (2, .int x2), (3, .int x3)] [.int z0] := by
  unfold w_X0_average_b38 at h
  refine X_callS (As := [_]) (rest := []) C q418 q419 q132 q420 nm_X0_must rfl dX0_average_38 (m_X0_must (Cx_l C) hX (d := d - 1) (by omega) st z0 h) (by omega) (by decide) (Nat.le_of_ble_eq_true rfl) (fun s11 w24 hE25 hP26 => ?_) (fun s29 E27 q28 hE25 hP26 => ?_)
  rotate_left
  · rcases hP26 with ⟨rfl, a_, rfl, hb_, hs_, h⟩
    refine XT_catch C [] ⟨0, 51, 52, 1⟩ [] rfl (fun _ h => absurd h List.not_mem_nil) (by decide) (by decide) q412 q425 ?_
    refine X_astore C dX0_average_52 (isRV_r _) (lo2 := [(4, _), (0, _), (1, _), (2, _), (3, _)]) (by decide) rfl ?_
    refine X_aload_n C dX0_average_54 rfl 1 rfl (isRV_r _) ?_
    refine X_aload C dX0_average_55 0 rfl (isRV_r _) ?_
    refine X_callVS (ci := 0) (q := (RX0, TX0, 49)) (As := [_]) (rest := []) C rfl (LX_S hX (k := 0) rfl) q512 q514 qs4 q132 q515 ⟨rfl, nm_X0_answers⟩ rfl dX0_average_57 (m_X0_answers (Cx_l C) hX (d := d - 1) (by omega) s29 a_ hs_ hb_ h) (by omega) (by decide) (Nat.le_of_ble_eq_true rfl) (fun s17 w18 hE19 hP20 => ?_) (fun s23 E21 q22 hE19 hP20 => ?_)
    rotate_left
    · exact False.elim hP20
    obtain ⟨r16, rfl, h⟩ := hP20
    refine X_tls ?_
    have hs_ := Ext_sh hE19 hs_ (by decide)
    exact X_iret C rfl dX0_average_60 (hn s17 _ h)
  obtain ⟨rfl, h⟩ := hP26
  refine X_tln ?_
  refine X_aload_n C dX0_average_41 rfl 0 rfl (isRV_r _) ?_
  refine X_getF (ci := 0) (j := 1) (q := (RX0, TX0, 49)) C rfl (by decide) q261 rfl dX0_average_42 (b := 2) (LX_S hX (k := 0) rfl) (LX_F hX (k := 0) (j := 1) rfl) rfl ?_
  refine X_iload_n C dX0_average_45 rfl 1 rfl ?_
  refine X_iload_n C dX0_average_46 rfl 2 rfl ?_
  refine X_iload_n C dX0_average_47 rfl 3 rfl ?_
  refine X_callVS (ci := 1) (q := (RX1, TX1, 10)) (As := [_, _, _]) (rest := []) C rfl (LH_0 (LX_H2 hX)) q650 q651 q652 q133 q653 ⟨rfl, nm_X1_average⟩ rfl dX0_average_48 (m_X1_average (Cx_l C) (LX_H2 hX) (d := d - 1) (by omega) s11 x1 x2 x3 h) (by omega) (by decide) (Nat.le_of_ble_eq_true rfl) (fun s36 w31 hE32 hP33 => ?_) (fun s37 E34 q35 hE32 hP33 => ?_)
  rotate_left
  · exact False.elim hP33
  obtain ⟨r30, rfl, rfl, h⟩ := hP33
  refine X_tls ?_
  exact X_iret C rfl dX0_average_51 (hn s11 _ h)
def w_X0_average_b37 (Φ : St → Int32 → Prop) (st : St) (x1 : Int32) (x2 : Int32) (x3 : Int32) : Prop := w_X0_average_b38 Φ st x1 x2 x3 0
theorem t_X0_average_b37 {θ : Th} {κ : Kx} {Ph : Ph} (hX : LX θ) {d : Nat} (hd : 6 ≤ d) (C : Cx θ κ yX0_average cX0_average 5 (some Jvm.ClassFile.FieldType.int) [(0, 51, 52, 1)] d) {Φ : St → Int32 → Prop} (hn : ∀ st r, Φ st r → Ph.1 st (some (.int r))) (st : St) (x1 : Int32) (x2 : Int32) (x3 : Int32) (h : w_X0_average_b37 Φ st x1 x2 x3) : X θ κ Ph st 37 [(0, .ref (ad θ 0)), (1, .int x1), (2, .int x2), (3, .int x3)] [] := by
  unfold w_X0_average_b37 at h
  refine X_iconst (v := 0) C dX0_average_37 rfl ?_
  exact t_X0_average_b38 hX hd C hn st x1 x2 x3 0 h
def w_X0_average (st : St) (p1 : Int32) (p2 : Int32) (p3 : Int32) (Φ : St → Int32 → Prop) : Prop := w_X1_isPoint 2 st p1 (fun (r1 : Int32) => ((r1 = 0) → w_X0_average_b37 Φ st p1 p2 p3) ∧ ((¬ r1 = 0) → w_X1_isRow 2 st p2 (fun (r38 : Int32) => ((r38 = 0) → w_X0_average_b37 Φ st p1 p2 p3) ∧ ((¬ r38 = 0) → w_X1_isColumn 2 st p3 (fun (r47 : Int32) => ((r47 = 0) → w_X0_average_b37 Φ st p1 p2 p3) ∧ ((¬ r47 = 0) → w_X0_average_b38 Φ st p1 p2 p3 1))))))
theorem nm_X0_average : yX0_average.cls ≠ "java/lang/invoke/MethodHandle" ∧ yX0_average.cls ≠ "java/lang/invoke/VarHandle" ∧ (parseMethodDescriptor yX0_average.desc).map (fun d => d.parameters.length) = some 3 := by decide +kernel
theorem e_X0_average : plainFor yX0_average = true := plainFor_of_name (by decide +kernel)
theorem m_X0_average {θ : Th} {l : Launch} (hl0 : l.stackTraces = false) (hX : LX θ) {d : Nat} (hd : 6 ≤ d) (st : St) (p1 : Int32) (p2 : Int32) (p3 : Int32) {Φ : St → Int32 → Prop} (h : w_X0_average st p1 p2 p3 Φ) : Ct θ l yX0_average (wsW_ yX0_average cX0_average 5 (some Jvm.ClassFile.FieldType.int) [(0, 51, 52, 1)]) d [.ref (ad θ 0), .int p1, .int p2, .int p3] st (pI Φ, noX) := by
  refine Ct_entryW hl0 e_X0_average (Nat.le_of_ble_eq_true rfl) (fun κ hκ _ C => ?_)
  have hn : ∀ st r, Φ st r → ((pI Φ, noX) : Ph).1 st (some (.int r)) := fun st r q => ⟨r, rfl, q⟩
  change X _ _ _ _ _ [(0, .ref (ad θ 0)), (1, .int p1), (2, .int p2), (3, .int p3)] _
  unfold w_X0_average at h
  refine X_aload_n C dX0_average_0 rfl 0 rfl (isRV_r _) ?_
  refine X_getF (ci := 0) (j := 1) (q := (RX0, TX0, 49)) C rfl (by decide) q261 rfl dX0_average_1 (b := 2) (LX_S hX (k := 0) rfl) (LX_F hX (k := 0) (j := 1) rfl) rfl ?_
  refine X_iload_n C dX0_average_4 rfl 1 rfl ?_
  refine X_callVS (ci := 1) (q := (RX1, TX1, 10)) (As := [_]) (rest := []) C rfl (LH_0 (LX_H2 hX)) q619 q620 q621 q133 q622 ⟨rfl, nm_X1_isPoint⟩ rfl dX0_average_5 (m_X1_isPoint (Cx_l C) (LX_H2 hX) (d := d - 1) (by omega) st p1 h) (by omega) (by decide) (Nat.le_of_ble_eq_true rfl) (fun s7 w2 hE3 hP4 => ?_) (fun s8 E5 q6 hE3 hP4 => ?_)
  rotate_left
  · exact False.elim hP4
  obtain ⟨r1, rfl, rfl, h⟩ := hP4
  refine X_tls ?_
  refine X_if_eq (tgt := 37) C dX0_average_8 (by decide) (fun c9 => ?_) (fun c9 => ?_)
  · have h := h.1 c9
    exact t_X0_average_b37 hX hd C hn st p1 p2 p3 h
  · have h := h.2 c9
    refine X_aload_n C dX0_average_11 rfl 0 rfl (isRV_r _) ?_
    refine X_getF (ci := 0) (j := 1) (q := (RX0, TX0, 49)) C rfl (by decide) q261 rfl dX0_average_12 (b := 2) (LX_S hX (k := 0) rfl) (LX_F hX (k := 0) (j := 1) rfl) rfl ?_
    refine X_iload_n C dX0_average_15 rfl 2 rfl ?_
    refine X_callVS (ci := 1) (q := (RX1, TX1, 10)) (As := [_]) (rest := []) C rfl (LH_0 (LX_H2 hX)) q642 q643 q644 q133 q645 ⟨rfl, nm_X1_isRow⟩ rfl dX0_average_16 (m_X1_isRow (Cx_l C) (LX_H2 hX) (d := d - 1) (by omega) st p2 h) (by omega) (by decide) (Nat.le_of_ble_eq_true rfl) (fun s44 w39 hE40 hP41 => ?_) (fun s45 E42 q43 hE40 hP41 => ?_)
    rotate_left
    · exact False.elim hP41
    obtain ⟨r38, rfl, rfl, h⟩ := hP41
    refine X_tls ?_
    refine X_if_eq (tgt := 37) C dX0_average_19 (by decide) (fun c46 => ?_) (fun c46 => ?_)
    · have h := h.1 c46
      exact t_X0_average_b37 hX hd C hn st p1 p2 p3 h
    · have h := h.2 c46
      refine X_aload_n C dX0_average_22 rfl 0 rfl (isRV_r _) ?_
      refine X_getF (ci := 0) (j := 1) (q := (RX0, TX0, 49)) C rfl (by decide) q261 rfl dX0_average_23 (b := 2) (LX_S hX (k := 0) rfl) (LX_F hX (k := 0) (j := 1) rfl) rfl ?_
      refine X_iload_n C dX0_average_26 rfl 3 rfl ?_
      refine X_callVS (ci := 1) (q := (RX1, TX1, 10)) (As := [_]) (rest := []) C rfl (LH_0 (LX_H2 hX)) q646 q647 q648 q133 q649 ⟨rfl, nm_X1_isColumn⟩ rfl dX0_average_27 (m_X1_isColumn (Cx_l C) (LX_H2 hX) (d := d - 1) (by omega) st p3 h) (by omega) (by decide) (Nat.le_of_ble_eq_true rfl) (fun s53 w48 hE49 hP50 => ?_) (fun s54 E51 q52 hE49 hP50 => ?_)
      rotate_left
      · exact False.elim hP50
      obtain ⟨r47, rfl, rfl, h⟩ := hP50
      refine X_tls ?_
      refine X_if_eq (tgt := 37) C dX0_average_30 (by decide) (fun c55 => ?_) (fun c55 => ?_)
      · have h := h.1 c55
        exact t_X0_average_b37 hX hd C hn st p1 p2 p3 h
      · have h := h.2 c55
        refine X_iconst (v := 1) C dX0_average_33 rfl ?_
        refine X_goto (tgt := 38) C dX0_average_34 (by decide) ?_
        exact t_X0_average_b38 hX hd C hn st p1 p2 p3 1 h

def w_X0_laysAverage_l34 (Φ : St → Prop) (E67 : St → Int32 → Int32 → Prop) : Nat → St → Int32 → Int32 → Int32 → Prop
  | 0, _, _, _, _ => False
  | n + 1, st, x1, x2, x3 => (((sI st 0 9) ≤ x3) → E67 st x1 x2) ∧ ((¬ (sI st 0 9) ≤ x3) → vp_in x2 27 ∧ w_X1_average 2 st x1 x2 x3 (fun (r8 : Int32) => vp_in x3 3 ∧ ∀ s17, s17 = putL st (96 + x2.toNatClampNeg) (x3.toNatClampNeg) r8.toInt64 → w_X0_laysAverage_l34 Φ E67 n s17 x1 x2 (x3 + 1)))
theorem t_X0_laysAverage_l34 {θ : Th} {κ : Kx} {Ph : Ph} (hX : LX θ) {d : Nat} (hd : 1 ≤ d) (C : Cx θ κ yX0_laysAverage cX0_laysAverage 4 (none : Option Jvm.ClassFile.FieldType) [] d) {Φ : St → Prop} (hn : ∀ st, Φ st → Ph.1 st none) {E67 : St → Int32 → Int32 → Prop} (hE67 : ∀ (st : St) (x1 : Int32) (x2 : Int32), E67 st x1 x2 → X θ κ Ph st 67 [(0, .ref (ad θ 0)), (1, .int x1), (2, .int x2)] []) : ∀ (n : Nat) (st : St) (x1 : Int32) (x2 : Int32) (x3 : Int32), w_X0_laysAverage_l34 Φ E67 n st x1 x2 x3 → X θ κ Ph st 34 [(0, .ref (ad θ 0)), (1, .int x1), (2, .int x2), (3, .int x3)] [] := by
  intro n
  induction n with
  | zero => intro st x1 x2 x3 h; exact h.elim
  | succ n hK34 =>
    intro st x1 x2 x3 h
    rw [w_X0_laysAverage_l34] at h
    refine X_iload_n C dX0_laysAverage_34 rfl 3 rfl ?_
    refine X_aload_n C dX0_laysAverage_35 rfl 0 rfl (isRV_r _) ?_
    refine X_getS (ci := 0) (j := 9) (q := (RX0, TX0, 49)) C rfl (by decide) q269 rfl dX0_laysAverage_36 (LX_S hX (k := 0) rfl) (v := .int (sI st 0 9)) rfl ?_
    refine X_icmp_ge (tgt := 67) C dX0_laysAverage_39 (by decide) (fun c6 => ?_) (fun c6 => ?_)
    · have h := h.1 c6
      refine X_sub [0, 1, 2] (lo2 := [(0, _), (1, _), (2, _)]) rfl ?_
      exact hE67 st x1 x2 h
    · have h := h.2 c6
      refine X_aload_n C dX0_laysAverage_42 rfl 0 rfl (isRV_r _) ?_
      refine X_getF (ci := 0) (j := 7) (q := (RX0, TX0, 49)) C rfl (by decide) q267 rfl dX0_laysAverage_43 (b := 95) (LX_S hX (k := 0) rfl) (LX_F hX (k := 0) (j := 7) rfl) rfl ?_
      refine X_iload_n C dX0_laysAverage_46 rfl 2 rfl ?_
      have g7 := h.1
      have h := h.2
      refine X_aaldF C 8 rfl (LX_S hX (k := 95) rfl) (by decide) rfl (LX_L hX (k := 95) rfl) g7 rfl (b := (96 + x2.toNatClampNeg)) (LXf_row hX (i := x2.toNatClampNeg) (in_lt g7)).2.2 dX0_laysAverage_47 rfl ?_
      refine X_iload_n C dX0_laysAverage_48 rfl 3 rfl ?_
      refine X_aload_n C dX0_laysAverage_49 rfl 0 rfl (isRV_r _) ?_
      refine X_getF (ci := 0) (j := 1) (q := (RX0, TX0, 49)) C rfl (by decide) q261 rfl dX0_laysAverage_50 (b := 2) (LX_S hX (k := 0) rfl) (LX_F hX (k := 0) (j := 1) rfl) rfl ?_
      refine X_iload_n C dX0_laysAverage_53 rfl 1 rfl ?_
      refine X_iload_n C dX0_laysAverage_54 rfl 2 rfl ?_
      refine X_iload_n C dX0_laysAverage_55 rfl 3 rfl ?_
      refine X_callVS (ci := 1) (q := (RX1, TX1, 10)) (As := [_, _, _]) (rest := [_, _]) C rfl (LH_0 (LX_H2 hX)) q650 q651 q652 q133 q653 ⟨rfl, nm_X1_average⟩ rfl dX0_laysAverage_56 (m_X1_average (Cx_l C) (LX_H2 hX) (d := d - 1) (by omega) st x1 x2 x3 h) (by omega) (by decide) (Nat.le_of_ble_eq_true rfl) (fun s14 w9 hE10 hP11 => ?_) (fun s15 E12 q13 hE10 hP11 => ?_)
      rotate_left
      · exact False.elim hP11
      obtain ⟨r8, rfl, rfl, h⟩ := hP11
      refine X_tls ?_
      refine X_i2l C dX0_laysAverage_59 ?_
      have g16 := h.1
      have h := h.2
      refine X_lastS C (LXf_row hX (i := x2.toNatClampNeg) (in_lt g7)).1 (LXf_row hX (i := x2.toNatClampNeg) (in_lt g7)).2.1 g16 rfl dX0_laysAverage_60 ?_
      refine X_nm (fun s17 e18 => ?_)
      have h := h s17 e18
      refine X_iinc (v := (x3 + 1)) C (j := 3) dX0_laysAverage_61 rfl rfl (lo2 := [(3, _), (0, _), (1, _), (2, _)]) (by decide) rfl ?_
      refine X_goto (tgt := 34) C dX0_laysAverage_64 (by decide) ?_
      refine X_sub [1, 2, 3, 0] (lo2 := [(0, _), (1, _), (2, _), (3, _)]) rfl ?_
      exact hK34 s17 x1 x2 (x3 + 1) h
def w_X0_laysAverage_b67 (Φ : St → Prop) (K24 : St → Int32 → Int32 → Prop) (st : St) (x1 : Int32) (x2 : Int32) : Prop := K24 st x1 (x2 + 1)
theorem t_X0_laysAverage_b67 {θ : Th} {κ : Kx} {Ph : Ph} (hX : LX θ) {d : Nat} (hd : 1 ≤ d) (C : Cx θ κ yX0_laysAverage cX0_laysAverage 4 (none : Option Jvm.ClassFile.FieldType) [] d) {Φ : St → Prop} (hn : ∀ st, Φ st → Ph.1 st none) {K24 : St → Int32 → Int32 → Prop} (hK24 : ∀ (st : St) (x1 : Int32) (x2 : Int32), K24 st x1 x2 → X θ κ Ph st 24 [(0, .ref (ad θ 0)), (1, .int x1), (2, .int x2)] []) (st : St) (x1 : Int32) (x2 : Int32) (h : w_X0_laysAverage_b67 Φ K24 st x1 x2) : X θ κ Ph st 67 [(0, .ref (ad θ 0)), (1, .int x1), (2, .int x2)] [] := by
  unfold w_X0_laysAverage_b67 at h
  refine X_iinc (v := (x2 + 1)) C (j := 2) dX0_laysAverage_67 rfl rfl (lo2 := [(2, _), (0, _), (1, _)]) (by decide) rfl ?_
  refine X_goto (tgt := 24) C dX0_laysAverage_70 (by decide) ?_
  refine X_sub [1, 2, 0] (lo2 := [(0, _), (1, _), (2, _)]) rfl ?_
  exact hK24 st x1 (x2 + 1) h
def w_X0_laysAverage_l24 (Φ : St → Prop) (E73 : St → Prop) : Nat → St → Int32 → Int32 → Prop
  | 0, _, _, _ => False
  | n + 1, st, x1, x2 => (((sI st 0 8) ≤ x2) → E73 st) ∧ ((¬ (sI st 0 8) ≤ x2) → w_X0_laysAverage_l34 Φ (fun (s19 : St) (x1 : Int32) (x2 : Int32) => w_X0_laysAverage_b67 Φ (w_X0_laysAverage_l24 Φ E73 n) s19 x1 x2) gFU st x1 x2 0)
theorem t_X0_laysAverage_l24 {θ : Th} {κ : Kx} {Ph : Ph} (hX : LX θ) {d : Nat} (hd : 1 ≤ d) (C : Cx θ κ yX0_laysAverage cX0_laysAverage 4 (none : Option Jvm.ClassFile.FieldType) [] d) {Φ : St → Prop} (hn : ∀ st, Φ st → Ph.1 st none) {E73 : St → Prop} (hE73 : ∀ (st : St), E73 st → X θ κ Ph st 73 [] []) : ∀ (n : Nat) (st : St) (x1 : Int32) (x2 : Int32), w_X0_laysAverage_l24 Φ E73 n st x1 x2 → X θ κ Ph st 24 [(0, .ref (ad θ 0)), (1, .int x1), (2, .int x2)] [] := by
  intro n
  induction n with
  | zero => intro st x1 x2 h; exact h.elim
  | succ n hK24 =>
    intro st x1 x2 h
    rw [w_X0_laysAverage_l24] at h
    refine X_iload_n C dX0_laysAverage_24 rfl 2 rfl ?_
    refine X_aload_n C dX0_laysAverage_25 rfl 0 rfl (isRV_r _) ?_
    refine X_getS (ci := 0) (j := 8) (q := (RX0, TX0, 49)) C rfl (by decide) q268 rfl dX0_laysAverage_26 (LX_S hX (k := 0) rfl) (v := .int (sI st 0 8)) rfl ?_
    refine X_icmp_ge (tgt := 73) C dX0_laysAverage_29 (by decide) (fun c5 => ?_) (fun c5 => ?_)
    · have h := h.1 c5
      refine X_sub [] (lo2 := []) rfl ?_
      exact hE73 st h
    · have h := h.2 c5
      refine X_iconst (v := 0) C dX0_laysAverage_32 rfl ?_
      refine X_istore_n C dX0_laysAverage_33 rfl (lo2 := [(3, _), (0, _), (1, _), (2, _)]) (by decide) rfl ?_
      refine X_sub [1, 2, 3, 0] (lo2 := [(0, _), (1, _), (2, _), (3, _)]) rfl ?_
      refine t_X0_laysAverage_l34 hX hd C hn ?_ gFU st x1 x2 0 h
      · intro s19 x1 x2 h
        exact t_X0_laysAverage_b67 hX hd C hn hK24 s19 x1 x2 h
def w_X0_laysAverage_b73 (Φ : St → Prop) (st : St) : Prop := Φ st
theorem t_X0_laysAverage_b73 {θ : Th} {κ : Kx} {Ph : Ph} (hX : LX θ) {d : Nat} (hd : 1 ≤ d) (C : Cx θ κ yX0_laysAverage cX0_laysAverage 4 (none : Option Jvm.ClassFile.FieldType) [] d) {Φ : St → Prop} (hn : ∀ st, Φ st → Ph.1 st none) (st : St) (h : w_X0_laysAverage_b73 Φ st) : X θ κ Ph st 73 [] [] := by
  unfold w_X0_laysAverage_b73 at h
  exact X_vret C rfl dX0_laysAverage_73 (hn st h)
def w_X0_laysAverage (st : St) (p1 : Int32) (Φ : St → Prop) : Prop := ∀ s1, s1 = putI st 0 8 (sI st 2 2) → ∀ s3, s3 = putI s1 0 9 (sI s1 2 3) → w_X0_laysAverage_l24 Φ (fun (s20 : St) => w_X0_laysAverage_b73 Φ s20) gFU s3 p1 0
theorem nm_X0_laysAverage : yX0_laysAverage.cls ≠ "java/lang/invoke/MethodHandle" ∧ yX0_laysAverage.cls ≠ "java/lang/invoke/VarHandle" ∧ (parseMethodDescriptor yX0_laysAverage.desc).map (fun d => d.parameters.length) = some 1 := by decide +kernel
theorem e_X0_laysAverage : plainFor yX0_laysAverage = true := plainFor_of_name (by decide +kernel)
theorem m_X0_laysAverage {θ : Th} {l : Launch} (hl0 : l.stackTraces = false) (hX : LX θ) {d : Nat} (hd : 1 ≤ d) (st : St) (p1 : Int32) {Φ : St → Prop} (h : w_X0_laysAverage st p1 Φ) : Ct θ l yX0_laysAverage (ws_ yX0_laysAverage cX0_laysAverage 4 (none : Option Jvm.ClassFile.FieldType)) d [.ref (ad θ 0), .int p1] st (pV Φ, noX) := by
  refine Ct_entry hl0 e_X0_laysAverage (Nat.le_of_ble_eq_true rfl) (fun κ hκ _ C => ?_)
  have hn : ∀ st, Φ st → ((pV Φ, noX) : Ph).1 st none := fun st q => ⟨rfl, q⟩
  change X _ _ _ _ _ [(0, .ref (ad θ 0)), (1, .int p1)] _
  unfold w_X0_laysAverage at h
  refine X_aload_n C dX0_laysAverage_0 rfl 0 rfl (isRV_r _) ?_
  refine X_aload_n C dX0_laysAverage_1 rfl 0 rfl (isRV_r _) ?_
  refine X_getF (ci := 0) (j := 1) (q := (RX0, TX0, 49)) C rfl (by decide) q261 rfl dX0_laysAverage_2 (b := 2) (LX_S hX (k := 0) rfl) (LX_F hX (k := 0) (j := 1) rfl) rfl ?_
  refine X_getNS (ci := 1) (j := 2) (q := (RX1, TX1, 10)) C rfl (by decide) q193 rfl dX0_laysAverage_5 (LH_0 (LX_H2 hX)) (v := .int (sI st 2 2)) rfl ?_
  refine X_putSI (ci := 0) (j := 8) (q := (RX0, TX0, 49)) C rfl (by decide) q268 rfl rfl dX0_laysAverage_8 (LX_S hX (k := 0) rfl) rfl rfl rfl ?_
  refine X_nm (fun s1 e2 => ?_)
  have h := h s1 e2
  refine X_aload_n C dX0_laysAverage_11 rfl 0 rfl (isRV_r _) ?_
  refine X_aload_n C dX0_laysAverage_12 rfl 0 rfl (isRV_r _) ?_
  refine X_getF (ci := 0) (j := 1) (q := (RX0, TX0, 49)) C rfl (by decide) q261 rfl dX0_laysAverage_13 (b := 2) (LX_S hX (k := 0) rfl) (LX_F hX (k := 0) (j := 1) rfl) rfl ?_
  refine X_getNS (ci := 1) (j := 3) (q := (RX1, TX1, 10)) C rfl (by decide) q195 rfl dX0_laysAverage_16 (LH_0 (LX_H2 hX)) (v := .int (sI s1 2 3)) rfl ?_
  refine X_putSI (ci := 0) (j := 9) (q := (RX0, TX0, 49)) C rfl (by decide) q269 rfl rfl dX0_laysAverage_19 (LX_S hX (k := 0) rfl) rfl rfl rfl ?_
  refine X_nm (fun s3 e4 => ?_)
  have h := h s3 e4
  refine X_iconst (v := 0) C dX0_laysAverage_22 rfl ?_
  refine X_istore_n C dX0_laysAverage_23 rfl (lo2 := [(2, _), (0, _), (1, _)]) (by decide) rfl ?_
  refine X_sub [1, 2, 0] (lo2 := [(0, _), (1, _), (2, _)]) rfl ?_
  refine t_X0_laysAverage_l24 hX hd C hn ?_ gFU s3 p1 0 h
  · intro s20 h
    exact t_X0_laysAverage_b73 hX hd C hn s20 h

def w_X0_places_l4 (Φ : St → Prop) (E27 : St → Prop) : Nat → St → Nat → Int32 → Int32 → Prop
  | 0, _, _, _, _ => False
  | n + 1, st, x1, x2, x3 => ((x3 = 0) → E27 st) ∧ ((¬ x3 = 0) → w_J7_numberOfTrailingZeros x3 (fun (r2 : Int32) => vp_in x2 3 ∧ ∀ s11, s11 = putI st x1 (x2.toNatClampNeg) r2 → ∀ v13 : Int32, v13 = (x3 &&& (x3 - 1)) → w_X0_places_l4 Φ E27 n s11 x1 (x2 + 1) v13))
theorem t_X0_places_l4 {θ : Th} {κ : Kx} {Ph : Ph} {d : Nat} (hd : 1 ≤ d) (C : Cx θ κ yX0_places cX0_places 4 (none : Option Jvm.ClassFile.FieldType) [] d) {Φ : St → Prop} (hn : ∀ st, Φ st → Ph.1 st none) {E27 : St → Prop} (hE27 : ∀ (st : St), E27 st → X θ κ Ph st 27 [] []) : ∀ (n : Nat) (st : St) (x1 : Nat) (x2 : Int32) (x3 : Int32), sh st x1 = 101 → x1 < gBIG → ln st x1 = 3 → w_X0_places_l4 Φ E27 n st x1 x2 x3 → X θ κ Ph st 4 [(1, .ref (ad θ x1)), (2, .int x2), (3, .int x3)] [] := by
  intro n
  induction n with
  | zero => intro st x1 x2 x3 hs_x1 hb_x1 hl_x1 h; exact h.elim
  | succ n hK4 =>
    intro st x1 x2 x3 hs_x1 hb_x1 hl_x1 h
    rw [w_X0_places_l4] at h
    refine X_iload_n C dX0_places_4 rfl 2 rfl ?_
    refine X_if_eq (tgt := 27) C dX0_places_5 (by decide) (fun c1 => ?_) (fun c1 => ?_)
    · have h := h.1 c1
      refine X_sub [] (lo2 := []) rfl ?_
      exact hE27 st h
    · have h := h.2 c1
      refine X_aload_n C dX0_places_8 rfl 0 rfl (isRV_r _) ?_
      refine X_iload_n C dX0_places_9 rfl 1 rfl ?_
      refine X_iload_n C dX0_places_10 rfl 2 rfl ?_
      refine X_callS (As := [_]) (rest := [_, _]) C q676 q677 q146 q678 nm_J7_numberOfTrailingZeros rfl dX0_places_11 (m_J7_numberOfTrailingZeros (Cx_l C) (d := d - 1) (by omega) st x3 h) (by omega) (by decide) (Nat.le_of_ble_eq_true rfl) (fun s8 w3 hE4 hP5 => ?_) (fun s9 E6 q7 hE4 hP5 => ?_)
      rotate_left
      · exact False.elim hP5
      obtain ⟨r2, rfl, rfl, h⟩ := hP5
      refine X_tls ?_
      have g10 := h.1
      have h := h.2
      refine X_iastD C hb_x1 hs_x1 hl_x1 g10 rfl dX0_places_14 ?_
      refine X_nm (fun s11 e12 => ?_)
      have h := h s11 e12
      have hs_x1 : sh s11 x1 = 101 := by rw [e12]; exact hs_x1
      have hl_x1 : ln s11 x1 = 3 := by rw [e12]; exact hl_x1
      refine X_iinc (v := (x2 + 1)) C (j := 1) dX0_places_15 rfl rfl (lo2 := [(2, _), (1, _), (3, _)]) (by decide) rfl ?_
      refine X_iload_n C dX0_places_18 rfl 2 rfl ?_
      refine X_iload_n C dX0_places_19 rfl 2 rfl ?_
      refine X_iconst (v := 1) C dX0_places_20 rfl ?_
      refine X_isub C dX0_places_21 ?_
      refine X_iand C dX0_places_22 ?_
      refine X_topi (fun v13 e14 => ?_)
      have h := h v13 e14
      refine X_istore_n C dX0_places_23 rfl (lo2 := [(3, _), (2, _), (1, _)]) (by decide) rfl ?_
      refine X_goto (tgt := 4) C dX0_places_24 (by decide) ?_
      refine X_sub [2, 1, 0] (lo2 := [(1, _), (2, _), (3, _)]) rfl ?_
      exact hK4 s11 x1 (x2 + 1) v13 hs_x1 hb_x1 hl_x1 h
def w_X0_places_b27 (Φ : St → Prop) (st : St) : Prop := Φ st
theorem t_X0_places_b27 {θ : Th} {κ : Kx} {Ph : Ph} {d : Nat} (hd : 1 ≤ d) (C : Cx θ κ yX0_places cX0_places 4 (none : Option Jvm.ClassFile.FieldType) [] d) {Φ : St → Prop} (hn : ∀ st, Φ st → Ph.1 st none) (st : St) (h : w_X0_places_b27 Φ st) : X θ κ Ph st 27 [] [] := by
  unfold w_X0_places_b27 at h
  exact X_vret C rfl dX0_places_27 (hn st h)
def w_X0_places (st : St) (p1 : Int32) (p2 : Nat) (Φ : St → Prop) : Prop := w_X0_places_l4 Φ (fun (s15 : St) => w_X0_places_b27 Φ s15) gFU st p2 0 p1
theorem nm_X0_places : yX0_places.cls ≠ "java/lang/invoke/MethodHandle" ∧ yX0_places.cls ≠ "java/lang/invoke/VarHandle" ∧ (parseMethodDescriptor yX0_places.desc).map (fun d => d.parameters.length) = some 2 := by decide +kernel
theorem e_X0_places : plainFor yX0_places = true := plainFor_of_name (by decide +kernel)
theorem m_X0_places {θ : Th} {l : Launch} (hl0 : l.stackTraces = false) {d : Nat} (hd : 1 ≤ d) (st : St) (p1 : Int32) (p2 : Nat) (hs_p2 : sh st p2 = 101) (hb_p2 : p2 < gBIG) (hl_p2 : ln st p2 = 3) {Φ : St → Prop} (h : w_X0_places st p1 p2 Φ) : Ct θ l yX0_places (ws_ yX0_places cX0_places 4 (none : Option Jvm.ClassFile.FieldType)) d [.int p1, .ref (ad θ p2)] st (pV Φ, noX) := by
  refine Ct_entry hl0 e_X0_places (Nat.le_of_ble_eq_true rfl) (fun κ hκ _ C => ?_)
  have hn : ∀ st, Φ st → ((pV Φ, noX) : Ph).1 st none := fun st q => ⟨rfl, q⟩
  change X _ _ _ _ _ [(0, .int p1), (1, .ref (ad θ p2))] _
  unfold w_X0_places at h
  refine X_iconst (v := 0) C dX0_places_0 rfl ?_
  refine X_istore_n C dX0_places_1 rfl (lo2 := [(2, _), (0, _), (1, _)]) (by decide) rfl ?_
  refine X_iload_n C dX0_places_2 rfl 1 rfl ?_
  refine X_istore_n C dX0_places_3 rfl (lo2 := [(3, _), (2, _), (0, _), (1, _)]) (by decide) rfl ?_
  refine X_sub [3, 1, 0] (lo2 := [(1, _), (2, _), (3, _)]) rfl ?_
  refine t_X0_places_l4 hd C hn ?_ gFU st p2 0 p1 hs_p2 hb_p2 hl_p2 h
  · intro s15 h
    exact t_X0_places_b27 hd C hn s15 h

def w_X0_border_l9 (Φ : St → Prop) (E46 : St → Int32 → Int32 → Prop) : Nat → St → Int32 → Int32 → Int32 → Prop
  | 0, _, _, _, _ => False
  | n + 1, st, x1, x2, x3 => ((x1 ≤ x3) → E46 st x1 x2) ∧ ((¬ x1 ≤ x3) → vp_in x2 4 ∧ vp_in x2 3 ∧ vp_in (sI st 129 x2.toNatClampNeg) 27 ∧ vp_in x3 3 ∧ vp_in (sI st 130 x3.toNatClampNeg) 3 ∧ vp_in x3 4 ∧ ∀ s9, s9 = putL st (124 + x2.toNatClampNeg) (x3.toNatClampNeg) (sL st (96 + (sI st 129 x2.toNatClampNeg).toNatClampNeg) (sI st 130 x3.toNatClampNeg).toNatClampNeg) → w_X0_border_l9 Φ E46 n s9 x1 x2 (x3 + 1))
theorem t_X0_border_l9 {θ : Th} {κ : Kx} {Ph : Ph} (hX : LX θ) {d : Nat} (hd : 0 ≤ d) (C : Cx θ κ yX0_border cX0_border 4 (none : Option Jvm.ClassFile.FieldType) [] d) {Φ : St → Prop} (hn : ∀ st, Φ st → Ph.1 st none) {E46 : St → Int32 → Int32 → Prop} (hE46 : ∀ (st : St) (x1 : Int32) (x2 : Int32), E46 st x1 x2 → X θ κ Ph st 46 [(0, .ref (ad θ 0)), (1, .int x1), (2, .int x2)] []) : ∀ (n : Nat) (st : St) (x1 : Int32) (x2 : Int32) (x3 : Int32), w_X0_border_l9 Φ E46 n st x1 x2 x3 → X θ κ Ph st 9 [(0, .ref (ad θ 0)), (1, .int x1), (2, .int x2), (3, .int x3)] [] := by
  intro n
  induction n with
  | zero => intro st x1 x2 x3 h; exact h.elim
  | succ n hK9 =>
    intro st x1 x2 x3 h
    rw [w_X0_border_l9] at h
    refine X_iload_n C dX0_border_9 rfl 3 rfl ?_
    refine X_iload_n C dX0_border_10 rfl 1 rfl ?_
    refine X_icmp_ge (tgt := 46) C dX0_border_11 (by decide) (fun c2 => ?_) (fun c2 => ?_)
    · have h := h.1 c2
      refine X_sub [0, 1, 2] (lo2 := [(0, _), (1, _), (2, _)]) rfl ?_
      exact hE46 st x1 x2 h
    · have h := h.2 c2
      refine X_aload_n C dX0_border_14 rfl 0 rfl (isRV_r _) ?_
      refine X_getF (ci := 0) (j := 10) (q := (RX0, TX0, 49)) C rfl (by decide) q270 rfl dX0_border_15 (b := 123) (LX_S hX (k := 0) rfl) (LX_F hX (k := 0) (j := 10) rfl) rfl ?_
      refine X_iload_n C dX0_border_18 rfl 2 rfl ?_
      have g3 := h.1
      have h := h.2
      refine X_aaldF C 8 rfl (LX_S hX (k := 123) rfl) (by decide) rfl (LX_L hX (k := 123) rfl) g3 rfl (b := (124 + x2.toNatClampNeg)) (LXf_sq hX (i := x2.toNatClampNeg) (in_lt g3)).2.2 dX0_border_19 rfl ?_
      refine X_iload_n C dX0_border_20 rfl 3 rfl ?_
      refine X_aload_n C dX0_border_21 rfl 0 rfl (isRV_r _) ?_
      refine X_getF (ci := 0) (j := 7) (q := (RX0, TX0, 49)) C rfl (by decide) q267 rfl dX0_border_22 (b := 95) (LX_S hX (k := 0) rfl) (LX_F hX (k := 0) (j := 7) rfl) rfl ?_
      refine X_aload_n C dX0_border_25 rfl 0 rfl (isRV_r _) ?_
      refine X_getF (ci := 0) (j := 12) (q := (RX0, TX0, 49)) C rfl (by decide) q272 rfl dX0_border_26 (b := 129) (LX_S hX (k := 0) rfl) (LX_F hX (k := 0) (j := 12) rfl) rfl ?_
      refine X_iload_n C dX0_border_29 rfl 2 rfl ?_
      have g4 := h.1
      have h := h.2
      refine X_ialdS C (LX_S hX (k := 129) rfl) (LX_L hX (k := 129) rfl) g4 rfl dX0_border_30 ?_
      have g5 := h.1
      have h := h.2
      refine X_aaldF C 8 rfl (LX_S hX (k := 95) rfl) (by decide) rfl (LX_L hX (k := 95) rfl) g5 rfl (b := (96 + (sI st 129 x2.toNatClampNeg).toNatClampNeg)) (LXf_row hX (i := (sI st 129 x2.toNatClampNeg).toNatClampNeg) (in_lt g5)).2.2 dX0_border_31 rfl ?_
      refine X_aload_n C dX0_border_32 rfl 0 rfl (isRV_r _) ?_
      refine X_getF (ci := 0) (j := 13) (q := (RX0, TX0, 49)) C rfl (by decide) q273 rfl dX0_border_33 (b := 130) (LX_S hX (k := 0) rfl) (LX_F hX (k := 0) (j := 13) rfl) rfl ?_
      refine X_iload_n C dX0_border_36 rfl 3 rfl ?_
      have g6 := h.1
      have h := h.2
      refine X_ialdS C (LX_S hX (k := 130) rfl) (LX_L hX (k := 130) rfl) g6 rfl dX0_border_37 ?_
      have g7 := h.1
      have h := h.2
      refine X_laldS C (LXf_row hX (i := (sI st 129 x2.toNatClampNeg).toNatClampNeg) (in_lt g5)).1 (LXf_row hX (i := (sI st 129 x2.toNatClampNeg).toNatClampNeg) (in_lt g5)).2.1 g7 rfl dX0_border_38 ?_
      have g8 := h.1
      have h := h.2
      refine X_lastS C (LXf_sq hX (i := x2.toNatClampNeg) (in_lt g3)).1 (LXf_sq hX (i := x2.toNatClampNeg) (in_lt g3)).2.1 g8 rfl dX0_border_39 ?_
      refine X_nm (fun s9 e10 => ?_)
      have h := h s9 e10
      refine X_iinc (v := (x3 + 1)) C (j := 3) dX0_border_40 rfl rfl (lo2 := [(3, _), (0, _), (1, _), (2, _)]) (by decide) rfl ?_
      refine X_goto (tgt := 9) C dX0_border_43 (by decide) ?_
      refine X_sub [1, 2, 3, 0] (lo2 := [(0, _), (1, _), (2, _), (3, _)]) rfl ?_
      exact hK9 s9 x1 x2 (x3 + 1) h
def w_X0_border_b46 (Φ : St → Prop) (K2 : St → Int32 → Int32 → Prop) (st : St) (x1 : Int32) (x2 : Int32) : Prop := vp_in x2 4 ∧ vp_in x1 4 ∧ ∀ s14, s14 = putL st (124 + x2.toNatClampNeg) (x1.toNatClampNeg) 1 → ∀ s16, s16 = putL s14 (124 + x1.toNatClampNeg) (x2.toNatClampNeg) 1 → K2 s16 x1 (x2 + 1)
theorem t_X0_border_b46 {θ : Th} {κ : Kx} {Ph : Ph} (hX : LX θ) {d : Nat} (hd : 0 ≤ d) (C : Cx θ κ yX0_border cX0_border 4 (none : Option Jvm.ClassFile.FieldType) [] d) {Φ : St → Prop} (hn : ∀ st, Φ st → Ph.1 st none) {K2 : St → Int32 → Int32 → Prop} (hK2 : ∀ (st : St) (x1 : Int32) (x2 : Int32), K2 st x1 x2 → X θ κ Ph st 2 [(0, .ref (ad θ 0)), (1, .int x1), (2, .int x2)] []) (st : St) (x1 : Int32) (x2 : Int32) (h : w_X0_border_b46 Φ K2 st x1 x2) : X θ κ Ph st 46 [(0, .ref (ad θ 0)), (1, .int x1), (2, .int x2)] [] := by
  unfold w_X0_border_b46 at h
  refine X_aload_n C dX0_border_46 rfl 0 rfl (isRV_r _) ?_
  refine X_getF (ci := 0) (j := 10) (q := (RX0, TX0, 49)) C rfl (by decide) q270 rfl dX0_border_47 (b := 123) (LX_S hX (k := 0) rfl) (LX_F hX (k := 0) (j := 10) rfl) rfl ?_
  refine X_iload_n C dX0_border_50 rfl 2 rfl ?_
  have g12 := h.1
  have h := h.2
  refine X_aaldF C 8 rfl (LX_S hX (k := 123) rfl) (by decide) rfl (LX_L hX (k := 123) rfl) g12 rfl (b := (124 + x2.toNatClampNeg)) (LXf_sq hX (i := x2.toNatClampNeg) (in_lt g12)).2.2 dX0_border_51 rfl ?_
  refine X_iload_n C dX0_border_52 rfl 1 rfl ?_
  refine X_lconst (v := 1) C dX0_border_53 rfl ?_
  have g13 := h.1
  have h := h.2
  refine X_lastS C (LXf_sq hX (i := x2.toNatClampNeg) (in_lt g12)).1 (LXf_sq hX (i := x2.toNatClampNeg) (in_lt g12)).2.1 g13 rfl dX0_border_54 ?_
  refine X_nm (fun s14 e15 => ?_)
  have h := h s14 e15
  refine X_aload_n C dX0_border_55 rfl 0 rfl (isRV_r _) ?_
  refine X_getF (ci := 0) (j := 10) (q := (RX0, TX0, 49)) C rfl (by decide) q270 rfl dX0_border_56 (b := 123) (LX_S hX (k := 0) rfl) (LX_F hX (k := 0) (j := 10) rfl) rfl ?_
  refine X_iload_n C dX0_border_59 rfl 1 rfl ?_
  refine X_aaldF C 8 rfl (LX_S hX (k := 123) rfl) (by decide) rfl (LX_L hX (k := 123) rfl) g13 rfl (b := (124 + x1.toNatClampNeg)) (LXf_sq hX (i := x1.toNatClampNeg) (in_lt g13)).2.2 dX0_border_60 rfl ?_
  refine X_iload_n C dX0_border_61 rfl 2 rfl ?_
  refine X_lconst (v := 1) C dX0_border_62 rfl ?_
  refine X_lastS C (LXf_sq hX (i := x1.toNatClampNeg) (in_lt g13)).1 (LXf_sq hX (i := x1.toNatClampNeg) (in_lt g13)).2.1 g12 rfl dX0_border_63 ?_
  refine X_nm (fun s16 e17 => ?_)
  have h := h s16 e17
  refine X_iinc (v := (x2 + 1)) C (j := 2) dX0_border_64 rfl rfl (lo2 := [(2, _), (0, _), (1, _)]) (by decide) rfl ?_
  refine X_goto (tgt := 2) C dX0_border_67 (by decide) ?_
  refine X_sub [1, 2, 0] (lo2 := [(0, _), (1, _), (2, _)]) rfl ?_
  exact hK2 s16 x1 (x2 + 1) h
def w_X0_border_l2 (Φ : St → Prop) (E70 : St → Int32 → Prop) : Nat → St → Int32 → Int32 → Prop
  | 0, _, _, _ => False
  | n + 1, st, x1, x2 => ((x1 ≤ x2) → E70 st x1) ∧ ((¬ x1 ≤ x2) → w_X0_border_l9 Φ (fun (s11 : St) (x1 : Int32) (x2 : Int32) => w_X0_border_b46 Φ (w_X0_border_l2 Φ E70 n) s11 x1 x2) gFU st x1 x2 0)
theorem t_X0_border_l2 {θ : Th} {κ : Kx} {Ph : Ph} (hX : LX θ) {d : Nat} (hd : 0 ≤ d) (C : Cx θ κ yX0_border cX0_border 4 (none : Option Jvm.ClassFile.FieldType) [] d) {Φ : St → Prop} (hn : ∀ st, Φ st → Ph.1 st none) {E70 : St → Int32 → Prop} (hE70 : ∀ (st : St) (x1 : Int32), E70 st x1 → X θ κ Ph st 70 [(0, .ref (ad θ 0)), (1, .int x1)] []) : ∀ (n : Nat) (st : St) (x1 : Int32) (x2 : Int32), w_X0_border_l2 Φ E70 n st x1 x2 → X θ κ Ph st 2 [(0, .ref (ad θ 0)), (1, .int x1), (2, .int x2)] [] := by
  intro n
  induction n with
  | zero => intro st x1 x2 h; exact h.elim
  | succ n hK2 =>
    intro st x1 x2 h
    rw [w_X0_border_l2] at h
    refine X_iload_n C dX0_border_2 rfl 2 rfl ?_
    refine X_iload_n C dX0_border_3 rfl 1 rfl ?_
    refine X_icmp_ge (tgt := 70) C dX0_border_4 (by decide) (fun c1 => ?_) (fun c1 => ?_)
    · have h := h.1 c1
      refine X_sub [0, 1] (lo2 := [(0, _), (1, _)]) rfl ?_
      exact hE70 st x1 h
    · have h := h.2 c1
      refine X_iconst (v := 0) C dX0_border_7 rfl ?_
      refine X_istore_n C dX0_border_8 rfl (lo2 := [(3, _), (0, _), (1, _), (2, _)]) (by decide) rfl ?_
      refine X_sub [1, 2, 3, 0] (lo2 := [(0, _), (1, _), (2, _), (3, _)]) rfl ?_
      refine t_X0_border_l9 hX hd C hn ?_ gFU st x1 x2 0 h
      · intro s11 x1 x2 h
        exact t_X0_border_b46 hX hd C hn hK2 s11 x1 x2 h
def w_X0_border_b70 (Φ : St → Prop) (st : St) (x1 : Int32) : Prop := vp_in x1 4 ∧ ∀ s20, s20 = putL st (124 + x1.toNatClampNeg) (x1.toNatClampNeg) 0 → Φ s20
theorem t_X0_border_b70 {θ : Th} {κ : Kx} {Ph : Ph} (hX : LX θ) {d : Nat} (hd : 0 ≤ d) (C : Cx θ κ yX0_border cX0_border 4 (none : Option Jvm.ClassFile.FieldType) [] d) {Φ : St → Prop} (hn : ∀ st, Φ st → Ph.1 st none) (st : St) (x1 : Int32) (h : w_X0_border_b70 Φ st x1) : X θ κ Ph st 70 [(0, .ref (ad θ 0)), (1, .int x1)] [] := by
  unfold w_X0_border_b70 at h
  refine X_aload_n C dX0_border_70 rfl 0 rfl (isRV_r _) ?_
  refine X_getF (ci := 0) (j := 10) (q := (RX0, TX0, 49)) C rfl (by decide) q270 rfl dX0_border_71 (b := 123) (LX_S hX (k := 0) rfl) (LX_F hX (k := 0) (j := 10) rfl) rfl ?_
  refine X_iload_n C dX0_border_74 rfl 1 rfl ?_
  have g19 := h.1
  have h := h.2
  refine X_aaldF C 8 rfl (LX_S hX (k := 123) rfl) (by decide) rfl (LX_L hX (k := 123) rfl) g19 rfl (b := (124 + x1.toNatClampNeg)) (LXf_sq hX (i := x1.toNatClampNeg) (in_lt g19)).2.2 dX0_border_75 rfl ?_
  refine X_iload_n C dX0_border_76 rfl 1 rfl ?_
  refine X_lconst (v := 0) C dX0_border_77 rfl ?_
  refine X_lastS C (LXf_sq hX (i := x1.toNatClampNeg) (in_lt g19)).1 (LXf_sq hX (i := x1.toNatClampNeg) (in_lt g19)).2.1 g19 rfl dX0_border_78 ?_
  refine X_nm (fun s20 e21 => ?_)
  have h := h s20 e21
  exact X_vret C rfl dX0_border_79 (hn s20 h)
def w_X0_border (st : St) (p1 : Int32) (Φ : St → Prop) : Prop := w_X0_border_l2 Φ (fun (s18 : St) (x1 : Int32) => w_X0_border_b70 Φ s18 x1) gFU st p1 0
theorem nm_X0_border : yX0_border.cls ≠ "java/lang/invoke/MethodHandle" ∧ yX0_border.cls ≠ "java/lang/invoke/VarHandle" ∧ (parseMethodDescriptor yX0_border.desc).map (fun d => d.parameters.length) = some 1 := by decide +kernel
theorem e_X0_border : plainFor yX0_border = true := plainFor_of_name (by decide +kernel)
theorem m_X0_border {θ : Th} {l : Launch} (hl0 : l.stackTraces = false) (hX : LX θ) {d : Nat} (hd : 0 ≤ d) (st : St) (p1 : Int32) {Φ : St → Prop} (h : w_X0_border st p1 Φ) : Ct θ l yX0_border (ws_ yX0_border cX0_border 4 (none : Option Jvm.ClassFile.FieldType)) d [.ref (ad θ 0), .int p1] st (pV Φ, noX) := by
  refine Ct_entry hl0 e_X0_border (Nat.le_of_ble_eq_true rfl) (fun κ hκ _ C => ?_)
  have hn : ∀ st, Φ st → ((pV Φ, noX) : Ph).1 st none := fun st q => ⟨rfl, q⟩
  change X _ _ _ _ _ [(0, .ref (ad θ 0)), (1, .int p1)] _
  unfold w_X0_border at h
  refine X_iconst (v := 0) C dX0_border_0 rfl ?_
  refine X_istore_n C dX0_border_1 rfl (lo2 := [(2, _), (0, _), (1, _)]) (by decide) rfl ?_
  refine X_sub [1, 2, 0] (lo2 := [(0, _), (1, _), (2, _)]) rfl ?_
  refine t_X0_border_l2 hX hd C hn ?_ gFU st p1 0 h
  · intro s18 x1 h
    exact t_X0_border_b70 hX hd C hn s18 x1 h

def w_X0_grown_b76 (Φ : St → Int64 → Prop) (K8 : St → Int32 → Int32 → Int64 → Int32 → Int32 → Prop) (st : St) (x1 : Int32) (x2 : Int32) (x3 : Int64) (x5 : Int32) (x6 : Int32) : Prop := K8 st x1 x2 x3 x5 (x6 + (-1))
theorem t_X0_grown_b76 {θ : Th} {κ : Kx} {Ph : Ph} (hX : LX θ) {d : Nat} (hd : 0 ≤ d) (C : Cx θ κ yX0_grown cX0_grown 9 (some Jvm.ClassFile.FieldType.long) [] d) {Φ : St → Int64 → Prop} (hn : ∀ st r, Φ st r → Ph.1 st (some (.long r))) {K8 : St → Int32 → Int32 → Int64 → Int32 → Int32 → Prop} (hK8 : ∀ (st : St) (x1 : Int32) (x2 : Int32) (x3 : Int64) (x5 : Int32) (x6 : Int32), K8 st x1 x2 x3 x5 x6 → X θ κ Ph st 8 [(0, .ref (ad θ 0)), (1, .int x1), (2, .int x2), (3, .long x3), (5, .int x5), (6, .int x6)] []) (st : St) (x1 : Int32) (x2 : Int32) (x3 : Int64) (x5 : Int32) (x6 : Int32) (h : w_X0_grown_b76 Φ K8 st x1 x2 x3 x5 x6) : X θ κ Ph st 76 [(0, .ref (ad θ 0)), (1, .int x1), (2, .int x2), (3, .long x3), (5, .int x5), (6, .int x6)] [] := by
  unfold w_X0_grown_b76 at h
  refine X_iinc (v := (x6 + (-1))) C (j := 5) dX0_grown_76 rfl rfl (lo2 := [(6, _), (0, _), (1, _), (2, _), (3, _), (5, _)]) (by decide) rfl ?_
  refine X_goto (tgt := 8) C dX0_grown_79 (by decide) ?_
  refine X_sub [1, 2, 3, 4, 5, 0] (lo2 := [(0, _), (1, _), (2, _), (3, _), (5, _), (6, _)]) rfl ?_
  exact hK8 st x1 x2 x3 x5 (x6 + (-1)) h
def w_X0_grown_b74 (Φ : St → Int64 → Prop) (K8 : St → Int32 → Int32 → Int64 → Int32 → Int32 → Prop) (st : St) (x1 : Int32) (x2 : Int32) (x3 : Int64) (x6 : Int32) (z0 : Int32) : Prop := w_X0_grown_b76 Φ K8 st x1 x2 x3 z0 x6
theorem t_X0_grown_b74 {θ : Th} {κ : Kx} {Ph : Ph} (hX : LX θ) {d : Nat} (hd : 0 ≤ d) (C : Cx θ κ yX0_grown cX0_grown 9 (some Jvm.ClassFile.FieldType.long) [] d) {Φ : St → Int64 → Prop} (hn : ∀ st r, Φ st r → Ph.1 st (some (.long r))) {K8 : St → Int32 → Int32 → Int64 → Int32 → Int32 → Prop} (hK8 : ∀ (st : St) (x1 : Int32) (x2 : Int32) (x3 : Int64) (x5 : Int32) (x6 : Int32), K8 st x1 x2 x3 x5 x6 → X θ κ Ph st 8 [(0, .ref (ad θ 0)), (1, .int x1), (2, .int x2), (3, .long x3), (5, .int x5), (6, .int x6)] []) (st : St) (x1 : Int32) (x2 : Int32) (x3 : Int64) (x6 : Int32) (z0 : Int32) (h : w_X0_grown_b74 Φ K8 st x1 x2 x3 x6 z0) : X θ κ Ph st 74 [(0, .ref (ad θ 0)), (1, .int x1), (2, .int x2), (3, .long x3), (6, .int x6)] [.int z0] := by
  unfold w_X0_grown_b74 at h
  refine X_istore C dX0_grown_74 (lo2 := [(5, _), (0, _), (1, _), (2, _), (3, _), (6, _)]) (by decide) rfl ?_
  refine X_sub [1, 2, 3, 4, 0, 5] (lo2 := [(0, _), (1, _), (2, _), (3, _), (5, _), (6, _)]) rfl ?_
  exact t_X0_grown_b76 hX hd C hn hK8 st x1 x2 x3 z0 x6 h
def w_X0_grown_b62 (Φ : St → Int64 → Prop) (K8 : St → Int32 → Int32 → Int64 → Int32 → Int32 → Prop) (st : St) (x1 : Int32) (x2 : Int32) (x5 : Int32) (x6 : Int32) (z0 : Int64) (z1 : Int64) : Prop := ∀ v9 : Int64, v9 = (z1 + z0) → ((x5 ≠ 0) → w_X0_grown_b74 Φ K8 st x1 x2 v9 x6 0) ∧ ((x5 = 0) → w_X0_grown_b74 Φ K8 st x1 x2 v9 x6 1)
theorem t_X0_grown_b62 {θ : Th} {κ : Kx} {Ph : Ph} (hX : LX θ) {d : Nat} (hd : 0 ≤ d) (C : Cx θ κ yX0_grown cX0_grown 9 (some Jvm.ClassFile.FieldType.long) [] d) {Φ : St → Int64 → Prop} (hn : ∀ st r, Φ st r → Ph.1 st (some (.long r))) {K8 : St → Int32 → Int32 → Int64 → Int32 → Int32 → Prop} (hK8 : ∀ (st : St) (x1 : Int32) (x2 : Int32) (x3 : Int64) (x5 : Int32) (x6 : Int32), K8 st x1 x2 x3 x5 x6 → X θ κ Ph st 8 [(0, .ref (ad θ 0)), (1, .int x1), (2, .int x2), (3, .long x3), (5, .int x5), (6, .int x6)] []) (st : St) (x1 : Int32) (x2 : Int32) (x5 : Int32) (x6 : Int32) (z0 : Int64) (z1 : Int64) (h : w_X0_grown_b62 Φ K8 st x1 x2 x5 x6 z0 z1) : X θ κ Ph st 62 [(0, .ref (ad θ 0)), (1, .int x1), (2, .int x2), (5, .int x5), (6, .int x6)] [.long z0, .long z1] := by
  unfold w_X0_grown_b62 at h
  refine X_ladd C dX0_grown_62 ?_
  refine X_topl (fun v9 e10 => ?_)
  have h := h v9 e10
  refine X_lstore_n C dX0_grown_63 rfl (lo2 := [(3, _), (0, _), (1, _), (2, _), (5, _), (6, _)]) (by decide) rfl ?_
  refine X_iload C dX0_grown_64 4 rfl ?_
  refine X_if_ne (tgt := 73) C dX0_grown_66 (by decide) (fun c11 => ?_) (fun c11 => ?_)
  · have h := h.1 c11
    refine X_iconst (v := 0) C dX0_grown_73 rfl ?_
    refine X_sub [1, 2, 3, 0, 5] (lo2 := [(0, _), (1, _), (2, _), (3, _), (6, _)]) rfl ?_
    exact t_X0_grown_b74 hX hd C hn hK8 st x1 x2 v9 x6 0 h
  · have h := h.2 c11
    refine X_iconst (v := 1) C dX0_grown_69 rfl ?_
    refine X_goto (tgt := 74) C dX0_grown_70 (by decide) ?_
    refine X_sub [1, 2, 3, 0, 5] (lo2 := [(0, _), (1, _), (2, _), (3, _), (6, _)]) rfl ?_
    exact t_X0_grown_b74 hX hd C hn hK8 st x1 x2 v9 x6 1 h
def w_X0_grown_l8 (Φ : St → Int64 → Prop) (E82 : St → Int64 → Prop) : Nat → St → Int32 → Int32 → Int64 → Int32 → Int32 → Prop
  | 0, _, _, _, _, _, _ => False
  | n + 1, st, x1, x2, x3, x5, x6 => ((x6 < 0) → E82 st x3) ∧ ((¬ x6 < 0) → ((((x1 >>> (x6 &&& 31)) &&& 1) ≠ 1) → w_X0_grown_b76 Φ (w_X0_grown_l8 Φ E82 n) st x1 x2 x3 x5 x6) ∧ ((((x1 >>> (x6 &&& 31)) &&& 1) = 1) → vp_in x2 4 ∧ vp_in x6 4 ∧ vp_in (x1 &&& (((1 : Int32) <<< (x6 &&& 31)) ^^^ (-1))) 16 ∧ ∀ v6 : Int64, v6 = ((sL st (124 + x2.toNatClampNeg) x6.toNatClampNeg) * (sL st 128 (x1 &&& (((1 : Int32) <<< (x6 &&& 31)) ^^^ (-1))).toNatClampNeg)) → ((x5 = 0) → w_X0_grown_b62 Φ (w_X0_grown_l8 Φ E82 n) st x1 x2 x5 x6 (-v6) x3) ∧ ((¬ x5 = 0) → w_X0_grown_b62 Φ (w_X0_grown_l8 Φ E82 n) st x1 x2 x5 x6 v6 x3)))
theorem t_X0_grown_l8 {θ : Th} {κ : Kx} {Ph : Ph} (hX : LX θ) {d : Nat} (hd : 0 ≤ d) (C : Cx θ κ yX0_grown cX0_grown 9 (some Jvm.ClassFile.FieldType.long) [] d) {Φ : St → Int64 → Prop} (hn : ∀ st r, Φ st r → Ph.1 st (some (.long r))) {E82 : St → Int64 → Prop} (hE82 : ∀ (st : St) (x3 : Int64), E82 st x3 → X θ κ Ph st 82 [(3, .long x3)] []) : ∀ (n : Nat) (st : St) (x1 : Int32) (x2 : Int32) (x3 : Int64) (x5 : Int32) (x6 : Int32), w_X0_grown_l8 Φ E82 n st x1 x2 x3 x5 x6 → X θ κ Ph st 8 [(0, .ref (ad θ 0)), (1, .int x1), (2, .int x2), (3, .long x3), (5, .int x5), (6, .int x6)] [] := by
  intro n
  induction n with
  | zero => intro st x1 x2 x3 x5 x6 h; exact h.elim
  | succ n hK8 =>
    intro st x1 x2 x3 x5 x6 h
    rw [w_X0_grown_l8] at h
    refine X_iload C dX0_grown_8 5 rfl ?_
    refine X_if_lt (tgt := 82) C dX0_grown_10 (by decide) (fun c1 => ?_) (fun c1 => ?_)
    · have h := h.1 c1
      refine X_sub [3] (lo2 := [(3, _)]) rfl ?_
      exact hE82 st x3 h
    · have h := h.2 c1
      refine X_iload_n C dX0_grown_13 rfl 1 rfl ?_
      refine X_iload C dX0_grown_14 5 rfl ?_
      refine X_ishr C dX0_grown_16 ?_
      refine X_iconst (v := 1) C dX0_grown_17 rfl ?_
      refine X_iand C dX0_grown_18 ?_
      refine X_iconst (v := 1) C dX0_grown_19 rfl ?_
      refine X_icmp_ne (tgt := 76) C dX0_grown_20 (by decide) (fun c2 => ?_) (fun c2 => ?_)
      · have h := h.1 c2
        exact t_X0_grown_b76 hX hd C hn hK8 st x1 x2 x3 x5 x6 h
      · have h := h.2 c2
        refine X_aload_n C dX0_grown_23 rfl 0 rfl (isRV_r _) ?_
        refine X_getF (ci := 0) (j := 10) (q := (RX0, TX0, 49)) C rfl (by decide) q270 rfl dX0_grown_24 (b := 123) (LX_S hX (k := 0) rfl) (LX_F hX (k := 0) (j := 10) rfl) rfl ?_
        refine X_iload_n C dX0_grown_27 rfl 2 rfl ?_
        have g3 := h.1
        have h := h.2
        refine X_aaldF C 8 rfl (LX_S hX (k := 123) rfl) (by decide) rfl (LX_L hX (k := 123) rfl) g3 rfl (b := (124 + x2.toNatClampNeg)) (LXf_sq hX (i := x2.toNatClampNeg) (in_lt g3)).2.2 dX0_grown_28 rfl ?_
        refine X_iload C dX0_grown_29 5 rfl ?_
        have g4 := h.1
        have h := h.2
        refine X_laldS C (LXf_sq hX (i := x2.toNatClampNeg) (in_lt g3)).1 (LXf_sq hX (i := x2.toNatClampNeg) (in_lt g3)).2.1 g4 rfl dX0_grown_31 ?_
        refine X_aload_n C dX0_grown_32 rfl 0 rfl (isRV_r _) ?_
        refine X_getF (ci := 0) (j := 11) (q := (RX0, TX0, 49)) C rfl (by decide) q271 rfl dX0_grown_33 (b := 128) (LX_S hX (k := 0) rfl) (LX_F hX (k := 0) (j := 11) rfl) rfl ?_
        refine X_iload_n C dX0_grown_36 rfl 1 rfl ?_
        refine X_iconst (v := 1) C dX0_grown_37 rfl ?_
        refine X_iload C dX0_grown_38 5 rfl ?_
        refine X_ishl C dX0_grown_40 ?_
        refine X_iconst (v := (-1)) C dX0_grown_41 rfl ?_
        refine X_ixor C dX0_grown_42 ?_
        refine X_iand C dX0_grown_43 ?_
        have g5 := h.1
        have h := h.2
        refine X_laldS C (LX_S hX (k := 128) rfl) (LX_L hX (k := 128) rfl) g5 rfl dX0_grown_44 ?_
        refine X_lmul C dX0_grown_45 ?_
        refine X_topl (fun v6 e7 => ?_)
        have h := h v6 e7
        refine X_lstore C dX0_grown_46 (lo2 := [(7, _), (0, _), (1, _), (2, _), (3, _), (5, _), (6, _)]) (by decide) rfl ?_
        refine X_lload_n C dX0_grown_48 rfl 4 rfl ?_
        refine X_iload C dX0_grown_49 5 rfl ?_
        refine X_if_eq (tgt := 59) C dX0_grown_51 (by decide) (fun c8 => ?_) (fun c8 => ?_)
        · have h := h.1 c8
          refine X_lload C dX0_grown_59 0 rfl ?_
          refine X_lneg C dX0_grown_61 ?_
          refine X_sub [1, 2, 3, 5, 6] (lo2 := [(0, _), (1, _), (2, _), (5, _), (6, _)]) rfl ?_
          exact t_X0_grown_b62 hX hd C hn hK8 st x1 x2 x5 x6 (-v6) x3 h
        · have h := h.2 c8
          refine X_lload C dX0_grown_54 0 rfl ?_
          refine X_goto (tgt := 62) C dX0_grown_56 (by decide) ?_
          refine X_sub [1, 2, 3, 5, 6] (lo2 := [(0, _), (1, _), (2, _), (5, _), (6, _)]) rfl ?_
          exact t_X0_grown_b62 hX hd C hn hK8 st x1 x2 x5 x6 v6 x3 h
def w_X0_grown_b82 (Φ : St → Int64 → Prop) (st : St) (x3 : Int64) : Prop := Φ st x3
theorem t_X0_grown_b82 {θ : Th} {κ : Kx} {Ph : Ph} (hX : LX θ) {d : Nat} (hd : 0 ≤ d) (C : Cx θ κ yX0_grown cX0_grown 9 (some Jvm.ClassFile.FieldType.long) [] d) {Φ : St → Int64 → Prop} (hn : ∀ st r, Φ st r → Ph.1 st (some (.long r))) (st : St) (x3 : Int64) (h : w_X0_grown_b82 Φ st x3) : X θ κ Ph st 82 [(3, .long x3)] [] := by
  unfold w_X0_grown_b82 at h
  refine X_lload_n C dX0_grown_82 rfl 0 rfl ?_
  exact X_lret C rfl dX0_grown_83 (hn st _ h)
def w_X0_grown (st : St) (p1 : Int32) (p2 : Int32) (Φ : St → Int64 → Prop) : Prop := w_X0_grown_l8 Φ (fun (s12 : St) (x3 : Int64) => w_X0_grown_b82 Φ s12 x3) gFU st p1 p2 0 1 3
theorem nm_X0_grown : yX0_grown.cls ≠ "java/lang/invoke/MethodHandle" ∧ yX0_grown.cls ≠ "java/lang/invoke/VarHandle" ∧ (parseMethodDescriptor yX0_grown.desc).map (fun d => d.parameters.length) = some 2 := by decide +kernel
theorem e_X0_grown : plainFor yX0_grown = true := plainFor_of_name (by decide +kernel)
theorem m_X0_grown {θ : Th} {l : Launch} (hl0 : l.stackTraces = false) (hX : LX θ) {d : Nat} (hd : 0 ≤ d) (st : St) (p1 : Int32) (p2 : Int32) {Φ : St → Int64 → Prop} (h : w_X0_grown st p1 p2 Φ) : Ct θ l yX0_grown (ws_ yX0_grown cX0_grown 9 (some Jvm.ClassFile.FieldType.long)) d [.ref (ad θ 0), .int p1, .int p2] st (pL Φ, noX) := by
  refine Ct_entry hl0 e_X0_grown (Nat.le_of_ble_eq_true rfl) (fun κ hκ _ C => ?_)
  have hn : ∀ st r, Φ st r → ((pL Φ, noX) : Ph).1 st (some (.long r)) := fun st r q => ⟨r, rfl, q⟩
  change X _ _ _ _ _ [(0, .ref (ad θ 0)), (1, .int p1), (2, .int p2)] _
  unfold w_X0_grown at h
  refine X_lconst (v := 0) C dX0_grown_0 rfl ?_
  refine X_lstore_n C dX0_grown_1 rfl (lo2 := [(3, _), (0, _), (1, _), (2, _)]) (by decide) rfl ?_
  refine X_iconst (v := 1) C dX0_grown_2 rfl ?_
  refine X_istore C dX0_grown_3 (lo2 := [(5, _), (3, _), (0, _), (1, _), (2, _)]) (by decide) rfl ?_
  refine X_iconst (v := 3) C dX0_grown_5 rfl ?_
  refine X_istore C dX0_grown_6 (lo2 := [(6, _), (5, _), (3, _), (0, _), (1, _), (2, _)]) (by decide) rfl ?_
  refine X_sub [3, 4, 5, 2, 1, 0] (lo2 := [(0, _), (1, _), (2, _), (3, _), (5, _), (6, _)]) rfl ?_
  refine t_X0_grown_l8 hX hd C hn ?_ gFU st p1 p2 0 1 3 h
  · intro s12 x3 h
    exact t_X0_grown_b82 hX hd C hn s12 x3 h

def w_X0_minor_b86 (Φ : St → Int64 → Prop) (K32 : St → Int32 → Int32 → Int32 → Prop) (st : St) (x2 : Int32) (x4 : Int32) (x5 : Int32) : Prop := K32 st x2 x4 (x5 + 1)
theorem t_X0_minor_b86 {θ : Th} {κ : Kx} {Ph : Ph} (hX : LX θ) {d : Nat} (hd : 1 ≤ d) (C : Cx θ κ yX0_minor cX0_minor 7 (some Jvm.ClassFile.FieldType.long) [] d) {Φ : St → Int64 → Prop} (hn : ∀ st r, Φ st r → Ph.1 st (some (.long r))) {K32 : St → Int32 → Int32 → Int32 → Prop} (hK32 : ∀ (st : St) (x2 : Int32) (x4 : Int32) (x5 : Int32), K32 st x2 x4 x5 → X θ κ Ph st 32 [(0, .ref (ad θ 0)), (2, .int x2), (4, .int x4), (5, .int x5)] []) (st : St) (x2 : Int32) (x4 : Int32) (x5 : Int32) (h : w_X0_minor_b86 Φ K32 st x2 x4 x5) : X θ κ Ph st 86 [(0, .ref (ad θ 0)), (2, .int x2), (4, .int x4), (5, .int x5)] [] := by
  unfold w_X0_minor_b86 at h
  refine X_iinc (v := (x5 + 1)) C (j := 3) dX0_minor_86 rfl rfl (lo2 := [(5, _), (0, _), (2, _), (4, _)]) (by decide) rfl ?_
  refine X_goto (tgt := 32) C dX0_minor_89 (by decide) ?_
  refine X_sub [1, 2, 3, 0] (lo2 := [(0, _), (2, _), (4, _), (5, _)]) rfl ?_
  exact hK32 st x2 x4 (x5 + 1) h
def w_X0_minor_b82 (Φ : St → Int64 → Prop) (K32 : St → Int32 → Int32 → Int32 → Prop) (st : St) (x2 : Int32) (x4 : Int32) (x5 : Int32) (z0 : Int32) (z1 : Int32) (z3 : Int32) : Prop := w_X0_grown st z1 z0 (fun (s20 : St) (r19 : Int64) => vp_in z3 16 ∧ ∀ s28, s28 = putL s20 128 (z3.toNatClampNeg) r19 → w_X0_minor_b86 Φ K32 s28 x2 x4 x5)
theorem t_X0_minor_b82 {θ : Th} {κ : Kx} {Ph : Ph} (hX : LX θ) {d : Nat} (hd : 1 ≤ d) (C : Cx θ κ yX0_minor cX0_minor 7 (some Jvm.ClassFile.FieldType.long) [] d) {Φ : St → Int64 → Prop} (hn : ∀ st r, Φ st r → Ph.1 st (some (.long r))) {K32 : St → Int32 → Int32 → Int32 → Prop} (hK32 : ∀ (st : St) (x2 : Int32) (x4 : Int32) (x5 : Int32), K32 st x2 x4 x5 → X θ κ Ph st 32 [(0, .ref (ad θ 0)), (2, .int x2), (4, .int x4), (5, .int x5)] []) (st : St) (x2 : Int32) (x4 : Int32) (x5 : Int32) (z0 : Int32) (z1 : Int32) (z3 : Int32) (h : w_X0_minor_b82 Φ K32 st x2 x4 x5 z0 z1 z3) : X θ κ Ph st 82 [(0, .ref (ad θ 0)), (2, .int x2), (4, .int x4), (5, .int x5)] [.int z0, .int z1, .ref (ad θ 0), .int z3, .ref (ad θ 128)] := by
  unfold w_X0_minor_b82 at h
  refine X_callVS (ci := 0) (q := (RX0, TX0, 49)) (As := [_, _]) (rest := [_, _]) C rfl (LX_S hX (k := 0) rfl) q698 q700 qs11 q132 q701 ⟨rfl, nm_X0_grown⟩ rfl dX0_minor_82 (m_X0_grown (Cx_l C) hX (d := d - 1) (by omega) st z1 z0 h) (by omega) (by decide) (Nat.le_of_ble_eq_true rfl) (fun s20 w21 hE22 hP23 => ?_) (fun s26 E24 q25 hE22 hP23 => ?_)
  rotate_left
  · exact False.elim hP23
  obtain ⟨r19, rfl, h⟩ := hP23
  refine X_tls ?_
  have g27 := h.1
  have h := h.2
  refine X_lastS C (LX_S hX (k := 128) rfl) (LX_L hX (k := 128) rfl) g27 rfl dX0_minor_85 ?_
  refine X_nm (fun s28 e29 => ?_)
  have h := h s28 e29
  exact t_X0_minor_b86 hX hd C hn hK32 s28 x2 x4 x5 h
def w_X0_minor_l32 (Φ : St → Int64 → Prop) (E92 : St → Int32 → Prop) : Nat → St → Int32 → Int32 → Int32 → Prop
  | 0, _, _, _, _ => False
  | n + 1, st, x2, x4, x5 => ((x4 < x5) → E92 st x4) ∧ ((¬ x4 < x5) → (((x5 &&& (x4 ^^^ (-1))) ≠ 0) → w_X0_minor_b86 Φ (w_X0_minor_l32 Φ E92 n) st x2 x4 x5) ∧ (((x5 &&& (x4 ^^^ (-1))) = 0) → w_J7_bitCount x5 (fun (r8 : Int32) => ∀ v16 : Int32, v16 = (r8 - 1) → ((x2 ≤ v16) → w_X0_minor_b82 Φ (w_X0_minor_l32 Φ E92 n) st x2 x4 x5 (v16 + 1) x5 x5) ∧ ((¬ x2 ≤ v16) → w_X0_minor_b82 Φ (w_X0_minor_l32 Φ E92 n) st x2 x4 x5 v16 x5 x5))))
theorem t_X0_minor_l32 {θ : Th} {κ : Kx} {Ph : Ph} (hX : LX θ) {d : Nat} (hd : 1 ≤ d) (C : Cx θ κ yX0_minor cX0_minor 7 (some Jvm.ClassFile.FieldType.long) [] d) {Φ : St → Int64 → Prop} (hn : ∀ st r, Φ st r → Ph.1 st (some (.long r))) {E92 : St → Int32 → Prop} (hE92 : ∀ (st : St) (x4 : Int32), E92 st x4 → X θ κ Ph st 92 [(0, .ref (ad θ 0)), (4, .int x4)] []) : ∀ (n : Nat) (st : St) (x2 : Int32) (x4 : Int32) (x5 : Int32), w_X0_minor_l32 Φ E92 n st x2 x4 x5 → X θ κ Ph st 32 [(0, .ref (ad θ 0)), (2, .int x2), (4, .int x4), (5, .int x5)] [] := by
  intro n
  induction n with
  | zero => intro st x2 x4 x5 h; exact h.elim
  | succ n hK32 =>
    intro st x2 x4 x5 h
    rw [w_X0_minor_l32] at h
    refine X_iload C dX0_minor_32 3 rfl ?_
    refine X_iload C dX0_minor_34 2 rfl ?_
    refine X_icmp_gt (tgt := 92) C dX0_minor_36 (by decide) (fun c6 => ?_) (fun c6 => ?_)
    · have h := h.1 c6
      refine X_sub [0, 2] (lo2 := [(0, _), (4, _)]) rfl ?_
      exact hE92 st x4 h
    · have h := h.2 c6
      refine X_iload C dX0_minor_39 3 rfl ?_
      refine X_iload C dX0_minor_41 2 rfl ?_
      refine X_iconst (v := (-1)) C dX0_minor_43 rfl ?_
      refine X_ixor C dX0_minor_44 ?_
      refine X_iand C dX0_minor_45 ?_
      refine X_if_ne (tgt := 86) C dX0_minor_46 (by decide) (fun c7 => ?_) (fun c7 => ?_)
      · have h := h.1 c7
        exact t_X0_minor_b86 hX hd C hn hK32 st x2 x4 x5 h
      · have h := h.2 c7
        refine X_iload C dX0_minor_49 3 rfl ?_
        refine X_callS (As := [_]) (rest := []) C q692 q693 q146 q694 nm_J7_bitCount rfl dX0_minor_51 (m_J7_bitCount (Cx_l C) (d := d - 1) (by omega) st x5 h) (by omega) (by decide) (Nat.le_of_ble_eq_true rfl) (fun s14 w9 hE10 hP11 => ?_) (fun s15 E12 q13 hE10 hP11 => ?_)
        rotate_left
        · exact False.elim hP11
        obtain ⟨r8, rfl, rfl, h⟩ := hP11
        refine X_tls ?_
        refine X_iconst (v := 1) C dX0_minor_54 rfl ?_
        refine X_isub C dX0_minor_55 ?_
        refine X_topi (fun v16 e17 => ?_)
        have h := h v16 e17
        refine X_istore C dX0_minor_56 (lo2 := [(6, _), (0, _), (2, _), (4, _), (5, _)]) (by decide) rfl ?_
        refine X_aload_n C dX0_minor_58 rfl 1 rfl (isRV_r _) ?_
        refine X_getF (ci := 0) (j := 11) (q := (RX0, TX0, 49)) C rfl (by decide) q271 rfl dX0_minor_59 (b := 128) (LX_S hX (k := 0) rfl) (LX_F hX (k := 0) (j := 11) rfl) rfl ?_
        refine X_iload C dX0_minor_62 4 rfl ?_
        refine X_aload_n C dX0_minor_64 rfl 1 rfl (isRV_r _) ?_
        refine X_iload C dX0_minor_65 4 rfl ?_
        refine X_iload C dX0_minor_67 0 rfl ?_
        refine X_iload_n C dX0_minor_69 rfl 2 rfl ?_
        refine X_icmp_ge (tgt := 78) C dX0_minor_70 (by decide) (fun c18 => ?_) (fun c18 => ?_)
        · have h := h.1 c18
          refine X_iload C dX0_minor_78 0 rfl ?_
          refine X_iconst (v := 1) C dX0_minor_80 rfl ?_
          refine X_iadd C dX0_minor_81 ?_
          refine X_sub [1, 2, 3, 4] (lo2 := [(0, _), (2, _), (4, _), (5, _)]) rfl ?_
          exact t_X0_minor_b82 hX hd C hn hK32 st x2 x4 x5 (v16 + 1) x5 x5 h
        · have h := h.2 c18
          refine X_iload C dX0_minor_73 0 rfl ?_
          refine X_goto (tgt := 82) C dX0_minor_75 (by decide) ?_
          refine X_sub [1, 2, 3, 4] (lo2 := [(0, _), (2, _), (4, _), (5, _)]) rfl ?_
          exact t_X0_minor_b82 hX hd C hn hK32 st x2 x4 x5 v16 x5 x5 h
def w_X0_minor_b92 (Φ : St → Int64 → Prop) (st : St) (x4 : Int32) : Prop := vp_in x4 16 ∧ Φ st (sL st 128 x4.toNatClampNeg)
theorem t_X0_minor_b92 {θ : Th} {κ : Kx} {Ph : Ph} (hX : LX θ) {d : Nat} (hd : 1 ≤ d) (C : Cx θ κ yX0_minor cX0_minor 7 (some Jvm.ClassFile.FieldType.long) [] d) {Φ : St → Int64 → Prop} (hn : ∀ st r, Φ st r → Ph.1 st (some (.long r))) (st : St) (x4 : Int32) (h : w_X0_minor_b92 Φ st x4) : X θ κ Ph st 92 [(0, .ref (ad θ 0)), (4, .int x4)] [] := by
  unfold w_X0_minor_b92 at h
  refine X_aload_n C dX0_minor_92 rfl 0 rfl (isRV_r _) ?_
  refine X_getF (ci := 0) (j := 11) (q := (RX0, TX0, 49)) C rfl (by decide) q271 rfl dX0_minor_93 (b := 128) (LX_S hX (k := 0) rfl) (LX_F hX (k := 0) (j := 11) rfl) rfl ?_
  refine X_iload C dX0_minor_96 1 rfl ?_
  have g31 := h.1
  have h := h.2
  refine X_laldS C (LX_S hX (k := 128) rfl) (LX_L hX (k := 128) rfl) g31 rfl dX0_minor_98 ?_
  exact X_lret C rfl dX0_minor_99 (hn st _ h)
def w_X0_minor_b17 (Φ : St → Int64 → Prop) (st : St) (x2 : Int32) (z0 : Int32) (z1 : Int32) : Prop := ∀ v2 : Int32, v2 = (z1 &&& (z0 ^^^ (-1))) → ∀ s4, s4 = putL st 128 0 1 → w_X0_minor_l32 Φ (fun (s30 : St) (x4 : Int32) => w_X0_minor_b92 Φ s30 x4) gFU s4 x2 v2 1
theorem t_X0_minor_b17 {θ : Th} {κ : Kx} {Ph : Ph} (hX : LX θ) {d : Nat} (hd : 1 ≤ d) (C : Cx θ κ yX0_minor cX0_minor 7 (some Jvm.ClassFile.FieldType.long) [] d) {Φ : St → Int64 → Prop} (hn : ∀ st r, Φ st r → Ph.1 st (some (.long r))) (st : St) (x2 : Int32) (z0 : Int32) (z1 : Int32) (h : w_X0_minor_b17 Φ st x2 z0 z1) : X θ κ Ph st 17 [(0, .ref (ad θ 0)), (2, .int x2)] [.int z0, .int z1] := by
  unfold w_X0_minor_b17 at h
  refine X_iconst (v := (-1)) C dX0_minor_17 rfl ?_
  refine X_ixor C dX0_minor_18 ?_
  refine X_iand C dX0_minor_19 ?_
  refine X_topi (fun v2 e3 => ?_)
  have h := h v2 e3
  refine X_istore C dX0_minor_20 (lo2 := [(4, _), (0, _), (2, _)]) (by decide) rfl ?_
  refine X_aload_n C dX0_minor_22 rfl 1 rfl (isRV_r _) ?_
  refine X_getF (ci := 0) (j := 11) (q := (RX0, TX0, 49)) C rfl (by decide) q271 rfl dX0_minor_23 (b := 128) (LX_S hX (k := 0) rfl) (LX_F hX (k := 0) (j := 11) rfl) rfl ?_
  refine X_iconst (v := 0) C dX0_minor_26 rfl ?_
  refine X_lconst (v := 1) C dX0_minor_27 rfl ?_
  refine X_lastS C (LX_S hX (k := 128) rfl) (LX_L hX (k := 128) rfl) (vp_dec rfl) rfl dX0_minor_28 ?_
  refine X_nm (fun s4 e5 => ?_)
  have h := h s4 e5
  refine X_iconst (v := 1) C dX0_minor_29 rfl ?_
  refine X_istore C dX0_minor_30 (lo2 := [(5, _), (4, _), (0, _), (2, _)]) (by decide) rfl ?_
  refine X_sub [2, 3, 1, 0] (lo2 := [(0, _), (2, _), (4, _), (5, _)]) rfl ?_
  refine t_X0_minor_l32 hX hd C hn ?_ gFU s4 x2 v2 1 h
  · intro s30 x4 h
    exact t_X0_minor_b92 hX hd C hn s30 x4 h
def w_X0_minor (st : St) (p1 : Int32) (p2 : Int32) (p3 : Int32) (Φ : St → Int64 → Prop) : Prop := ((p1 ≤ p3) → w_X0_minor_b17 Φ st p2 0 (((1 : Int32) <<< (p1 &&& 31)) - 1)) ∧ ((¬ p1 ≤ p3) → w_X0_minor_b17 Φ st p2 ((1 : Int32) <<< (p3 &&& 31)) (((1 : Int32) <<< (p1 &&& 31)) - 1))
theorem nm_X0_minor : yX0_minor.cls ≠ "java/lang/invoke/MethodHandle" ∧ yX0_minor.cls ≠ "java/lang/invoke/VarHandle" ∧ (parseMethodDescriptor yX0_minor.desc).map (fun d => d.parameters.length) = some 3 := by decide +kernel
theorem e_X0_minor : plainFor yX0_minor = true := plainFor_of_name (by decide +kernel)
theorem m_X0_minor {θ : Th} {l : Launch} (hl0 : l.stackTraces = false) (hX : LX θ) {d : Nat} (hd : 1 ≤ d) (st : St) (p1 : Int32) (p2 : Int32) (p3 : Int32) {Φ : St → Int64 → Prop} (h : w_X0_minor st p1 p2 p3 Φ) : Ct θ l yX0_minor (ws_ yX0_minor cX0_minor 7 (some Jvm.ClassFile.FieldType.long)) d [.ref (ad θ 0), .int p1, .int p2, .int p3] st (pL Φ, noX) := by
  refine Ct_entry hl0 e_X0_minor (Nat.le_of_ble_eq_true rfl) (fun κ hκ _ C => ?_)
  have hn : ∀ st r, Φ st r → ((pL Φ, noX) : Ph).1 st (some (.long r)) := fun st r q => ⟨r, rfl, q⟩
  change X _ _ _ _ _ [(0, .ref (ad θ 0)), (1, .int p1), (2, .int p2), (3, .int p3)] _
  unfold w_X0_minor at h
  refine X_iconst (v := 1) C dX0_minor_0 rfl ?_
  refine X_iload_n C dX0_minor_1 rfl 1 rfl ?_
  refine X_ishl C dX0_minor_2 ?_
  refine X_iconst (v := 1) C dX0_minor_3 rfl ?_
  refine X_isub C dX0_minor_4 ?_
  refine X_iload_n C dX0_minor_5 rfl 3 rfl ?_
  refine X_iload_n C dX0_minor_6 rfl 1 rfl ?_
  refine X_icmp_ge (tgt := 16) C dX0_minor_7 (by decide) (fun c1 => ?_) (fun c1 => ?_)
  · have h := h.1 c1
    refine X_iconst (v := 0) C dX0_minor_16 rfl ?_
    refine X_sub [0, 2] (lo2 := [(0, _), (2, _)]) rfl ?_
    exact t_X0_minor_b17 hX hd C hn st p2 0 (((1 : Int32) <<< (p1 &&& 31)) - 1) h
  · have h := h.2 c1
    refine X_iconst (v := 1) C dX0_minor_10 rfl ?_
    refine X_iload_n C dX0_minor_11 rfl 3 rfl ?_
    refine X_ishl C dX0_minor_12 ?_
    refine X_goto (tgt := 17) C dX0_minor_13 (by decide) ?_
    refine X_sub [0, 2] (lo2 := [(0, _), (2, _)]) rfl ?_
    exact t_X0_minor_b17 hX hd C hn st p2 ((1 : Int32) <<< (p3 &&& 31)) (((1 : Int32) <<< (p1 &&& 31)) - 1) h

def w_X0_holdsRows_l15 (Φ : St → Int32 → Prop) (E52 : St → Int32 → Int32 → Int64 → Prop) : Nat → St → Int32 → Int32 → Int64 → Int32 → Prop
  | 0, _, _, _, _, _ => False
  | n + 1, st, x1, x2, x3, x5 => ((x1 ≤ x5) → E52 st x1 x2 x3) ∧ ((¬ x1 ≤ x5) → vp_in x5 3 ∧ vp_in x2 27 ∧ vp_in (sI st 130 x5.toNatClampNeg) 3 ∧ ∀ v6 : Int64, v6 = (x3 + ((sL st 132 x5.toNatClampNeg) * (sL st (96 + x2.toNatClampNeg) (sI st 130 x5.toNatClampNeg).toNatClampNeg))) → w_X0_holdsRows_l15 Φ E52 n st x1 x2 v6 (x5 + 1))
theorem t_X0_holdsRows_l15 {θ : Th} {κ : Kx} {Ph : Ph} (hX : LX θ) {d : Nat} (hd : 0 ≤ d) (C : Cx θ κ yX0_holdsRows cX0_holdsRows 6 (some Jvm.ClassFile.FieldType.boolean) [] d) {Φ : St → Int32 → Prop} (hn : ∀ st r, Φ st r → Ph.1 st (some (.int r))) {E52 : St → Int32 → Int32 → Int64 → Prop} (hE52 : ∀ (st : St) (x1 : Int32) (x2 : Int32) (x3 : Int64), E52 st x1 x2 x3 → X θ κ Ph st 52 [(0, .ref (ad θ 0)), (1, .int x1), (2, .int x2), (3, .long x3)] []) : ∀ (n : Nat) (st : St) (x1 : Int32) (x2 : Int32) (x3 : Int64) (x5 : Int32), w_X0_holdsRows_l15 Φ E52 n st x1 x2 x3 x5 → X θ κ Ph st 15 [(0, .ref (ad θ 0)), (1, .int x1), (2, .int x2), (3, .long x3), (5, .int x5)] [] := by
  intro n
  induction n with
  | zero => intro st x1 x2 x3 x5 h; exact h.elim
  | succ n hK15 =>
    intro st x1 x2 x3 x5 h
    rw [w_X0_holdsRows_l15] at h
    refine X_iload C dX0_holdsRows_15 4 rfl ?_
    refine X_iload_n C dX0_holdsRows_17 rfl 1 rfl ?_
    refine X_icmp_ge (tgt := 52) C dX0_holdsRows_18 (by decide) (fun c2 => ?_) (fun c2 => ?_)
    · have h := h.1 c2
      refine X_sub [0, 1, 2, 3] (lo2 := [(0, _), (1, _), (2, _), (3, _)]) rfl ?_
      exact hE52 st x1 x2 x3 h
    · have h := h.2 c2
      refine X_lload_n C dX0_holdsRows_21 rfl 3 rfl ?_
      refine X_aload_n C dX0_holdsRows_22 rfl 0 rfl (isRV_r _) ?_
      refine X_getF (ci := 0) (j := 15) (q := (RX0, TX0, 49)) C rfl (by decide) q275 rfl dX0_holdsRows_23 (b := 132) (LX_S hX (k := 0) rfl) (LX_F hX (k := 0) (j := 15) rfl) rfl ?_
      refine X_iload C dX0_holdsRows_26 4 rfl ?_
      have g3 := h.1
      have h := h.2
      refine X_laldS C (LX_S hX (k := 132) rfl) (LX_L hX (k := 132) rfl) g3 rfl dX0_holdsRows_28 ?_
      refine X_aload_n C dX0_holdsRows_29 rfl 0 rfl (isRV_r _) ?_
      refine X_getF (ci := 0) (j := 7) (q := (RX0, TX0, 49)) C rfl (by decide) q267 rfl dX0_holdsRows_30 (b := 95) (LX_S hX (k := 0) rfl) (LX_F hX (k := 0) (j := 7) rfl) rfl ?_
      refine X_iload_n C dX0_holdsRows_33 rfl 2 rfl ?_
      have g4 := h.1
      have h := h.2
      refine X_aaldF C 8 rfl (LX_S hX (k := 95) rfl) (by decide) rfl (LX_L hX (k := 95) rfl) g4 rfl (b := (96 + x2.toNatClampNeg)) (LXf_row hX (i := x2.toNatClampNeg) (in_lt g4)).2.2 dX0_holdsRows_34 rfl ?_
      refine X_aload_n C dX0_holdsRows_35 rfl 0 rfl (isRV_r _) ?_
      refine X_getF (ci := 0) (j := 13) (q := (RX0, TX0, 49)) C rfl (by decide) q273 rfl dX0_holdsRows_36 (b := 130) (LX_S hX (k := 0) rfl) (LX_F hX (k := 0) (j := 13) rfl) rfl ?_
      refine X_iload C dX0_holdsRows_39 4 rfl ?_
      refine X_ialdS C (LX_S hX (k := 130) rfl) (LX_L hX (k := 130) rfl) g3 rfl dX0_holdsRows_41 ?_
      have g5 := h.1
      have h := h.2
      refine X_laldS C (LXf_row hX (i := x2.toNatClampNeg) (in_lt g4)).1 (LXf_row hX (i := x2.toNatClampNeg) (in_lt g4)).2.1 g5 rfl dX0_holdsRows_42 ?_
      refine X_lmul C dX0_holdsRows_43 ?_
      refine X_ladd C dX0_holdsRows_44 ?_
      refine X_topl (fun v6 e7 => ?_)
      have h := h v6 e7
      refine X_lstore_n C dX0_holdsRows_45 rfl (lo2 := [(3, _), (0, _), (1, _), (2, _), (5, _)]) (by decide) rfl ?_
      refine X_iinc (v := (x5 + 1)) C (j := 4) dX0_holdsRows_46 rfl rfl (lo2 := [(5, _), (3, _), (0, _), (1, _), (2, _)]) (by decide) rfl ?_
      refine X_goto (tgt := 15) C dX0_holdsRows_49 (by decide) ?_
      refine X_sub [2, 3, 4, 1, 0] (lo2 := [(0, _), (1, _), (2, _), (3, _), (5, _)]) rfl ?_
      exact hK15 st x1 x2 v6 (x5 + 1) h
def w_X0_holdsRows_b52 (Φ : St → Int32 → Prop) (E61 : St → Prop) (K2 : St → Int32 → Int32 → Prop) (st : St) (x1 : Int32) (x2 : Int32) (x3 : Int64) : Prop := ((x3 ≤ (sL st 0 17)) → K2 st x1 (x2 + 1)) ∧ ((¬ x3 ≤ (sL st 0 17)) → E61 st)
theorem t_X0_holdsRows_b52 {θ : Th} {κ : Kx} {Ph : Ph} (hX : LX θ) {d : Nat} (hd : 0 ≤ d) (C : Cx θ κ yX0_holdsRows cX0_holdsRows 6 (some Jvm.ClassFile.FieldType.boolean) [] d) {Φ : St → Int32 → Prop} (hn : ∀ st r, Φ st r → Ph.1 st (some (.int r))) {E61 : St → Prop} {K2 : St → Int32 → Int32 → Prop} (hE61 : ∀ (st : St), E61 st → X θ κ Ph st 61 [] []) (hK2 : ∀ (st : St) (x1 : Int32) (x2 : Int32), K2 st x1 x2 → X θ κ Ph st 2 [(0, .ref (ad θ 0)), (1, .int x1), (2, .int x2)] []) (st : St) (x1 : Int32) (x2 : Int32) (x3 : Int64) (h : w_X0_holdsRows_b52 Φ E61 K2 st x1 x2 x3) : X θ κ Ph st 52 [(0, .ref (ad θ 0)), (1, .int x1), (2, .int x2), (3, .long x3)] [] := by
  unfold w_X0_holdsRows_b52 at h
  refine X_lload_n C dX0_holdsRows_52 rfl 3 rfl ?_
  refine X_aload_n C dX0_holdsRows_53 rfl 0 rfl (isRV_r _) ?_
  refine X_getS (ci := 0) (j := 17) (q := (RX0, TX0, 49)) C rfl (by decide) q277 rfl dX0_holdsRows_54 (LX_S hX (k := 0) rfl) (v := .long (sL st 0 17)) rfl ?_
  refine X_lcmp_le (tgt := 63) C dX0_holdsRows_57 dX0_holdsRows_58 (by decide) (fun c9 => ?_) (fun c9 => ?_)
  · have h := h.1 c9
    refine X_iinc (v := (x2 + 1)) C (j := 2) dX0_holdsRows_63 rfl rfl (lo2 := [(2, _), (0, _), (1, _), (3, _)]) (by decide) rfl ?_
    refine X_goto (tgt := 2) C dX0_holdsRows_66 (by decide) ?_
    refine X_sub [1, 2, 0] (lo2 := [(0, _), (1, _), (2, _)]) rfl ?_
    exact hK2 st x1 (x2 + 1) h
  · have h := h.2 c9
    refine X_sub [] (lo2 := []) rfl ?_
    exact hE61 st h
def w_X0_holdsRows_l2 (Φ : St → Int32 → Prop) (E61 : St → Prop) (E69 : St → Prop) : Nat → St → Int32 → Int32 → Prop
  | 0, _, _, _ => False
  | n + 1, st, x1, x2 => (((sI st 0 8) ≤ x2) → E69 st) ∧ ((¬ (sI st 0 8) ≤ x2) → w_X0_holdsRows_l15 Φ (fun (s8 : St) (x1 : Int32) (x2 : Int32) (x3 : Int64) => w_X0_holdsRows_b52 Φ E61 (w_X0_holdsRows_l2 Φ E61 E69 n) s8 x1 x2 x3) gFU st x1 x2 0 0)
theorem t_X0_holdsRows_l2 {θ : Th} {κ : Kx} {Ph : Ph} (hX : LX θ) {d : Nat} (hd : 0 ≤ d) (C : Cx θ κ yX0_holdsRows cX0_holdsRows 6 (some Jvm.ClassFile.FieldType.boolean) [] d) {Φ : St → Int32 → Prop} (hn : ∀ st r, Φ st r → Ph.1 st (some (.int r))) {E61 : St → Prop} {E69 : St → Prop} (hE61 : ∀ (st : St), E61 st → X θ κ Ph st 61 [] []) (hE69 : ∀ (st : St), E69 st → X θ κ Ph st 69 [] []) : ∀ (n : Nat) (st : St) (x1 : Int32) (x2 : Int32), w_X0_holdsRows_l2 Φ E61 E69 n st x1 x2 → X θ κ Ph st 2 [(0, .ref (ad θ 0)), (1, .int x1), (2, .int x2)] [] := by
  intro n
  induction n with
  | zero => intro st x1 x2 h; exact h.elim
  | succ n hK2 =>
    intro st x1 x2 h
    rw [w_X0_holdsRows_l2] at h
    refine X_iload_n C dX0_holdsRows_2 rfl 2 rfl ?_
    refine X_aload_n C dX0_holdsRows_3 rfl 0 rfl (isRV_r _) ?_
    refine X_getS (ci := 0) (j := 8) (q := (RX0, TX0, 49)) C rfl (by decide) q268 rfl dX0_holdsRows_4 (LX_S hX (k := 0) rfl) (v := .int (sI st 0 8)) rfl ?_
    refine X_icmp_ge (tgt := 69) C dX0_holdsRows_7 (by decide) (fun c1 => ?_) (fun c1 => ?_)
    · have h := h.1 c1
      refine X_sub [] (lo2 := []) rfl ?_
      exact hE69 st h
    · have h := h.2 c1
      refine X_lconst (v := 0) C dX0_holdsRows_10 rfl ?_
      refine X_lstore_n C dX0_holdsRows_11 rfl (lo2 := [(3, _), (0, _), (1, _), (2, _)]) (by decide) rfl ?_
      refine X_iconst (v := 0) C dX0_holdsRows_12 rfl ?_
      refine X_istore C dX0_holdsRows_13 (lo2 := [(5, _), (3, _), (0, _), (1, _), (2, _)]) (by decide) rfl ?_
      refine X_sub [2, 3, 4, 1, 0] (lo2 := [(0, _), (1, _), (2, _), (3, _), (5, _)]) rfl ?_
      refine t_X0_holdsRows_l15 hX hd C hn ?_ gFU st x1 x2 0 0 h
      · intro s8 x1 x2 x3 h
        exact t_X0_holdsRows_b52 hX hd C hn hE61 hK2 s8 x1 x2 x3 h
def w_X0_holdsRows_b61 (Φ : St → Int32 → Prop) (st : St) : Prop := Φ st 0
theorem t_X0_holdsRows_b61 {θ : Th} {κ : Kx} {Ph : Ph} (hX : LX θ) {d : Nat} (hd : 0 ≤ d) (C : Cx θ κ yX0_holdsRows cX0_holdsRows 6 (some Jvm.ClassFile.FieldType.boolean) [] d) {Φ : St → Int32 → Prop} (hn : ∀ st r, Φ st r → Ph.1 st (some (.int r))) (st : St) (h : w_X0_holdsRows_b61 Φ st) : X θ κ Ph st 61 [] [] := by
  unfold w_X0_holdsRows_b61 at h
  refine X_iconst (v := 0) C dX0_holdsRows_61 rfl ?_
  exact X_zret C rfl rfl dX0_holdsRows_62 (hn st _ h)
def w_X0_holdsRows_b69 (Φ : St → Int32 → Prop) (st : St) : Prop := Φ st 1
theorem t_X0_holdsRows_b69 {θ : Th} {κ : Kx} {Ph : Ph} (hX : LX θ) {d : Nat} (hd : 0 ≤ d) (C : Cx θ κ yX0_holdsRows cX0_holdsRows 6 (some Jvm.ClassFile.FieldType.boolean) [] d) {Φ : St → Int32 → Prop} (hn : ∀ st r, Φ st r → Ph.1 st (some (.int r))) (st : St) (h : w_X0_holdsRows_b69 Φ st) : X θ κ Ph st 69 [] [] := by
  unfold w_X0_holdsRows_b69 at h
  refine X_iconst (v := 1) C dX0_holdsRows_69 rfl ?_
  exact X_zret C rfl rfl dX0_holdsRows_70 (hn st _ h)
def w_X0_holdsRows (st : St) (p1 : Int32) (Φ : St → Int32 → Prop) : Prop := w_X0_holdsRows_l2 Φ (fun (s10 : St) => w_X0_holdsRows_b61 Φ s10) (fun (s11 : St) => w_X0_holdsRows_b69 Φ s11) gFU st p1 0
theorem nm_X0_holdsRows : yX0_holdsRows.cls ≠ "java/lang/invoke/MethodHandle" ∧ yX0_holdsRows.cls ≠ "java/lang/invoke/VarHandle" ∧ (parseMethodDescriptor yX0_holdsRows.desc).map (fun d => d.parameters.length) = some 1 := by decide +kernel
theorem e_X0_holdsRows : plainFor yX0_holdsRows = true := plainFor_of_name (by decide +kernel)
theorem m_X0_holdsRows {θ : Th} {l : Launch} (hl0 : l.stackTraces = false) (hX : LX θ) {d : Nat} (hd : 0 ≤ d) (st : St) (p1 : Int32) {Φ : St → Int32 → Prop} (h : w_X0_holdsRows st p1 Φ) : Ct θ l yX0_holdsRows (ws_ yX0_holdsRows cX0_holdsRows 6 (some Jvm.ClassFile.FieldType.boolean)) d [.ref (ad θ 0), .int p1] st (pI Φ, noX) := by
  refine Ct_entry hl0 e_X0_holdsRows (Nat.le_of_ble_eq_true rfl) (fun κ hκ _ C => ?_)
  have hn : ∀ st r, Φ st r → ((pI Φ, noX) : Ph).1 st (some (.int r)) := fun st r q => ⟨r, rfl, q⟩
  change X _ _ _ _ _ [(0, .ref (ad θ 0)), (1, .int p1)] _
  unfold w_X0_holdsRows at h
  refine X_iconst (v := 0) C dX0_holdsRows_0 rfl ?_
  refine X_istore_n C dX0_holdsRows_1 rfl (lo2 := [(2, _), (0, _), (1, _)]) (by decide) rfl ?_
  refine X_sub [1, 2, 0] (lo2 := [(0, _), (1, _), (2, _)]) rfl ?_
  refine t_X0_holdsRows_l2 hX hd C hn ?_ ?_ gFU st p1 0 h
  · intro s10 h
    exact t_X0_holdsRows_b61 hX hd C hn s10 h
  · intro s11 h
    exact t_X0_holdsRows_b69 hX hd C hn s11 h

def w_X0_holdsColumns_l15 (Φ : St → Int32 → Prop) (E52 : St → Int32 → Int32 → Int64 → Prop) : Nat → St → Int32 → Int32 → Int64 → Int32 → Prop
  | 0, _, _, _, _, _ => False
  | n + 1, st, x1, x2, x3, x5 => ((x1 ≤ x5) → E52 st x1 x2 x3) ∧ ((¬ x1 ≤ x5) → vp_in x5 3 ∧ vp_in (sI st 129 x5.toNatClampNeg) 27 ∧ vp_in x2 3 ∧ ∀ v6 : Int64, v6 = (x3 + ((sL st 131 x5.toNatClampNeg) * (sL st (96 + (sI st 129 x5.toNatClampNeg).toNatClampNeg) x2.toNatClampNeg))) → w_X0_holdsColumns_l15 Φ E52 n st x1 x2 v6 (x5 + 1))
theorem t_X0_holdsColumns_l15 {θ : Th} {κ : Kx} {Ph : Ph} (hX : LX θ) {d : Nat} (hd : 0 ≤ d) (C : Cx θ κ yX0_holdsColumns cX0_holdsColumns 6 (some Jvm.ClassFile.FieldType.boolean) [] d) {Φ : St → Int32 → Prop} (hn : ∀ st r, Φ st r → Ph.1 st (some (.int r))) {E52 : St → Int32 → Int32 → Int64 → Prop} (hE52 : ∀ (st : St) (x1 : Int32) (x2 : Int32) (x3 : Int64), E52 st x1 x2 x3 → X θ κ Ph st 52 [(0, .ref (ad θ 0)), (1, .int x1), (2, .int x2), (3, .long x3)] []) : ∀ (n : Nat) (st : St) (x1 : Int32) (x2 : Int32) (x3 : Int64) (x5 : Int32), w_X0_holdsColumns_l15 Φ E52 n st x1 x2 x3 x5 → X θ κ Ph st 15 [(0, .ref (ad θ 0)), (1, .int x1), (2, .int x2), (3, .long x3), (5, .int x5)] [] := by
  intro n
  induction n with
  | zero => intro st x1 x2 x3 x5 h; exact h.elim
  | succ n hK15 =>
    intro st x1 x2 x3 x5 h
    rw [w_X0_holdsColumns_l15] at h
    refine X_iload C dX0_holdsColumns_15 4 rfl ?_
    refine X_iload_n C dX0_holdsColumns_17 rfl 1 rfl ?_
    refine X_icmp_ge (tgt := 52) C dX0_holdsColumns_18 (by decide) (fun c2 => ?_) (fun c2 => ?_)
    · have h := h.1 c2
      refine X_sub [0, 1, 2, 3] (lo2 := [(0, _), (1, _), (2, _), (3, _)]) rfl ?_
      exact hE52 st x1 x2 x3 h
    · have h := h.2 c2
      refine X_lload_n C dX0_holdsColumns_21 rfl 3 rfl ?_
      refine X_aload_n C dX0_holdsColumns_22 rfl 0 rfl (isRV_r _) ?_
      refine X_getF (ci := 0) (j := 14) (q := (RX0, TX0, 49)) C rfl (by decide) q274 rfl dX0_holdsColumns_23 (b := 131) (LX_S hX (k := 0) rfl) (LX_F hX (k := 0) (j := 14) rfl) rfl ?_
      refine X_iload C dX0_holdsColumns_26 4 rfl ?_
      have g3 := h.1
      have h := h.2
      refine X_laldS C (LX_S hX (k := 131) rfl) (LX_L hX (k := 131) rfl) g3 rfl dX0_holdsColumns_28 ?_
      refine X_aload_n C dX0_holdsColumns_29 rfl 0 rfl (isRV_r _) ?_
      refine X_getF (ci := 0) (j := 7) (q := (RX0, TX0, 49)) C rfl (by decide) q267 rfl dX0_holdsColumns_30 (b := 95) (LX_S hX (k := 0) rfl) (LX_F hX (k := 0) (j := 7) rfl) rfl ?_
      refine X_aload_n C dX0_holdsColumns_33 rfl 0 rfl (isRV_r _) ?_
      refine X_getF (ci := 0) (j := 12) (q := (RX0, TX0, 49)) C rfl (by decide) q272 rfl dX0_holdsColumns_34 (b := 129) (LX_S hX (k := 0) rfl) (LX_F hX (k := 0) (j := 12) rfl) rfl ?_
      refine X_iload C dX0_holdsColumns_37 4 rfl ?_
      refine X_ialdS C (LX_S hX (k := 129) rfl) (LX_L hX (k := 129) rfl) g3 rfl dX0_holdsColumns_39 ?_
      have g4 := h.1
      have h := h.2
      refine X_aaldF C 8 rfl (LX_S hX (k := 95) rfl) (by decide) rfl (LX_L hX (k := 95) rfl) g4 rfl (b := (96 + (sI st 129 x5.toNatClampNeg).toNatClampNeg)) (LXf_row hX (i := (sI st 129 x5.toNatClampNeg).toNatClampNeg) (in_lt g4)).2.2 dX0_holdsColumns_40 rfl ?_
      refine X_iload_n C dX0_holdsColumns_41 rfl 2 rfl ?_
      have g5 := h.1
      have h := h.2
      refine X_laldS C (LXf_row hX (i := (sI st 129 x5.toNatClampNeg).toNatClampNeg) (in_lt g4)).1 (LXf_row hX (i := (sI st 129 x5.toNatClampNeg).toNatClampNeg) (in_lt g4)).2.1 g5 rfl dX0_holdsColumns_42 ?_
      refine X_lmul C dX0_holdsColumns_43 ?_
      refine X_ladd C dX0_holdsColumns_44 ?_
      refine X_topl (fun v6 e7 => ?_)
      have h := h v6 e7
      refine X_lstore_n C dX0_holdsColumns_45 rfl (lo2 := [(3, _), (0, _), (1, _), (2, _), (5, _)]) (by decide) rfl ?_
      refine X_iinc (v := (x5 + 1)) C (j := 4) dX0_holdsColumns_46 rfl rfl (lo2 := [(5, _), (3, _), (0, _), (1, _), (2, _)]) (by decide) rfl ?_
      refine X_goto (tgt := 15) C dX0_holdsColumns_49 (by decide) ?_
      refine X_sub [2, 3, 4, 1, 0] (lo2 := [(0, _), (1, _), (2, _), (3, _), (5, _)]) rfl ?_
      exact hK15 st x1 x2 v6 (x5 + 1) h
def w_X0_holdsColumns_b52 (Φ : St → Int32 → Prop) (E61 : St → Prop) (K2 : St → Int32 → Int32 → Prop) (st : St) (x1 : Int32) (x2 : Int32) (x3 : Int64) : Prop := (((sL st 0 17) ≤ x3) → K2 st x1 (x2 + 1)) ∧ ((¬ (sL st 0 17) ≤ x3) → E61 st)
theorem t_X0_holdsColumns_b52 {θ : Th} {κ : Kx} {Ph : Ph} (hX : LX θ) {d : Nat} (hd : 0 ≤ d) (C : Cx θ κ yX0_holdsColumns cX0_holdsColumns 6 (some Jvm.ClassFile.FieldType.boolean) [] d) {Φ : St → Int32 → Prop} (hn : ∀ st r, Φ st r → Ph.1 st (some (.int r))) {E61 : St → Prop} {K2 : St → Int32 → Int32 → Prop} (hE61 : ∀ (st : St), E61 st → X θ κ Ph st 61 [] []) (hK2 : ∀ (st : St) (x1 : Int32) (x2 : Int32), K2 st x1 x2 → X θ κ Ph st 2 [(0, .ref (ad θ 0)), (1, .int x1), (2, .int x2)] []) (st : St) (x1 : Int32) (x2 : Int32) (x3 : Int64) (h : w_X0_holdsColumns_b52 Φ E61 K2 st x1 x2 x3) : X θ κ Ph st 52 [(0, .ref (ad θ 0)), (1, .int x1), (2, .int x2), (3, .long x3)] [] := by
  unfold w_X0_holdsColumns_b52 at h
  refine X_lload_n C dX0_holdsColumns_52 rfl 3 rfl ?_
  refine X_aload_n C dX0_holdsColumns_53 rfl 0 rfl (isRV_r _) ?_
  refine X_getS (ci := 0) (j := 17) (q := (RX0, TX0, 49)) C rfl (by decide) q277 rfl dX0_holdsColumns_54 (LX_S hX (k := 0) rfl) (v := .long (sL st 0 17)) rfl ?_
  refine X_lcmp_ge (tgt := 63) C dX0_holdsColumns_57 dX0_holdsColumns_58 (by decide) (fun c9 => ?_) (fun c9 => ?_)
  · have h := h.1 c9
    refine X_iinc (v := (x2 + 1)) C (j := 2) dX0_holdsColumns_63 rfl rfl (lo2 := [(2, _), (0, _), (1, _), (3, _)]) (by decide) rfl ?_
    refine X_goto (tgt := 2) C dX0_holdsColumns_66 (by decide) ?_
    refine X_sub [1, 2, 0] (lo2 := [(0, _), (1, _), (2, _)]) rfl ?_
    exact hK2 st x1 (x2 + 1) h
  · have h := h.2 c9
    refine X_sub [] (lo2 := []) rfl ?_
    exact hE61 st h
def w_X0_holdsColumns_l2 (Φ : St → Int32 → Prop) (E61 : St → Prop) (E69 : St → Prop) : Nat → St → Int32 → Int32 → Prop
  | 0, _, _, _ => False
  | n + 1, st, x1, x2 => (((sI st 0 9) ≤ x2) → E69 st) ∧ ((¬ (sI st 0 9) ≤ x2) → w_X0_holdsColumns_l15 Φ (fun (s8 : St) (x1 : Int32) (x2 : Int32) (x3 : Int64) => w_X0_holdsColumns_b52 Φ E61 (w_X0_holdsColumns_l2 Φ E61 E69 n) s8 x1 x2 x3) gFU st x1 x2 0 0)
theorem t_X0_holdsColumns_l2 {θ : Th} {κ : Kx} {Ph : Ph} (hX : LX θ) {d : Nat} (hd : 0 ≤ d) (C : Cx θ κ yX0_holdsColumns cX0_holdsColumns 6 (some Jvm.ClassFile.FieldType.boolean) [] d) {Φ : St → Int32 → Prop} (hn : ∀ st r, Φ st r → Ph.1 st (some (.int r))) {E61 : St → Prop} {E69 : St → Prop} (hE61 : ∀ (st : St), E61 st → X θ κ Ph st 61 [] []) (hE69 : ∀ (st : St), E69 st → X θ κ Ph st 69 [] []) : ∀ (n : Nat) (st : St) (x1 : Int32) (x2 : Int32), w_X0_holdsColumns_l2 Φ E61 E69 n st x1 x2 → X θ κ Ph st 2 [(0, .ref (ad θ 0)), (1, .int x1), (2, .int x2)] [] := by
  intro n
  induction n with
  | zero => intro st x1 x2 h; exact h.elim
  | succ n hK2 =>
    intro st x1 x2 h
    rw [w_X0_holdsColumns_l2] at h
    refine X_iload_n C dX0_holdsColumns_2 rfl 2 rfl ?_
    refine X_aload_n C dX0_holdsColumns_3 rfl 0 rfl (isRV_r _) ?_
    refine X_getS (ci := 0) (j := 9) (q := (RX0, TX0, 49)) C rfl (by decide) q269 rfl dX0_holdsColumns_4 (LX_S hX (k := 0) rfl) (v := .int (sI st 0 9)) rfl ?_
    refine X_icmp_ge (tgt := 69) C dX0_holdsColumns_7 (by decide) (fun c1 => ?_) (fun c1 => ?_)
    · have h := h.1 c1
      refine X_sub [] (lo2 := []) rfl ?_
      exact hE69 st h
    · have h := h.2 c1
      refine X_lconst (v := 0) C dX0_holdsColumns_10 rfl ?_
      refine X_lstore_n C dX0_holdsColumns_11 rfl (lo2 := [(3, _), (0, _), (1, _), (2, _)]) (by decide) rfl ?_
      refine X_iconst (v := 0) C dX0_holdsColumns_12 rfl ?_
      refine X_istore C dX0_holdsColumns_13 (lo2 := [(5, _), (3, _), (0, _), (1, _), (2, _)]) (by decide) rfl ?_
      refine X_sub [2, 3, 4, 1, 0] (lo2 := [(0, _), (1, _), (2, _), (3, _), (5, _)]) rfl ?_
      refine t_X0_holdsColumns_l15 hX hd C hn ?_ gFU st x1 x2 0 0 h
      · intro s8 x1 x2 x3 h
        exact t_X0_holdsColumns_b52 hX hd C hn hE61 hK2 s8 x1 x2 x3 h
def w_X0_holdsColumns_b61 (Φ : St → Int32 → Prop) (st : St) : Prop := Φ st 0
theorem t_X0_holdsColumns_b61 {θ : Th} {κ : Kx} {Ph : Ph} (hX : LX θ) {d : Nat} (hd : 0 ≤ d) (C : Cx θ κ yX0_holdsColumns cX0_holdsColumns 6 (some Jvm.ClassFile.FieldType.boolean) [] d) {Φ : St → Int32 → Prop} (hn : ∀ st r, Φ st r → Ph.1 st (some (.int r))) (st : St) (h : w_X0_holdsColumns_b61 Φ st) : X θ κ Ph st 61 [] [] := by
  unfold w_X0_holdsColumns_b61 at h
  refine X_iconst (v := 0) C dX0_holdsColumns_61 rfl ?_
  exact X_zret C rfl rfl dX0_holdsColumns_62 (hn st _ h)
def w_X0_holdsColumns_b69 (Φ : St → Int32 → Prop) (st : St) : Prop := Φ st 1
theorem t_X0_holdsColumns_b69 {θ : Th} {κ : Kx} {Ph : Ph} (hX : LX θ) {d : Nat} (hd : 0 ≤ d) (C : Cx θ κ yX0_holdsColumns cX0_holdsColumns 6 (some Jvm.ClassFile.FieldType.boolean) [] d) {Φ : St → Int32 → Prop} (hn : ∀ st r, Φ st r → Ph.1 st (some (.int r))) (st : St) (h : w_X0_holdsColumns_b69 Φ st) : X θ κ Ph st 69 [] [] := by
  unfold w_X0_holdsColumns_b69 at h
  refine X_iconst (v := 1) C dX0_holdsColumns_69 rfl ?_
  exact X_zret C rfl rfl dX0_holdsColumns_70 (hn st _ h)
def w_X0_holdsColumns (st : St) (p1 : Int32) (Φ : St → Int32 → Prop) : Prop := w_X0_holdsColumns_l2 Φ (fun (s10 : St) => w_X0_holdsColumns_b61 Φ s10) (fun (s11 : St) => w_X0_holdsColumns_b69 Φ s11) gFU st p1 0
theorem nm_X0_holdsColumns : yX0_holdsColumns.cls ≠ "java/lang/invoke/MethodHandle" ∧ yX0_holdsColumns.cls ≠ "java/lang/invoke/VarHandle" ∧ (parseMethodDescriptor yX0_holdsColumns.desc).map (fun d => d.parameters.length) = some 1 := by decide +kernel
theorem e_X0_holdsColumns : plainFor yX0_holdsColumns = true := plainFor_of_name (by decide +kernel)
theorem m_X0_holdsColumns {θ : Th} {l : Launch} (hl0 : l.stackTraces = false) (hX : LX θ) {d : Nat} (hd : 0 ≤ d) (st : St) (p1 : Int32) {Φ : St → Int32 → Prop} (h : w_X0_holdsColumns st p1 Φ) : Ct θ l yX0_holdsColumns (ws_ yX0_holdsColumns cX0_holdsColumns 6 (some Jvm.ClassFile.FieldType.boolean)) d [.ref (ad θ 0), .int p1] st (pI Φ, noX) := by
  refine Ct_entry hl0 e_X0_holdsColumns (Nat.le_of_ble_eq_true rfl) (fun κ hκ _ C => ?_)
  have hn : ∀ st r, Φ st r → ((pI Φ, noX) : Ph).1 st (some (.int r)) := fun st r q => ⟨r, rfl, q⟩
  change X _ _ _ _ _ [(0, .ref (ad θ 0)), (1, .int p1)] _
  unfold w_X0_holdsColumns at h
  refine X_iconst (v := 0) C dX0_holdsColumns_0 rfl ?_
  refine X_istore_n C dX0_holdsColumns_1 rfl (lo2 := [(2, _), (0, _), (1, _)]) (by decide) rfl ?_
  refine X_sub [1, 2, 0] (lo2 := [(0, _), (1, _), (2, _)]) rfl ?_
  refine t_X0_holdsColumns_l2 hX hd C hn ?_ ?_ gFU st p1 0 h
  · intro s10 h
    exact t_X0_holdsColumns_b61 hX hd C hn s10 h
  · intro s11 h
    exact t_X0_holdsColumns_b69 hX hd C hn s11 h

def w_X0_solves_b82 (Φ : St → Int32 → Prop) (E144 : St → Prop) (K61 : St → Int32 → Int32 → Int64 → Int32 → Prop) (st : St) (x1 : Int32) (x2 : Int32) (x3 : Int64) (x5 : Int32) (z0 : Int64) : Prop := w_X0_minor st x2 x5 x1 (fun (s28 : St) (r27 : Int64) => vp_in x5 3 ∧ ∀ s36, s36 = putL s28 131 (x5.toNatClampNeg) (z0 * r27) → w_X0_minor s36 x2 x1 x5 (fun (s39 : St) (r38 : Int64) => ∀ s46, s46 = putL s39 132 (x5.toNatClampNeg) (z0 * r38) → (((sL s46 131 x5.toNatClampNeg) < 0) → E144 s46) ∧ ((¬ (sL s46 131 x5.toNatClampNeg) < 0) → ((0 ≤ (sL s46 132 x5.toNatClampNeg)) → K61 s46 x1 x2 x3 (x5 + 1)) ∧ ((¬ 0 ≤ (sL s46 132 x5.toNatClampNeg)) → E144 s46))))
theorem t_X0_solves_b82 {θ : Th} {κ : Kx} {Ph : Ph} (hX : LX θ) {d : Nat} (hd : 2 ≤ d) (C : Cx θ κ yX0_solves cX0_solves 8 (some Jvm.ClassFile.FieldType.boolean) [] d) {Φ : St → Int32 → Prop} (hn : ∀ st r, Φ st r → Ph.1 st (some (.int r))) {E144 : St → Prop} {K61 : St → Int32 → Int32 → Int64 → Int32 → Prop} (hE144 : ∀ (st : St), E144 st → X θ κ Ph st 144 [] []) (hK61 : ∀ (st : St) (x1 : Int32) (x2 : Int32) (x3 : Int64) (x5 : Int32), K61 st x1 x2 x3 x5 → X θ κ Ph st 61 [(0, .ref (ad θ 0)), (1, .int x1), (2, .int x2), (3, .long x3), (5, .int x5)] []) (st : St) (x1 : Int32) (x2 : Int32) (x3 : Int64) (x5 : Int32) (z0 : Int64) (h : w_X0_solves_b82 Φ E144 K61 st x1 x2 x3 x5 z0) : X θ κ Ph st 82 [(0, .ref (ad θ 0)), (1, .int x1), (2, .int x2), (3, .long x3), (5, .int x5)] [.long z0] := by
  unfold w_X0_solves_b82 at h
  refine X_lstore C dX0_solves_82 (lo2 := [(6, _), (0, _), (1, _), (2, _), (3, _), (5, _)]) (by decide) rfl ?_
  refine X_aload_n C dX0_solves_84 rfl 1 rfl (isRV_r _) ?_
  refine X_getF (ci := 0) (j := 14) (q := (RX0, TX0, 49)) C rfl (by decide) q274 rfl dX0_solves_85 (b := 131) (LX_S hX (k := 0) rfl) (LX_F hX (k := 0) (j := 14) rfl) rfl ?_
  refine X_iload C dX0_solves_88 5 rfl ?_
  refine X_lload C dX0_solves_90 0 rfl ?_
  refine X_aload_n C dX0_solves_92 rfl 1 rfl (isRV_r _) ?_
  refine X_iload_n C dX0_solves_93 rfl 3 rfl ?_
  refine X_iload C dX0_solves_94 5 rfl ?_
  refine X_iload_n C dX0_solves_96 rfl 2 rfl ?_
  refine X_callVS (ci := 0) (q := (RX0, TX0, 49)) (As := [_, _, _]) (rest := [_, _, _]) C rfl (LX_S hX (k := 0) rfl) q688 q690 qs10 q132 q691 ⟨rfl, nm_X0_minor⟩ rfl dX0_solves_97 (m_X0_minor (Cx_l C) hX (d := d - 1) (by omega) st x2 x5 x1 h) (by omega) (by decide) (Nat.le_of_ble_eq_true rfl) (fun s28 w29 hE30 hP31 => ?_) (fun s34 E32 q33 hE30 hP31 => ?_)
  rotate_left
  · exact False.elim hP31
  obtain ⟨r27, rfl, h⟩ := hP31
  refine X_tls ?_
  refine X_lmul C dX0_solves_100 ?_
  have g35 := h.1
  have h := h.2
  refine X_lastS C (LX_S hX (k := 131) rfl) (LX_L hX (k := 131) rfl) g35 rfl dX0_solves_101 ?_
  refine X_nm (fun s36 e37 => ?_)
  have h := h s36 e37
  refine X_aload_n C dX0_solves_102 rfl 1 rfl (isRV_r _) ?_
  refine X_getF (ci := 0) (j := 15) (q := (RX0, TX0, 49)) C rfl (by decide) q275 rfl dX0_solves_103 (b := 132) (LX_S hX (k := 0) rfl) (LX_F hX (k := 0) (j := 15) rfl) rfl ?_
  refine X_iload C dX0_solves_106 5 rfl ?_
  refine X_lload C dX0_solves_108 0 rfl ?_
  refine X_aload_n C dX0_solves_110 rfl 1 rfl (isRV_r _) ?_
  refine X_iload_n C dX0_solves_111 rfl 3 rfl ?_
  refine X_iload_n C dX0_solves_112 rfl 2 rfl ?_
  refine X_iload C dX0_solves_113 5 rfl ?_
  refine X_callVS (ci := 0) (q := (RX0, TX0, 49)) (As := [_, _, _]) (rest := [_, _, _]) C rfl (LX_S hX (k := 0) rfl) q688 q690 qs10 q132 q691 ⟨rfl, nm_X0_minor⟩ rfl dX0_solves_115 (m_X0_minor (Cx_l C) hX (d := d - 1) (by omega) s36 x2 x1 x5 h) (by omega) (by decide) (Nat.le_of_ble_eq_true rfl) (fun s39 w40 hE41 hP42 => ?_) (fun s45 E43 q44 hE41 hP42 => ?_)
  rotate_left
  · exact False.elim hP42
  obtain ⟨r38, rfl, h⟩ := hP42
  refine X_tls ?_
  refine X_lmul C dX0_solves_118 ?_
  refine X_lastS C (LX_S hX (k := 132) rfl) (LX_L hX (k := 132) rfl) g35 rfl dX0_solves_119 ?_
  refine X_nm (fun s46 e47 => ?_)
  have h := h s46 e47
  refine X_aload_n C dX0_solves_120 rfl 1 rfl (isRV_r _) ?_
  refine X_getF (ci := 0) (j := 14) (q := (RX0, TX0, 49)) C rfl (by decide) q274 rfl dX0_solves_121 (b := 131) (LX_S hX (k := 0) rfl) (LX_F hX (k := 0) (j := 14) rfl) rfl ?_
  refine X_iload C dX0_solves_124 5 rfl ?_
  refine X_laldS C (LX_S hX (k := 131) rfl) (LX_L hX (k := 131) rfl) g35 rfl dX0_solves_126 ?_
  refine X_lconst (v := 0) C dX0_solves_127 rfl ?_
  refine X_lcmp_lt (tgt := 144) C dX0_solves_128 dX0_solves_129 (by decide) (fun c48 => ?_) (fun c48 => ?_)
  · have h := h.1 c48
    refine X_sub [] (lo2 := []) rfl ?_
    exact hE144 s46 h
  · have h := h.2 c48
    refine X_aload_n C dX0_solves_132 rfl 1 rfl (isRV_r _) ?_
    refine X_getF (ci := 0) (j := 15) (q := (RX0, TX0, 49)) C rfl (by decide) q275 rfl dX0_solves_133 (b := 132) (LX_S hX (k := 0) rfl) (LX_F hX (k := 0) (j := 15) rfl) rfl ?_
    refine X_iload C dX0_solves_136 5 rfl ?_
    refine X_laldS C (LX_S hX (k := 132) rfl) (LX_L hX (k := 132) rfl) g35 rfl dX0_solves_138 ?_
    refine X_lconst (v := 0) C dX0_solves_139 rfl ?_
    refine X_lcmp_ge (tgt := 146) C dX0_solves_140 dX0_solves_141 (by decide) (fun c49 => ?_) (fun c49 => ?_)
    · have h := h.1 c49
      refine X_iinc (v := (x5 + 1)) C (j := 5) dX0_solves_146 rfl rfl (lo2 := [(5, _), (6, _), (0, _), (1, _), (2, _), (3, _)]) (by decide) rfl ?_
      refine X_goto (tgt := 61) C dX0_solves_149 (by decide) ?_
      refine X_sub [2, 3, 4, 5, 0] (lo2 := [(0, _), (1, _), (2, _), (3, _), (5, _)]) rfl ?_
      exact hK61 s46 x1 x2 x3 (x5 + 1) h
    · have h := h.2 c49
      refine X_sub [] (lo2 := []) rfl ?_
      exact hE144 s46 h
def w_X0_solves_l61 (Φ : St → Int32 → Prop) (E144 : St → Prop) (E152 : St → Int32 → Int32 → Int64 → Prop) : Nat → St → Int32 → Int32 → Int64 → Int32 → Prop
  | 0, _, _, _, _, _ => False
  | n + 1, st, x1, x2, x3, x5 => ((x1 ≤ x5) → E152 st x1 x2 x3) ∧ ((¬ x1 ≤ x5) → ((((x1 + x5) - (x1 + x5) / 2 * 2) ≠ 0) → w_X0_solves_b82 Φ E144 (w_X0_solves_l61 Φ E144 E152 n) st x1 x2 x3 x5 (-x3)) ∧ ((((x1 + x5) - (x1 + x5) / 2 * 2) = 0) → w_X0_solves_b82 Φ E144 (w_X0_solves_l61 Φ E144 E152 n) st x1 x2 x3 x5 x3))
theorem t_X0_solves_l61 {θ : Th} {κ : Kx} {Ph : Ph} (hX : LX θ) {d : Nat} (hd : 2 ≤ d) (C : Cx θ κ yX0_solves cX0_solves 8 (some Jvm.ClassFile.FieldType.boolean) [] d) {Φ : St → Int32 → Prop} (hn : ∀ st r, Φ st r → Ph.1 st (some (.int r))) {E144 : St → Prop} {E152 : St → Int32 → Int32 → Int64 → Prop} (hE144 : ∀ (st : St), E144 st → X θ κ Ph st 144 [] []) (hE152 : ∀ (st : St) (x1 : Int32) (x2 : Int32) (x3 : Int64), E152 st x1 x2 x3 → X θ κ Ph st 152 [(0, .ref (ad θ 0)), (1, .int x1), (2, .int x2), (3, .long x3)] []) : ∀ (n : Nat) (st : St) (x1 : Int32) (x2 : Int32) (x3 : Int64) (x5 : Int32), w_X0_solves_l61 Φ E144 E152 n st x1 x2 x3 x5 → X θ κ Ph st 61 [(0, .ref (ad θ 0)), (1, .int x1), (2, .int x2), (3, .long x3), (5, .int x5)] [] := by
  intro n
  induction n with
  | zero => intro st x1 x2 x3 x5 h; exact h.elim
  | succ n hK61 =>
    intro st x1 x2 x3 x5 h
    rw [w_X0_solves_l61] at h
    refine X_iload C dX0_solves_61 4 rfl ?_
    refine X_iload_n C dX0_solves_63 rfl 1 rfl ?_
    refine X_icmp_ge (tgt := 152) C dX0_solves_64 (by decide) (fun c25 => ?_) (fun c25 => ?_)
    · have h := h.1 c25
      refine X_sub [0, 1, 2, 3] (lo2 := [(0, _), (1, _), (2, _), (3, _)]) rfl ?_
      exact hE152 st x1 x2 x3 h
    · have h := h.2 c25
      refine X_iload_n C dX0_solves_67 rfl 1 rfl ?_
      refine X_iload C dX0_solves_68 4 rfl ?_
      refine X_iadd C dX0_solves_70 ?_
      refine X_iconst (v := 2) C dX0_solves_71 rfl ?_
      refine X_irem C dX0_solves_72 (by decide) ?_
      refine X_if_ne (tgt := 80) C dX0_solves_73 (by decide) (fun c26 => ?_) (fun c26 => ?_)
      · have h := h.1 c26
        refine X_lload_n C dX0_solves_80 rfl 3 rfl ?_
        refine X_lneg C dX0_solves_81 ?_
        exact t_X0_solves_b82 hX hd C hn hE144 hK61 st x1 x2 x3 x5 (-x3) h
      · have h := h.2 c26
        refine X_lload_n C dX0_solves_76 rfl 3 rfl ?_
        refine X_goto (tgt := 82) C dX0_solves_77 (by decide) ?_
        exact t_X0_solves_b82 hX hd C hn hE144 hK61 st x1 x2 x3 x5 x3 h
def w_X0_solves_b144 (Φ : St → Int32 → Prop) (st : St) : Prop := Φ st 0
theorem t_X0_solves_b144 {θ : Th} {κ : Kx} {Ph : Ph} (hX : LX θ) {d : Nat} (hd : 2 ≤ d) (C : Cx θ κ yX0_solves cX0_solves 8 (some Jvm.ClassFile.FieldType.boolean) [] d) {Φ : St → Int32 → Prop} (hn : ∀ st r, Φ st r → Ph.1 st (some (.int r))) (st : St) (h : w_X0_solves_b144 Φ st) : X θ κ Ph st 144 [] [] := by
  unfold w_X0_solves_b144 at h
  refine X_iconst (v := 0) C dX0_solves_144 rfl ?_
  exact X_zret C rfl rfl dX0_solves_145 (hn st _ h)
def w_X0_solves_b152 (Φ : St → Int32 → Prop) (st : St) (x1 : Int32) (x2 : Int32) (x3 : Int64) : Prop := w_X0_minor st x2 x1 x1 (fun (s53 : St) (r52 : Int64) => ∀ s60, s60 = putL s53 0 17 ((-x3) * r52) → w_X0_holdsRows s60 x1 (fun (s63 : St) (r62 : Int32) => ((r62 = 0) → Φ s63 0) ∧ ((¬ r62 = 0) → w_X0_holdsColumns s63 x1 (fun (s72 : St) (r71 : Int32) => ((r71 = 0) → Φ s72 0) ∧ ((¬ r71 = 0) → Φ s72 1)))))
theorem t_X0_solves_b152 {θ : Th} {κ : Kx} {Ph : Ph} (hX : LX θ) {d : Nat} (hd : 2 ≤ d) (C : Cx θ κ yX0_solves cX0_solves 8 (some Jvm.ClassFile.FieldType.boolean) [] d) {Φ : St → Int32 → Prop} (hn : ∀ st r, Φ st r → Ph.1 st (some (.int r))) (st : St) (x1 : Int32) (x2 : Int32) (x3 : Int64) (h : w_X0_solves_b152 Φ st x1 x2 x3) : X θ κ Ph st 152 [(0, .ref (ad θ 0)), (1, .int x1), (2, .int x2), (3, .long x3)] [] := by
  unfold w_X0_solves_b152 at h
  refine X_aload_n C dX0_solves_152 rfl 0 rfl (isRV_r _) ?_
  refine X_lload_n C dX0_solves_153 rfl 3 rfl ?_
  refine X_lneg C dX0_solves_154 ?_
  refine X_aload_n C dX0_solves_155 rfl 0 rfl (isRV_r _) ?_
  refine X_iload_n C dX0_solves_156 rfl 2 rfl ?_
  refine X_iload_n C dX0_solves_157 rfl 1 rfl ?_
  refine X_iload_n C dX0_solves_158 rfl 1 rfl ?_
  refine X_callVS (ci := 0) (q := (RX0, TX0, 49)) (As := [_, _, _]) (rest := [_, _]) C rfl (LX_S hX (k := 0) rfl) q688 q690 qs10 q132 q691 ⟨rfl, nm_X0_minor⟩ rfl dX0_solves_159 (m_X0_minor (Cx_l C) hX (d := d - 1) (by omega) st x2 x1 x1 h) (by omega) (by decide) (Nat.le_of_ble_eq_true rfl) (fun s53 w54 hE55 hP56 => ?_) (fun s59 E57 q58 hE55 hP56 => ?_)
  rotate_left
  · exact False.elim hP56
  obtain ⟨r52, rfl, h⟩ := hP56
  refine X_tls ?_
  refine X_lmul C dX0_solves_162 ?_
  refine X_putSL (ci := 0) (j := 17) (q := (RX0, TX0, 49)) C rfl (by decide) q277 rfl rfl dX0_solves_163 (LX_S hX (k := 0) rfl) rfl ?_
  refine X_nm (fun s60 e61 => ?_)
  have h := h s60 e61
  refine X_aload_n C dX0_solves_166 rfl 0 rfl (isRV_r _) ?_
  refine X_iload_n C dX0_solves_167 rfl 1 rfl ?_
  refine X_callVS (ci := 0) (q := (RX0, TX0, 49)) (As := [_]) (rest := []) C rfl (LX_S hX (k := 0) rfl) q703 q705 qs12 q132 q706 ⟨rfl, nm_X0_holdsRows⟩ rfl dX0_solves_168 (m_X0_holdsRows (Cx_l C) hX (d := d - 1) (by omega) s60 x1 h) (by omega) (by decide) (Nat.le_of_ble_eq_true rfl) (fun s63 w64 hE65 hP66 => ?_) (fun s69 E67 q68 hE65 hP66 => ?_)
  rotate_left
  · exact False.elim hP66
  obtain ⟨r62, rfl, h⟩ := hP66
  refine X_tls ?_
  refine X_if_eq (tgt := 186) C dX0_solves_171 (by decide) (fun c70 => ?_) (fun c70 => ?_)
  · have h := h.1 c70
    refine X_iconst (v := 0) C dX0_solves_186 rfl ?_
    exact X_zret C rfl rfl dX0_solves_187 (hn s63 _ h)
  · have h := h.2 c70
    refine X_aload_n C dX0_solves_174 rfl 0 rfl (isRV_r _) ?_
    refine X_iload_n C dX0_solves_175 rfl 1 rfl ?_
    refine X_callVS (ci := 0) (q := (RX0, TX0, 49)) (As := [_]) (rest := []) C rfl (LX_S hX (k := 0) rfl) q707 q709 qs13 q132 q710 ⟨rfl, nm_X0_holdsColumns⟩ rfl dX0_solves_176 (m_X0_holdsColumns (Cx_l C) hX (d := d - 1) (by omega) s63 x1 h) (by omega) (by decide) (Nat.le_of_ble_eq_true rfl) (fun s72 w73 hE74 hP75 => ?_) (fun s78 E76 q77 hE74 hP75 => ?_)
    rotate_left
    · exact False.elim hP75
    obtain ⟨r71, rfl, h⟩ := hP75
    refine X_tls ?_
    refine X_if_eq (tgt := 186) C dX0_solves_179 (by decide) (fun c79 => ?_) (fun c79 => ?_)
    · have h := h.1 c79
      refine X_iconst (v := 0) C dX0_solves_186 rfl ?_
      exact X_zret C rfl rfl dX0_solves_187 (hn s72 _ h)
    · have h := h.2 c79
      refine X_iconst (v := 1) C dX0_solves_182 rfl ?_
      refine X_goto (tgt := 187) C dX0_solves_183 (by decide) ?_
      exact X_zret C rfl rfl dX0_solves_187 (hn s72 _ h)
def w_X0_solves_b47 (Φ : St → Int32 → Prop) (st : St) (x1 : Int32) (x2 : Int32) (z0 : Int64) : Prop := ∀ s23, s23 = putL st 0 16 ((sL st 0 16) * z0) → w_X0_solves_l61 Φ (fun (s50 : St) => w_X0_solves_b144 Φ s50) (fun (s51 : St) (x1 : Int32) (x2 : Int32) (x3 : Int64) => w_X0_solves_b152 Φ s51 x1 x2 x3) gFU s23 x1 x2 z0 0
theorem t_X0_solves_b47 {θ : Th} {κ : Kx} {Ph : Ph} (hX : LX θ) {d : Nat} (hd : 2 ≤ d) (C : Cx θ κ yX0_solves cX0_solves 8 (some Jvm.ClassFile.FieldType.boolean) [] d) {Φ : St → Int32 → Prop} (hn : ∀ st r, Φ st r → Ph.1 st (some (.int r))) (st : St) (x1 : Int32) (x2 : Int32) (z0 : Int64) (h : w_X0_solves_b47 Φ st x1 x2 z0) : X θ κ Ph st 47 [(0, .ref (ad θ 0)), (1, .int x1), (2, .int x2)] [.long z0] := by
  unfold w_X0_solves_b47 at h
  refine X_lstore_n C dX0_solves_47 rfl (lo2 := [(3, _), (0, _), (1, _), (2, _)]) (by decide) rfl ?_
  refine X_aload_n C dX0_solves_48 rfl 1 rfl (isRV_r _) ?_
  refine X_dup C dX0_solves_49 rfl ?_
  refine X_getS (ci := 0) (j := 16) (q := (RX0, TX0, 49)) C rfl (by decide) q276 rfl dX0_solves_50 (LX_S hX (k := 0) rfl) (v := .long (sL st 0 16)) rfl ?_
  refine X_lload_n C dX0_solves_53 rfl 0 rfl ?_
  refine X_lmul C dX0_solves_54 ?_
  refine X_putSL (ci := 0) (j := 16) (q := (RX0, TX0, 49)) C rfl (by decide) q276 rfl rfl dX0_solves_55 (LX_S hX (k := 0) rfl) rfl ?_
  refine X_nm (fun s23 e24 => ?_)
  have h := h s23 e24
  refine X_iconst (v := 0) C dX0_solves_58 rfl ?_
  refine X_istore C dX0_solves_59 (lo2 := [(5, _), (3, _), (0, _), (1, _), (2, _)]) (by decide) rfl ?_
  refine X_sub [2, 3, 4, 1, 0] (lo2 := [(0, _), (1, _), (2, _), (3, _), (5, _)]) rfl ?_
  refine t_X0_solves_l61 hX hd C hn ?_ ?_ gFU s23 x1 x2 z0 0 h
  · intro s50 h
    exact t_X0_solves_b144 hX hd C hn s50 h
  · intro s51 x1 x2 x3 h
    exact t_X0_solves_b152 hX hd C hn s51 x1 x2 x3 h
def w_X0_solves (st : St) (p1 : Int32) (Φ : St → Int32 → Prop) : Prop := w_X0_border st p1 (fun (s2 : St) => ∀ v9 : Int32, v9 = (p1 + 1) → w_X0_minor s2 v9 v9 v9 (fun (s12 : St) (r11 : Int64) => ∀ s19, s19 = putL s12 0 16 r11 → (((sL s19 0 16) ≠ 0) → (((sL s19 0 16) ≤ 0) → w_X0_solves_b47 Φ s19 p1 v9 (-1)) ∧ ((¬ (sL s19 0 16) ≤ 0) → w_X0_solves_b47 Φ s19 p1 v9 1)) ∧ (((sL s19 0 16) = 0) → Φ s19 0)))
theorem nm_X0_solves : yX0_solves.cls ≠ "java/lang/invoke/MethodHandle" ∧ yX0_solves.cls ≠ "java/lang/invoke/VarHandle" ∧ (parseMethodDescriptor yX0_solves.desc).map (fun d => d.parameters.length) = some 1 := by decide +kernel
theorem e_X0_solves : plainFor yX0_solves = true := plainFor_of_name (by decide +kernel)
theorem m_X0_solves {θ : Th} {l : Launch} (hl0 : l.stackTraces = false) (hX : LX θ) {d : Nat} (hd : 2 ≤ d) (st : St) (p1 : Int32) {Φ : St → Int32 → Prop} (h : w_X0_solves st p1 Φ) : Ct θ l yX0_solves (ws_ yX0_solves cX0_solves 8 (some Jvm.ClassFile.FieldType.boolean)) d [.ref (ad θ 0), .int p1] st (pI Φ, noX) := by
  refine Ct_entry hl0 e_X0_solves (Nat.le_of_ble_eq_true rfl) (fun κ hκ _ C => ?_)
  have hn : ∀ st r, Φ st r → ((pI Φ, noX) : Ph).1 st (some (.int r)) := fun st r q => ⟨r, rfl, q⟩
  change X _ _ _ _ _ [(0, .ref (ad θ 0)), (1, .int p1)] _
  unfold w_X0_solves at h
  refine X_aload_n C dX0_solves_0 rfl 0 rfl (isRV_r _) ?_
  refine X_iload_n C dX0_solves_1 rfl 1 rfl ?_
  refine X_callVS (ci := 0) (q := (RX0, TX0, 49)) (As := [_]) (rest := []) C rfl (LX_S hX (k := 0) rfl) q684 q686 qs9 q132 q687 ⟨rfl, nm_X0_border⟩ rfl dX0_solves_2 (m_X0_border (Cx_l C) hX (d := d - 1) (by omega) st p1 h) (by omega) (by decide) (Nat.le_of_ble_eq_true rfl) (fun s2 w3 hE4 hP5 => ?_) (fun s8 E6 q7 hE4 hP5 => ?_)
  rotate_left
  · exact False.elim hP5
  obtain ⟨rfl, h⟩ := hP5
  refine X_tln ?_
  refine X_iload_n C dX0_solves_5 rfl 1 rfl ?_
  refine X_iconst (v := 1) C dX0_solves_6 rfl ?_
  refine X_iadd C dX0_solves_7 ?_
  refine X_topi (fun v9 e10 => ?_)
  have h := h v9 e10
  refine X_istore_n C dX0_solves_8 rfl (lo2 := [(2, _), (0, _), (1, _)]) (by decide) rfl ?_
  refine X_aload_n C dX0_solves_9 rfl 1 rfl (isRV_r _) ?_
  refine X_aload_n C dX0_solves_10 rfl 1 rfl (isRV_r _) ?_
  refine X_iload_n C dX0_solves_11 rfl 0 rfl ?_
  refine X_iload_n C dX0_solves_12 rfl 0 rfl ?_
  refine X_iload_n C dX0_solves_13 rfl 0 rfl ?_
  refine X_callVS (ci := 0) (q := (RX0, TX0, 49)) (As := [_, _, _]) (rest := [_]) C rfl (LX_S hX (k := 0) rfl) q688 q690 qs10 q132 q691 ⟨rfl, nm_X0_minor⟩ rfl dX0_solves_14 (m_X0_minor (Cx_l C) hX (d := d - 1) (by omega) s2 v9 v9 v9 h) (by omega) (by decide) (Nat.le_of_ble_eq_true rfl) (fun s12 w13 hE14 hP15 => ?_) (fun s18 E16 q17 hE14 hP15 => ?_)
  rotate_left
  · exact False.elim hP15
  obtain ⟨r11, rfl, h⟩ := hP15
  refine X_tls ?_
  refine X_putSL (ci := 0) (j := 16) (q := (RX0, TX0, 49)) C rfl (by decide) q276 rfl rfl dX0_solves_17 (LX_S hX (k := 0) rfl) rfl ?_
  refine X_nm (fun s19 e20 => ?_)
  have h := h s19 e20
  refine X_aload_n C dX0_solves_20 rfl 1 rfl (isRV_r _) ?_
  refine X_getS (ci := 0) (j := 16) (q := (RX0, TX0, 49)) C rfl (by decide) q276 rfl dX0_solves_21 (LX_S hX (k := 0) rfl) (v := .long (sL s19 0 16)) rfl ?_
  refine X_lconst (v := 0) C dX0_solves_24 rfl ?_
  refine X_lcmp_ne (tgt := 31) C dX0_solves_25 dX0_solves_26 (by decide) (fun c21 => ?_) (fun c21 => ?_)
  · have h := h.1 c21
    refine X_aload_n C dX0_solves_31 rfl 1 rfl (isRV_r _) ?_
    refine X_getS (ci := 0) (j := 16) (q := (RX0, TX0, 49)) C rfl (by decide) q276 rfl dX0_solves_32 (LX_S hX (k := 0) rfl) (v := .long (sL s19 0 16)) rfl ?_
    refine X_lconst (v := 0) C dX0_solves_35 rfl ?_
    refine X_lcmp_le (tgt := 44) C dX0_solves_36 dX0_solves_37 (by decide) (fun c22 => ?_) (fun c22 => ?_)
    · have h := h.1 c22
      refine X_ldc2 C q702 dX0_solves_44 ?_
      refine X_sub [1, 2, 0] (lo2 := [(0, _), (1, _), (2, _)]) rfl ?_
      exact t_X0_solves_b47 hX hd C hn s19 p1 v9 (-1) h
    · have h := h.2 c22
      refine X_lconst (v := 1) C dX0_solves_40 rfl ?_
      refine X_goto (tgt := 47) C dX0_solves_41 (by decide) ?_
      refine X_sub [1, 2, 0] (lo2 := [(0, _), (1, _), (2, _)]) rfl ?_
      exact t_X0_solves_b47 hX hd C hn s19 p1 v9 1 h
  · have h := h.2 c21
    refine X_iconst (v := 0) C dX0_solves_29 rfl ?_
    exact X_zret C rfl rfl dX0_solves_30 (hn s19 _ h)

def w_X0_nextSet (st : St) (p1 : Int32) (Φ : St → Int32 → Prop) : Prop := ∀ v1 : Int32, v1 = (p1 &&& (-p1)) → ∀ v3 : Int32, v3 = (p1 + v1) → w_J7_numberOfTrailingZeros v1 (fun (r5 : Int32) => Φ st ((((v3 ^^^ p1).toUInt32 >>> ((2 + r5).toUInt32 &&& Int32.toUInt32 31)).toInt32) ||| v3))
theorem nm_X0_nextSet : yX0_nextSet.cls ≠ "java/lang/invoke/MethodHandle" ∧ yX0_nextSet.cls ≠ "java/lang/invoke/VarHandle" ∧ (parseMethodDescriptor yX0_nextSet.desc).map (fun d => d.parameters.length) = some 1 := by decide +kernel
theorem e_X0_nextSet : plainFor yX0_nextSet = true := plainFor_of_name (by decide +kernel)
theorem m_X0_nextSet {θ : Th} {l : Launch} (hl0 : l.stackTraces = false) {d : Nat} (hd : 1 ≤ d) (st : St) (p1 : Int32) {Φ : St → Int32 → Prop} (h : w_X0_nextSet st p1 Φ) : Ct θ l yX0_nextSet (ws_ yX0_nextSet cX0_nextSet 3 (some Jvm.ClassFile.FieldType.int)) d [.int p1] st (pI Φ, noX) := by
  refine Ct_entry hl0 e_X0_nextSet (Nat.le_of_ble_eq_true rfl) (fun κ hκ _ C => ?_)
  have hn : ∀ st r, Φ st r → ((pI Φ, noX) : Ph).1 st (some (.int r)) := fun st r q => ⟨r, rfl, q⟩
  change X _ _ _ _ _ [(0, .int p1)] _
  unfold w_X0_nextSet at h
  refine X_iload_n C dX0_nextSet_0 rfl 0 rfl ?_
  refine X_iload_n C dX0_nextSet_1 rfl 0 rfl ?_
  refine X_ineg C dX0_nextSet_2 ?_
  refine X_iand C dX0_nextSet_3 ?_
  refine X_topi (fun v1 e2 => ?_)
  have h := h v1 e2
  refine X_istore_n C dX0_nextSet_4 rfl (lo2 := [(1, _), (0, _)]) (by decide) rfl ?_
  refine X_iload_n C dX0_nextSet_5 rfl 1 rfl ?_
  refine X_iload_n C dX0_nextSet_6 rfl 0 rfl ?_
  refine X_iadd C dX0_nextSet_7 ?_
  refine X_topi (fun v3 e4 => ?_)
  have h := h v3 e4
  refine X_istore_n C dX0_nextSet_8 rfl (lo2 := [(2, _), (1, _), (0, _)]) (by decide) rfl ?_
  refine X_iload_n C dX0_nextSet_9 rfl 0 rfl ?_
  refine X_iload_n C dX0_nextSet_10 rfl 2 rfl ?_
  refine X_ixor C dX0_nextSet_11 ?_
  refine X_iconst (v := 2) C dX0_nextSet_12 rfl ?_
  refine X_iload_n C dX0_nextSet_13 rfl 1 rfl ?_
  refine X_callS (As := [_]) (rest := [_, _]) C q676 q677 q146 q678 nm_J7_numberOfTrailingZeros rfl dX0_nextSet_14 (m_J7_numberOfTrailingZeros (Cx_l C) (d := d - 1) (by omega) st v1 h) (by omega) (by decide) (Nat.le_of_ble_eq_true rfl) (fun s11 w6 hE7 hP8 => ?_) (fun s12 E9 q10 hE7 hP8 => ?_)
  rotate_left
  · exact False.elim hP8
  obtain ⟨r5, rfl, rfl, h⟩ := hP8
  refine X_tls ?_
  refine X_iadd C dX0_nextSet_17 ?_
  refine X_iushr C dX0_nextSet_18 ?_
  refine X_iload_n C dX0_nextSet_19 rfl 0 rfl ?_
  refine X_ior C dX0_nextSet_20 ?_
  exact X_iret C rfl dX0_nextSet_21 (hn st _ h)

def w_X0_kernel_l48 (Φ : St → Int32 → Prop) (Φw : St → Nat → Prop) (E74 : St → Int32 → Prop) (E84 : St → Int32 → Int32 → Prop) : Nat → St → Int32 → Int32 → Int32 → Prop
  | 0, _, _, _, _ => False
  | n + 1, st, x1, x2, x3 => ((((1 : Int32) <<< ((sI st 0 9) &&& 31)) ≤ x3) → E84 st x1 x2) ∧ ((¬ ((1 : Int32) <<< ((sI st 0 9) &&& 31)) ≤ x3) → w_X0_places st x3 130 (fun (s24 : St) => w_X0_solves s24 x1 (fun (s32 : St) (r31 : Int32) => ((r31 = 0) → w_X0_nextSet s32 x3 (fun (s41 : St) (r40 : Int32) => w_X0_kernel_l48 Φ Φw E74 E84 n s41 x1 x2 r40)) ∧ ((¬ r31 = 0) → E74 s32 x1))))
theorem t_X0_kernel_l48 {θ : Th} {κ : Kx} {Ph : Ph} (hX : LX θ) {d : Nat} (hd : 4 ≤ d) (C : Cx θ κ yX0_kernel cX0_kernel 4 (some Jvm.ClassFile.FieldType.int) [] d) {Φ : St → Int32 → Prop} {Φw : St → Nat → Prop} (hn : ∀ st r, Φ st r → Ph.1 st (some (.int r))) (hw : ∀ st a, a < gBIG → sh st a = 6 → Φw st a → Ph.2 st "SecretsWorth$Wrong" (ad θ a)) {E74 : St → Int32 → Prop} {E84 : St → Int32 → Int32 → Prop} (hE74 : ∀ (st : St) (x1 : Int32), E74 st x1 → X θ κ Ph st 74 [(1, .int x1)] []) (hE84 : ∀ (st : St) (x1 : Int32) (x2 : Int32), E84 st x1 x2 → X θ κ Ph st 84 [(0, .ref (ad θ 0)), (1, .int x1), (2, .int x2)] []) : ∀ (n : Nat) (st : St) (x1 : Int32) (x2 : Int32) (x3 : Int32), w_X0_kernel_l48 Φ Φw E74 E84 n st x1 x2 x3 → X θ κ Ph st 48 [(0, .ref (ad θ 0)), (1, .int x1), (2, .int x2), (3, .int x3)] [] := by
  intro n
  induction n with
  | zero => intro st x1 x2 x3 h; exact h.elim
  | succ n hK48 =>
    intro st x1 x2 x3 h
    rw [w_X0_kernel_l48] at h
    refine X_iload_n C dX0_kernel_48 rfl 3 rfl ?_
    refine X_iconst (v := 1) C dX0_kernel_49 rfl ?_
    refine X_aload_n C dX0_kernel_50 rfl 0 rfl (isRV_r _) ?_
    refine X_getS (ci := 0) (j := 9) (q := (RX0, TX0, 49)) C rfl (by decide) q269 rfl dX0_kernel_51 (LX_S hX (k := 0) rfl) (v := .int (sI st 0 9)) rfl ?_
    refine X_ishl C dX0_kernel_54 ?_
    refine X_icmp_ge (tgt := 84) C dX0_kernel_55 (by decide) (fun c19 => ?_) (fun c19 => ?_)
    · have h := h.1 c19
      refine X_sub [0, 1, 2] (lo2 := [(0, _), (1, _), (2, _)]) rfl ?_
      exact hE84 st x1 x2 h
    · have h := h.2 c19
      refine X_iload_n C dX0_kernel_58 rfl 3 rfl ?_
      refine X_aload_n C dX0_kernel_59 rfl 0 rfl (isRV_r _) ?_
      refine X_getF (ci := 0) (j := 13) (q := (RX0, TX0, 49)) C rfl (by decide) q273 rfl dX0_kernel_60 (b := 130) (LX_S hX (k := 0) rfl) (LX_F hX (k := 0) (j := 13) rfl) rfl ?_
      refine X_shl (LX_S hX (k := 130) rfl) (by decide) (LX_L hX (k := 130) rfl) (fun hs20 hl22 hb21 => ?_)
      refine X_callS (As := [_, _]) (rest := []) C q673 q674 q132 q675 nm_X0_places rfl dX0_kernel_63 (m_X0_places (Cx_l C) (d := d - 1) (by omega) st x3 130 hs20 hb21 hl22 h) (by omega) (by decide) (Nat.le_of_ble_eq_true rfl) (fun s24 w25 hE26 hP27 => ?_) (fun s30 E28 q29 hE26 hP27 => ?_)
      rotate_left
      · exact False.elim hP27
      obtain ⟨rfl, h⟩ := hP27
      refine X_tln ?_
      refine X_aload_n C dX0_kernel_66 rfl 0 rfl (isRV_r _) ?_
      refine X_iload_n C dX0_kernel_67 rfl 1 rfl ?_
      refine X_callVS (ci := 0) (q := (RX0, TX0, 49)) (As := [_]) (rest := []) C rfl (LX_S hX (k := 0) rfl) q680 q682 qs8 q132 q683 ⟨rfl, nm_X0_solves⟩ rfl dX0_kernel_68 (m_X0_solves (Cx_l C) hX (d := d - 1) (by omega) s24 x1 h) (by omega) (by decide) (Nat.le_of_ble_eq_true rfl) (fun s32 w33 hE34 hP35 => ?_) (fun s38 E36 q37 hE34 hP35 => ?_)
      rotate_left
      · exact False.elim hP35
      obtain ⟨r31, rfl, h⟩ := hP35
      refine X_tls ?_
      refine X_if_eq (tgt := 76) C dX0_kernel_71 (by decide) (fun c39 => ?_) (fun c39 => ?_)
      · have h := h.1 c39
        refine X_iload_n C dX0_kernel_76 rfl 3 rfl ?_
        refine X_callS (As := [_]) (rest := []) C q711 q712 q132 q713 nm_X0_nextSet rfl dX0_kernel_77 (m_X0_nextSet (Cx_l C) (d := d - 1) (by omega) s32 x3 h) (by omega) (by decide) (Nat.le_of_ble_eq_true rfl) (fun s41 w42 hE43 hP44 => ?_) (fun s47 E45 q46 hE43 hP44 => ?_)
        rotate_left
        · exact False.elim hP44
        obtain ⟨r40, rfl, h⟩ := hP44
        refine X_tls ?_
        refine X_istore_n C dX0_kernel_80 rfl (lo2 := [(3, _), (0, _), (1, _), (2, _)]) (by decide) rfl ?_
        refine X_goto (tgt := 48) C dX0_kernel_81 (by decide) ?_
        refine X_sub [1, 2, 3, 0] (lo2 := [(0, _), (1, _), (2, _), (3, _)]) rfl ?_
        exact hK48 s41 x1 x2 r40 h
      · have h := h.2 c39
        refine X_sub [1] (lo2 := [(1, _)]) rfl ?_
        exact hE74 s32 x1 h
def w_X0_kernel_b84 (Φ : St → Int32 → Prop) (Φw : St → Nat → Prop) (K24 : St → Int32 → Int32 → Prop) (st : St) (x1 : Int32) (x2 : Int32) : Prop := w_X0_nextSet st x2 (fun (s51 : St) (r50 : Int32) => K24 s51 x1 r50)
theorem t_X0_kernel_b84 {θ : Th} {κ : Kx} {Ph : Ph} (hX : LX θ) {d : Nat} (hd : 4 ≤ d) (C : Cx θ κ yX0_kernel cX0_kernel 4 (some Jvm.ClassFile.FieldType.int) [] d) {Φ : St → Int32 → Prop} {Φw : St → Nat → Prop} (hn : ∀ st r, Φ st r → Ph.1 st (some (.int r))) (hw : ∀ st a, a < gBIG → sh st a = 6 → Φw st a → Ph.2 st "SecretsWorth$Wrong" (ad θ a)) {K24 : St → Int32 → Int32 → Prop} (hK24 : ∀ (st : St) (x1 : Int32) (x2 : Int32), K24 st x1 x2 → X θ κ Ph st 24 [(0, .ref (ad θ 0)), (1, .int x1), (2, .int x2)] []) (st : St) (x1 : Int32) (x2 : Int32) (h : w_X0_kernel_b84 Φ Φw K24 st x1 x2) : X θ κ Ph st 84 [(0, .ref (ad θ 0)), (1, .int x1), (2, .int x2)] [] := by
  unfold w_X0_kernel_b84 at h
  refine X_iload_n C dX0_kernel_84 rfl 2 rfl ?_
  refine X_callS (As := [_]) (rest := []) C q711 q712 q132 q713 nm_X0_nextSet rfl dX0_kernel_85 (m_X0_nextSet (Cx_l C) (d := d - 1) (by omega) st x2 h) (by omega) (by decide) (Nat.le_of_ble_eq_true rfl) (fun s51 w52 hE53 hP54 => ?_) (fun s57 E55 q56 hE53 hP54 => ?_)
  rotate_left
  · exact False.elim hP54
  obtain ⟨r50, rfl, h⟩ := hP54
  refine X_tls ?_
  refine X_istore_n C dX0_kernel_88 rfl (lo2 := [(2, _), (0, _), (1, _)]) (by decide) rfl ?_
  refine X_goto (tgt := 24) C dX0_kernel_89 (by decide) ?_
  refine X_sub [1, 2, 0] (lo2 := [(0, _), (1, _), (2, _)]) rfl ?_
  exact hK24 s51 x1 r50 h
def w_X0_kernel_l24 (Φ : St → Int32 → Prop) (Φw : St → Nat → Prop) (E74 : St → Int32 → Prop) (E92 : St → Int32 → Prop) : Nat → St → Int32 → Int32 → Prop
  | 0, _, _, _ => False
  | n + 1, st, x1, x2 => ((((1 : Int32) <<< ((sI st 0 8) &&& 31)) ≤ x2) → E92 st x1) ∧ ((¬ ((1 : Int32) <<< ((sI st 0 8) &&& 31)) ≤ x2) → w_X0_places st x2 129 (fun (s10 : St) => ∀ v17 : Int32, v17 = (((1 : Int32) <<< (x1 &&& 31)) - 1) → w_X0_kernel_l48 Φ Φw (fun (s48 : St) (x1 : Int32) => E74 s48 x1) (fun (s49 : St) (x1 : Int32) (x2 : Int32) => w_X0_kernel_b84 Φ Φw (w_X0_kernel_l24 Φ Φw E74 E92 n) s49 x1 x2) gFU s10 x1 x2 v17))
theorem t_X0_kernel_l24 {θ : Th} {κ : Kx} {Ph : Ph} (hX : LX θ) {d : Nat} (hd : 4 ≤ d) (C : Cx θ κ yX0_kernel cX0_kernel 4 (some Jvm.ClassFile.FieldType.int) [] d) {Φ : St → Int32 → Prop} {Φw : St → Nat → Prop} (hn : ∀ st r, Φ st r → Ph.1 st (some (.int r))) (hw : ∀ st a, a < gBIG → sh st a = 6 → Φw st a → Ph.2 st "SecretsWorth$Wrong" (ad θ a)) {E74 : St → Int32 → Prop} {E92 : St → Int32 → Prop} (hE74 : ∀ (st : St) (x1 : Int32), E74 st x1 → X θ κ Ph st 74 [(1, .int x1)] []) (hE92 : ∀ (st : St) (x1 : Int32), E92 st x1 → X θ κ Ph st 92 [(0, .ref (ad θ 0)), (1, .int x1)] []) : ∀ (n : Nat) (st : St) (x1 : Int32) (x2 : Int32), w_X0_kernel_l24 Φ Φw E74 E92 n st x1 x2 → X θ κ Ph st 24 [(0, .ref (ad θ 0)), (1, .int x1), (2, .int x2)] [] := by
  intro n
  induction n with
  | zero => intro st x1 x2 h; exact h.elim
  | succ n hK24 =>
    intro st x1 x2 h
    rw [w_X0_kernel_l24] at h
    refine X_iload_n C dX0_kernel_24 rfl 2 rfl ?_
    refine X_iconst (v := 1) C dX0_kernel_25 rfl ?_
    refine X_aload_n C dX0_kernel_26 rfl 0 rfl (isRV_r _) ?_
    refine X_getS (ci := 0) (j := 8) (q := (RX0, TX0, 49)) C rfl (by decide) q268 rfl dX0_kernel_27 (LX_S hX (k := 0) rfl) (v := .int (sI st 0 8)) rfl ?_
    refine X_ishl C dX0_kernel_30 ?_
    refine X_icmp_ge (tgt := 92) C dX0_kernel_31 (by decide) (fun c5 => ?_) (fun c5 => ?_)
    · have h := h.1 c5
      refine X_sub [0, 1] (lo2 := [(0, _), (1, _)]) rfl ?_
      exact hE92 st x1 h
    · have h := h.2 c5
      refine X_iload_n C dX0_kernel_34 rfl 2 rfl ?_
      refine X_aload_n C dX0_kernel_35 rfl 0 rfl (isRV_r _) ?_
      refine X_getF (ci := 0) (j := 12) (q := (RX0, TX0, 49)) C rfl (by decide) q272 rfl dX0_kernel_36 (b := 129) (LX_S hX (k := 0) rfl) (LX_F hX (k := 0) (j := 12) rfl) rfl ?_
      refine X_shl (LX_S hX (k := 129) rfl) (by decide) (LX_L hX (k := 129) rfl) (fun hs6 hl8 hb7 => ?_)
      refine X_callS (As := [_, _]) (rest := []) C q673 q674 q132 q675 nm_X0_places rfl dX0_kernel_39 (m_X0_places (Cx_l C) (d := d - 1) (by omega) st x2 129 hs6 hb7 hl8 h) (by omega) (by decide) (Nat.le_of_ble_eq_true rfl) (fun s10 w11 hE12 hP13 => ?_) (fun s16 E14 q15 hE12 hP13 => ?_)
      rotate_left
      · exact False.elim hP13
      obtain ⟨rfl, h⟩ := hP13
      refine X_tln ?_
      refine X_iconst (v := 1) C dX0_kernel_42 rfl ?_
      refine X_iload_n C dX0_kernel_43 rfl 1 rfl ?_
      refine X_ishl C dX0_kernel_44 ?_
      refine X_iconst (v := 1) C dX0_kernel_45 rfl ?_
      refine X_isub C dX0_kernel_46 ?_
      refine X_topi (fun v17 e18 => ?_)
      have h := h v17 e18
      refine X_istore_n C dX0_kernel_47 rfl (lo2 := [(3, _), (0, _), (1, _), (2, _)]) (by decide) rfl ?_
      refine X_sub [1, 2, 3, 0] (lo2 := [(0, _), (1, _), (2, _), (3, _)]) rfl ?_
      refine t_X0_kernel_l48 hX hd C hn hw ?_ ?_ gFU s10 x1 x2 v17 h
      · intro s48 x1 h
        exact hE74 s48 x1 h
      · intro s49 x1 x2 h
        exact t_X0_kernel_b84 hX hd C hn hw hK24 s49 x1 x2 h
def w_X0_kernel_b92 (Φ : St → Int32 → Prop) (Φw : St → Nat → Prop) (K2 : St → Int32 → Prop) (st : St) (x1 : Int32) : Prop := K2 st (x1 + 1)
theorem t_X0_kernel_b92 {θ : Th} {κ : Kx} {Ph : Ph} (hX : LX θ) {d : Nat} (hd : 4 ≤ d) (C : Cx θ κ yX0_kernel cX0_kernel 4 (some Jvm.ClassFile.FieldType.int) [] d) {Φ : St → Int32 → Prop} {Φw : St → Nat → Prop} (hn : ∀ st r, Φ st r → Ph.1 st (some (.int r))) (hw : ∀ st a, a < gBIG → sh st a = 6 → Φw st a → Ph.2 st "SecretsWorth$Wrong" (ad θ a)) {K2 : St → Int32 → Prop} (hK2 : ∀ (st : St) (x1 : Int32), K2 st x1 → X θ κ Ph st 2 [(0, .ref (ad θ 0)), (1, .int x1)] []) (st : St) (x1 : Int32) (h : w_X0_kernel_b92 Φ Φw K2 st x1) : X θ κ Ph st 92 [(0, .ref (ad θ 0)), (1, .int x1)] [] := by
  unfold w_X0_kernel_b92 at h
  refine X_iinc (v := (x1 + 1)) C (j := 1) dX0_kernel_92 rfl rfl (lo2 := [(1, _), (0, _)]) (by decide) rfl ?_
  refine X_goto (tgt := 2) C dX0_kernel_95 (by decide) ?_
  refine X_sub [1, 0] (lo2 := [(0, _), (1, _)]) rfl ?_
  exact hK2 st (x1 + 1) h
def w_X0_kernel_l2 (Φ : St → Int32 → Prop) (Φw : St → Nat → Prop) (E74 : St → Int32 → Prop) (E98 : St → Prop) : Nat → St → Int32 → Prop
  | 0, _, _ => False
  | n + 1, st, x1 => (((sI st 0 9) < x1) → E98 st) ∧ ((¬ (sI st 0 9) < x1) → (((sI st 0 8) < x1) → E98 st) ∧ ((¬ (sI st 0 8) < x1) → ∀ v3 : Int32, v3 = (((1 : Int32) <<< (x1 &&& 31)) - 1) → w_X0_kernel_l24 Φ Φw (fun (s58 : St) (x1 : Int32) => E74 s58 x1) (fun (s59 : St) (x1 : Int32) => w_X0_kernel_b92 Φ Φw (w_X0_kernel_l2 Φ Φw E74 E98 n) s59 x1) gFU st x1 v3))
theorem t_X0_kernel_l2 {θ : Th} {κ : Kx} {Ph : Ph} (hX : LX θ) {d : Nat} (hd : 4 ≤ d) (C : Cx θ κ yX0_kernel cX0_kernel 4 (some Jvm.ClassFile.FieldType.int) [] d) {Φ : St → Int32 → Prop} {Φw : St → Nat → Prop} (hn : ∀ st r, Φ st r → Ph.1 st (some (.int r))) (hw : ∀ st a, a < gBIG → sh st a = 6 → Φw st a → Ph.2 st "SecretsWorth$Wrong" (ad θ a)) {E74 : St → Int32 → Prop} {E98 : St → Prop} (hE74 : ∀ (st : St) (x1 : Int32), E74 st x1 → X θ κ Ph st 74 [(1, .int x1)] []) (hE98 : ∀ (st : St), E98 st → X θ κ Ph st 98 [] []) : ∀ (n : Nat) (st : St) (x1 : Int32), w_X0_kernel_l2 Φ Φw E74 E98 n st x1 → X θ κ Ph st 2 [(0, .ref (ad θ 0)), (1, .int x1)] [] := by
  intro n
  induction n with
  | zero => intro st x1 h; exact h.elim
  | succ n hK2 =>
    intro st x1 h
    rw [w_X0_kernel_l2] at h
    refine X_iload_n C dX0_kernel_2 rfl 1 rfl ?_
    refine X_aload_n C dX0_kernel_3 rfl 0 rfl (isRV_r _) ?_
    refine X_getS (ci := 0) (j := 9) (q := (RX0, TX0, 49)) C rfl (by decide) q269 rfl dX0_kernel_4 (LX_S hX (k := 0) rfl) (v := .int (sI st 0 9)) rfl ?_
    refine X_icmp_gt (tgt := 98) C dX0_kernel_7 (by decide) (fun c1 => ?_) (fun c1 => ?_)
    · have h := h.1 c1
      refine X_sub [] (lo2 := []) rfl ?_
      exact hE98 st h
    · have h := h.2 c1
      refine X_iload_n C dX0_kernel_10 rfl 1 rfl ?_
      refine X_aload_n C dX0_kernel_11 rfl 0 rfl (isRV_r _) ?_
      refine X_getS (ci := 0) (j := 8) (q := (RX0, TX0, 49)) C rfl (by decide) q268 rfl dX0_kernel_12 (LX_S hX (k := 0) rfl) (v := .int (sI st 0 8)) rfl ?_
      refine X_icmp_gt (tgt := 98) C dX0_kernel_15 (by decide) (fun c2 => ?_) (fun c2 => ?_)
      · have h := h.1 c2
        refine X_sub [] (lo2 := []) rfl ?_
        exact hE98 st h
      · have h := h.2 c2
        refine X_iconst (v := 1) C dX0_kernel_18 rfl ?_
        refine X_iload_n C dX0_kernel_19 rfl 1 rfl ?_
        refine X_ishl C dX0_kernel_20 ?_
        refine X_iconst (v := 1) C dX0_kernel_21 rfl ?_
        refine X_isub C dX0_kernel_22 ?_
        refine X_topi (fun v3 e4 => ?_)
        have h := h v3 e4
        refine X_istore_n C dX0_kernel_23 rfl (lo2 := [(2, _), (0, _), (1, _)]) (by decide) rfl ?_
        refine X_sub [1, 2, 0] (lo2 := [(0, _), (1, _), (2, _)]) rfl ?_
        refine t_X0_kernel_l24 hX hd C hn hw ?_ ?_ gFU st x1 v3 h
        · intro s58 x1 h
          exact hE74 s58 x1 h
        · intro s59 x1 h
          exact t_X0_kernel_b92 hX hd C hn hw hK2 s59 x1 h
def w_X0_kernel_b74 (Φ : St → Int32 → Prop) (Φw : St → Nat → Prop) (st : St) (x1 : Int32) : Prop := Φ st x1
theorem t_X0_kernel_b74 {θ : Th} {κ : Kx} {Ph : Ph} (hX : LX θ) {d : Nat} (hd : 4 ≤ d) (C : Cx θ κ yX0_kernel cX0_kernel 4 (some Jvm.ClassFile.FieldType.int) [] d) {Φ : St → Int32 → Prop} {Φw : St → Nat → Prop} (hn : ∀ st r, Φ st r → Ph.1 st (some (.int r))) (hw : ∀ st a, a < gBIG → sh st a = 6 → Φw st a → Ph.2 st "SecretsWorth$Wrong" (ad θ a)) (st : St) (x1 : Int32) (h : w_X0_kernel_b74 Φ Φw st x1) : X θ κ Ph st 74 [(1, .int x1)] [] := by
  unfold w_X0_kernel_b74 at h
  refine X_iload_n C dX0_kernel_74 rfl 0 rfl ?_
  exact X_iret C rfl dX0_kernel_75 (hn st _ h)
def w_X0_kernel_b98 (Φ : St → Int32 → Prop) (Φw : St → Nat → Prop) (st : St) : Prop := sN st + 1 ≤ gCAP ∧ sS st + 7 ≤ gCAPS ∧ ∀ s64, s64 = mk st 6 7 → w_X5_init s64 (sN st) 2 (fun (s70 : St) => Φw s70 (sN st))
theorem t_X0_kernel_b98 {θ : Th} {κ : Kx} {Ph : Ph} (hX : LX θ) {d : Nat} (hd : 4 ≤ d) (C : Cx θ κ yX0_kernel cX0_kernel 4 (some Jvm.ClassFile.FieldType.int) [] d) {Φ : St → Int32 → Prop} {Φw : St → Nat → Prop} (hn : ∀ st r, Φ st r → Ph.1 st (some (.int r))) (hw : ∀ st a, a < gBIG → sh st a = 6 → Φw st a → Ph.2 st "SecretsWorth$Wrong" (ad θ a)) (st : St) (h : w_X0_kernel_b98 Φ Φw st) : X θ κ Ph st 98 [] [] := by
  unfold w_X0_kernel_b98 at h
  have g62 := h.1
  have h := h.2
  have g63 := h.1
  have h := h.2
  refine X_new (ci := 5) (q := (RX5, TX5, 7)) C rfl q412 q424 q140 g62 g63 dX0_kernel_98 (fun hE66 => ?_)
  refine X_nm (fun s64 e65 => ?_)
  have h := h s64 e65
  rw [← e65] at hE66
  have hs67 : sh s64 (sN st) = 6 := by rw [e65]; exact sh_mk
  have hb68 := nb_N g62
  refine X_dup C dX0_kernel_101 rfl ?_
  refine X_iconst (v := 2) C dX0_kernel_102 rfl ?_
  refine X_callI (As := [_]) (rest := [_]) C q479 q480 q140 q481 rfl nm_X5_init rfl dX0_kernel_103 (m_X5_init (Cx_l C) hX (d := d - 1) (by omega) s64 (sN st) 2 hs67 hb68 h) (by omega) (by decide) (Nat.le_of_ble_eq_true rfl) (fun s70 w71 hE72 hP73 => ?_) (fun s76 E74 q75 hE72 hP73 => ?_)
  rotate_left
  · exact False.elim hP73
  obtain ⟨rfl, h⟩ := hP73
  refine X_tln ?_
  have hs67 := Ext_sh hE72 hs67 (by decide)
  refine X_athrow C (ci := 5) rfl hs67 dX0_kernel_106 ?_
  exact XT_out C rfl (hw s70 (sN st) hb68 hs67 h)
def w_X0_kernel (st : St) (Φ : St → Int32 → Prop) (Φw : St → Nat → Prop) : Prop := w_X0_kernel_l2 Φ Φw (fun (s60 : St) (x1 : Int32) => w_X0_kernel_b74 Φ Φw s60 x1) (fun (s61 : St) => w_X0_kernel_b98 Φ Φw s61) gFU st 1
theorem nm_X0_kernel : yX0_kernel.cls ≠ "java/lang/invoke/MethodHandle" ∧ yX0_kernel.cls ≠ "java/lang/invoke/VarHandle" ∧ (parseMethodDescriptor yX0_kernel.desc).map (fun d => d.parameters.length) = some 0 := by decide +kernel
theorem e_X0_kernel : plainFor yX0_kernel = true := plainFor_of_name (by decide +kernel)
theorem m_X0_kernel {θ : Th} {l : Launch} (hl0 : l.stackTraces = false) (hX : LX θ) {d : Nat} (hd : 4 ≤ d) (st : St) {Φ : St → Int32 → Prop} {Φw : St → Nat → Prop} (h : w_X0_kernel st Φ Φw) : Ct θ l yX0_kernel (ws_ yX0_kernel cX0_kernel 4 (some Jvm.ClassFile.FieldType.int)) d [.ref (ad θ 0)] st (pI Φ, (exW θ Φw)) := by
  refine Ct_entry hl0 e_X0_kernel (Nat.le_of_ble_eq_true rfl) (fun κ hκ _ C => ?_)
  have hn : ∀ st r, Φ st r → ((pI Φ, (exW θ Φw)) : Ph).1 st (some (.int r)) := fun st r q => ⟨r, rfl, q⟩
  have hw : ∀ st a, a < gBIG → sh st a = 6 → Φw st a → ((pI Φ, (exW θ Φw)) : Ph).2 st "SecretsWorth$Wrong" (ad θ a) := fun st a q1 q2 q => ⟨rfl, a, rfl, q1, q2, q⟩
  change X _ _ _ _ _ [(0, .ref (ad θ 0))] _
  unfold w_X0_kernel at h
  refine X_iconst (v := 1) C dX0_kernel_0 rfl ?_
  refine X_istore_n C dX0_kernel_1 rfl (lo2 := [(1, _), (0, _)]) (by decide) rfl ?_
  refine X_sub [1, 0] (lo2 := [(0, _), (1, _)]) rfl ?_
  refine t_X0_kernel_l2 hX hd C hn hw ?_ ?_ gFU st 1 h
  · intro s60 x1 h
    exact t_X0_kernel_b74 hX hd C hn hw s60 x1 h
  · intro s61 h
    exact t_X0_kernel_b98 hX hd C hn hw s61 h

def w_X0_worthOf (st : St) (p1 : Int32) (Φ : St → Nat → Prop) (Φw : St → Nat → Prop) (Φa : St → Prop) : Prop := w_X0_laysAverage st p1 (fun (s2 : St) => w_X0_kernel s2 (fun (s10 : St) (r9 : Int32) => vp_in p1 15 ∧ w_X2_is s10 (149 + p1.toNatClampNeg) (sL s10 0 17) ((sL s10 0 16) * (sI s10 2 1).toInt64) (fun (s21 : St) (r20 : Nat) => Φ s21 r20) Φa) Φw)
theorem nm_X0_worthOf : yX0_worthOf.cls ≠ "java/lang/invoke/MethodHandle" ∧ yX0_worthOf.cls ≠ "java/lang/invoke/VarHandle" ∧ (parseMethodDescriptor yX0_worthOf.desc).map (fun d => d.parameters.length) = some 1 := by decide +kernel
theorem e_X0_worthOf : plainFor yX0_worthOf = true := plainFor_of_name (by decide +kernel)
theorem m_X0_worthOf {θ : Th} {l : Launch} (hl0 : l.stackTraces = false) (hX : LX θ) {d : Nat} (hd : 5 ≤ d) (st : St) (p1 : Int32) {Φ : St → Nat → Prop} {Φw : St → Nat → Prop} {Φa : St → Prop} (h : w_X0_worthOf st p1 Φ Φw Φa) : Ct θ l yX0_worthOf (ws_ yX0_worthOf cX0_worthOf 3 (some (Jvm.ClassFile.FieldType.object "SecretsWorth$Ratio"))) d [.ref (ad θ 0), .int p1] st (pN θ 3 Φ, (exOr (exW θ Φw) (exA Φa))) := by
  refine Ct_entry hl0 e_X0_worthOf (Nat.le_of_ble_eq_true rfl) (fun κ hκ _ C => ?_)
  have hn : ∀ st r, r < gBIG → sh st r = 3 → Φ st r → ((pN θ 3 Φ, (exOr (exW θ Φw) (exA Φa))) : Ph).1 st (some (.ref (ad θ r))) := fun st r q1 q2 q => ⟨r, rfl, q1, q2, q⟩
  have hw : ∀ st a, a < gBIG → sh st a = 6 → Φw st a → ((pN θ 3 Φ, (exOr (exW θ Φw) (exA Φa))) : Ph).2 st "SecretsWorth$Wrong" (ad θ a) := fun st a q1 q2 q => Or.inl ⟨rfl, a, rfl, q1, q2, q⟩
  have ha : ∀ st q, Φa st → ((pN θ 3 Φ, (exOr (exW θ Φw) (exA Φa))) : Ph).2 st "java/lang/ArithmeticException" q := fun st q2 q => Or.inr (⟨rfl, q⟩)
  change X _ _ _ _ _ [(0, .ref (ad θ 0)), (1, .int p1)] _
  unfold w_X0_worthOf at h
  refine X_aload_n C dX0_worthOf_0 rfl 0 rfl (isRV_r _) ?_
  refine X_iload_n C dX0_worthOf_1 rfl 1 rfl ?_
  refine X_callVS (ci := 0) (q := (RX0, TX0, 49)) (As := [_]) (rest := []) C rfl (LX_S hX (k := 0) rfl) q665 q667 qs6 q132 q668 ⟨rfl, nm_X0_laysAverage⟩ rfl dX0_worthOf_2 (m_X0_laysAverage (Cx_l C) hX (d := d - 1) (by omega) st p1 h) (by omega) (by decide) (Nat.le_of_ble_eq_true rfl) (fun s2 w3 hE4 hP5 => ?_) (fun s8 E6 q7 hE4 hP5 => ?_)
  rotate_left
  · exact False.elim hP5
  obtain ⟨rfl, h⟩ := hP5
  refine X_tln ?_
  refine X_aload_n C dX0_worthOf_5 rfl 0 rfl (isRV_r _) ?_
  refine X_callVS (ci := 0) (q := (RX0, TX0, 49)) (As := []) (rest := []) C rfl (LX_S hX (k := 0) rfl) q669 q671 qs7 q132 q672 ⟨rfl, nm_X0_kernel⟩ rfl dX0_worthOf_6 (m_X0_kernel (Cx_l C) hX (d := d - 1) (by omega) s2 h) (by omega) (by decide) (Nat.le_of_ble_eq_true rfl) (fun s10 w11 hE12 hP13 => ?_) (fun s16 E14 q15 hE12 hP13 => ?_)
  rotate_left
  · rcases hP13 with ⟨rfl, a_, rfl, hb_, hs_, h⟩
    exact XT_out C rfl (hw s16 a_ hb_ hs_ h)
  obtain ⟨r9, rfl, h⟩ := hP13
  refine X_tls ?_
  refine X_istore_n C dX0_worthOf_9 rfl (lo2 := [(2, _), (0, _), (1, _)]) (by decide) rfl ?_
  refine X_aload_n C dX0_worthOf_10 rfl 1 rfl (isRV_r _) ?_
  refine X_getF (ci := 0) (j := 18) (q := (RX0, TX0, 49)) C rfl (by decide) q278 rfl dX0_worthOf_11 (b := 133) (LX_S hX (k := 0) rfl) (LX_F hX (k := 0) (j := 18) rfl) rfl ?_
  refine X_iload_n C dX0_worthOf_14 rfl 2 rfl ?_
  have g17 := h.1
  have h := h.2
  refine X_aaldF C 9 rfl (LX_S hX (k := 133) rfl) (by decide) rfl (LX_L hX (k := 133) rfl) g17 rfl (b := (149 + p1.toNatClampNeg)) (LXf_worth hX (i := p1.toNatClampNeg) (in_lt g17)).2 dX0_worthOf_15 rfl ?_
  refine X_aload_n C dX0_worthOf_16 rfl 1 rfl (isRV_r _) ?_
  refine X_getS (ci := 0) (j := 17) (q := (RX0, TX0, 49)) C rfl (by decide) q277 rfl dX0_worthOf_17 (LX_S hX (k := 0) rfl) (v := .long (sL s10 0 17)) rfl ?_
  refine X_aload_n C dX0_worthOf_20 rfl 1 rfl (isRV_r _) ?_
  refine X_getS (ci := 0) (j := 16) (q := (RX0, TX0, 49)) C rfl (by decide) q276 rfl dX0_worthOf_21 (LX_S hX (k := 0) rfl) (v := .long (sL s10 0 16)) rfl ?_
  refine X_aload_n C dX0_worthOf_24 rfl 1 rfl (isRV_r _) ?_
  refine X_getF (ci := 0) (j := 1) (q := (RX0, TX0, 49)) C rfl (by decide) q261 rfl dX0_worthOf_25 (b := 2) (LX_S hX (k := 0) rfl) (LX_F hX (k := 0) (j := 1) rfl) rfl ?_
  refine X_getNS (ci := 1) (j := 1) (q := (RX1, TX1, 10)) C rfl (by decide) q191 rfl dX0_worthOf_28 (LH_0 (LX_H2 hX)) (v := .int (sI s10 2 1)) rfl ?_
  refine X_i2l C dX0_worthOf_31 ?_
  refine X_lmul C dX0_worthOf_32 ?_
  refine X_sh (LXf_worth hX (i := p1.toNatClampNeg) (in_lt g17)).1 (by decide) (fun hs18 hb19 => ?_)
  refine X_callV (ci := 2) (q := (RX2, TX2, 2)) (As := [_, _]) (rest := []) C rfl hs18 q714 q715 q716 q134 q717 ⟨rfl, nm_X2_is⟩ rfl dX0_worthOf_33 (m_X2_is (Cx_l C) (d := d - 1) (by omega) s10 (149 + p1.toNatClampNeg) (sL s10 0 17) ((sL s10 0 16) * (sI s10 2 1).toInt64) hs18 hb19 h) (by omega) (by decide) (Nat.le_of_ble_eq_true rfl) (fun s21 w22 hE23 hP24 => ?_) (fun s27 E25 q26 hE23 hP24 => ?_)
  rotate_left
  · rcases hP24 with ⟨rfl, h⟩
    exact XT_out C rfl (ha s27 q26 h)
  obtain ⟨r20, rfl, hb28, hs29, h⟩ := hP24
  refine X_tls ?_
  exact X_aret C rfl (Or.inl ⟨_, rfl⟩) (isRV_r _) dX0_worthOf_36 (hn s21 _ hb28 hs29 h)

def w_X0_answersFar (st : St) (p1 : Nat) (Φ : St → Int64 → Prop) : Prop := vp_in (sI st p1 6) 9 ∧ ∀ s2, s2 = putI st 1 ((sI st p1 6).toNatClampNeg) ((sI st 1 (sI st p1 6).toNatClampNeg) + 1) → Φ s2 ((-9000000000000000000) - (sI s2 p1 6).toInt64)
theorem nm_X0_answersFar : yX0_answersFar.cls ≠ "java/lang/invoke/MethodHandle" ∧ yX0_answersFar.cls ≠ "java/lang/invoke/VarHandle" ∧ (parseMethodDescriptor yX0_answersFar.desc).map (fun d => d.parameters.length) = some 1 := by decide +kernel
theorem e_X0_answersFar : plainFor yX0_answersFar = true := plainFor_of_name (by decide +kernel)
theorem m_X0_answersFar {θ : Th} {l : Launch} (hl0 : l.stackTraces = false) (hX : LX θ) {d : Nat} (hd : 0 ≤ d) (st : St) (p1 : Nat) (hs_p1 : sh st p1 = 6) (hb_p1 : p1 < gBIG) {Φ : St → Int64 → Prop} (h : w_X0_answersFar st p1 Φ) : Ct θ l yX0_answersFar (ws_ yX0_answersFar cX0_answersFar 2 (some Jvm.ClassFile.FieldType.long)) d [.ref (ad θ 0), .ref (ad θ p1)] st (pL Φ, noX) := by
  refine Ct_entry hl0 e_X0_answersFar (Nat.le_of_ble_eq_true rfl) (fun κ hκ _ C => ?_)
  have hn : ∀ st r, Φ st r → ((pL Φ, noX) : Ph).1 st (some (.long r)) := fun st r q => ⟨r, rfl, q⟩
  change X _ _ _ _ _ [(0, .ref (ad θ 0)), (1, .ref (ad θ p1))] _
  unfold w_X0_answersFar at h
  refine X_aload_n C dX0_answersFar_0 rfl 0 rfl (isRV_r _) ?_
  refine X_getF (ci := 0) (j := 0) (q := (RX0, TX0, 49)) C rfl (by decide) q260 rfl dX0_answersFar_1 (b := 1) (LX_S hX (k := 0) rfl) (LX_F hX (k := 0) (j := 0) rfl) rfl ?_
  refine X_aload_n C dX0_answersFar_4 rfl 1 rfl (isRV_r _) ?_
  refine X_get (ci := 5) (j := 6) (q := (RX5, TX5, 7)) C rfl (by decide) q492 rfl dX0_answersFar_5 hs_p1 (v := .int (sI st p1 6)) rfl ?_
  refine X_dup2 C dX0_answersFar_8 rfl rfl ?_
  have g1 := h.1
  have h := h.2
  refine X_ialdS C (LX_S hX (k := 1) rfl) (LX_L hX (k := 1) rfl) g1 rfl dX0_answersFar_9 ?_
  refine X_iconst (v := 1) C dX0_answersFar_10 rfl ?_
  refine X_iadd C dX0_answersFar_11 ?_
  refine X_iastS C (LX_S hX (k := 1) rfl) (LX_L hX (k := 1) rfl) g1 rfl dX0_answersFar_12 ?_
  refine X_nm (fun s2 e3 => ?_)
  have h := h s2 e3
  have hs_p1 : sh s2 p1 = 6 := by rw [e3]; exact hs_p1
  refine X_ldc2 C q749 dX0_answersFar_13 ?_
  refine X_aload_n C dX0_answersFar_16 rfl 1 rfl (isRV_r _) ?_
  refine X_get (ci := 5) (j := 6) (q := (RX5, TX5, 7)) C rfl (by decide) q492 rfl dX0_answersFar_17 hs_p1 (v := .int (sI s2 p1 6)) rfl ?_
  refine X_i2l C dX0_answersFar_20 ?_
  refine X_lsub C dX0_answersFar_21 ?_
  exact X_lret C rfl dX0_answersFar_22 (hn s2 _ h)

def w_X0_isLine (st0 : St) (p1 : Int32) (p2 : Int32) (Φ : Int32 → Prop) : Prop := ((p1 ≠ 0) → w_X1_isColumn 2 st0 p2 (fun (r2 : Int32) => (r2 = 0 ∨ r2 = 1) ∧ Φ r2)) ∧ ((p1 = 0) → w_X1_isRow 2 st0 p2 (fun (r11 : Int32) => (r11 = 0 ∨ r11 = 1) ∧ Φ r11))
theorem nm_X0_isLine : yX0_isLine.cls ≠ "java/lang/invoke/MethodHandle" ∧ yX0_isLine.cls ≠ "java/lang/invoke/VarHandle" ∧ (parseMethodDescriptor yX0_isLine.desc).map (fun d => d.parameters.length) = some 2 := by decide +kernel
theorem e_X0_isLine : plainFor yX0_isLine = true := plainFor_of_name (by decide +kernel)
theorem m_X0_isLine {θ : Th} {l : Launch} (hl0 : l.stackTraces = false) (hX : LX θ) {d : Nat} (hd : 2 ≤ d) (st0 : St) (p1 : Int32) (p2 : Int32) {Φ : Int32 → Prop} (h : w_X0_isLine st0 p1 p2 Φ) : Ct θ l yX0_isLine (ws_ yX0_isLine cX0_isLine 3 (some Jvm.ClassFile.FieldType.boolean)) d [.ref (ad θ 0), .int p1, .int p2] st0 (rI st0 Φ, noX) := by
  refine Ct_entry hl0 e_X0_isLine (Nat.le_of_ble_eq_true rfl) (fun κ hκ _ C => ?_)
  have hn : ∀ r, Φ r → ((rI st0 Φ, noX) : Ph).1 st0 (some (.int r)) := fun r q => ⟨r, rfl, rfl, q⟩
  change X _ _ _ _ _ [(0, .ref (ad θ 0)), (1, .int p1), (2, .int p2)] _
  unfold w_X0_isLine at h
  refine X_iload_n C dX0_isLine_0 rfl 1 rfl ?_
  refine X_if_ne (tgt := 15) C dX0_isLine_1 (by decide) (fun c1 => ?_) (fun c1 => ?_)
  · have h := h.1 c1
    refine X_aload_n C dX0_isLine_15 rfl 0 rfl (isRV_r _) ?_
    refine X_getF (ci := 0) (j := 1) (q := (RX0, TX0, 49)) C rfl (by decide) q261 rfl dX0_isLine_16 (b := 2) (LX_S hX (k := 0) rfl) (LX_F hX (k := 0) (j := 1) rfl) rfl ?_
    refine X_iload_n C dX0_isLine_19 rfl 2 rfl ?_
    refine X_callVS (ci := 1) (q := (RX1, TX1, 10)) (As := [_]) (rest := []) C rfl (LH_0 (LX_H2 hX)) q646 q647 q648 q133 q649 ⟨rfl, nm_X1_isColumn⟩ rfl dX0_isLine_20 (m_X1_isColumn (Cx_l C) (LX_H2 hX) (d := d - 1) (by omega) st0 p2 h) (by omega) (by decide) (Nat.le_of_ble_eq_true rfl) (fun s8 w3 hE4 hP5 => ?_) (fun s9 E6 q7 hE4 hP5 => ?_)
    rotate_left
    · exact False.elim hP5
    obtain ⟨r2, rfl, rfl, h⟩ := hP5
    refine X_tls ?_
    have g10 := h.1
    have h := h.2
    exact X_zret C rfl (nb_01 g10).1 dX0_isLine_23 (hn _ h)
  · have h := h.2 c1
    refine X_aload_n C dX0_isLine_4 rfl 0 rfl (isRV_r _) ?_
    refine X_getF (ci := 0) (j := 1) (q := (RX0, TX0, 49)) C rfl (by decide) q261 rfl dX0_isLine_5 (b := 2) (LX_S hX (k := 0) rfl) (LX_F hX (k := 0) (j := 1) rfl) rfl ?_
    refine X_iload_n C dX0_isLine_8 rfl 2 rfl ?_
    refine X_callVS (ci := 1) (q := (RX1, TX1, 10)) (As := [_]) (rest := []) C rfl (LH_0 (LX_H2 hX)) q642 q643 q644 q133 q645 ⟨rfl, nm_X1_isRow⟩ rfl dX0_isLine_9 (m_X1_isRow (Cx_l C) (LX_H2 hX) (d := d - 1) (by omega) st0 p2 h) (by omega) (by decide) (Nat.le_of_ble_eq_true rfl) (fun s17 w12 hE13 hP14 => ?_) (fun s18 E15 q16 hE13 hP14 => ?_)
    rotate_left
    · exact False.elim hP14
    obtain ⟨r11, rfl, rfl, h⟩ := hP14
    refine X_tls ?_
    refine X_goto (tgt := 23) C dX0_isLine_12 (by decide) ?_
    have g19 := h.1
    have h := h.2
    exact X_zret C rfl (nb_01 g19).1 dX0_isLine_23 (hn _ h)

def w_X0_isToldPoint_b16 (Φ : Int32 → Prop) (st0 : St) : Prop := Φ 1
theorem t_X0_isToldPoint_b16 {θ : Th} {κ : Kx} {Ph : Ph} (hX : LX θ) {st0 : St} {d : Nat} (hd : 2 ≤ d) (C : Cx θ κ yX0_isToldPoint cX0_isToldPoint 2 (some Jvm.ClassFile.FieldType.boolean) [] d) {Φ : Int32 → Prop} (hn : ∀ r, Φ r → Ph.1 st0 (some (.int r))) (h : w_X0_isToldPoint_b16 Φ st0) : X θ κ Ph st0 16 [] [] := by
  unfold w_X0_isToldPoint_b16 at h
  refine X_iconst (v := 1) C dX0_isToldPoint_16 rfl ?_
  refine X_goto (tgt := 21) C dX0_isToldPoint_17 (by decide) ?_
  exact X_zret C rfl rfl dX0_isToldPoint_21 (hn _ h)
def w_X0_isToldPoint (st0 : St) (p1 : Int32) (Φ : Int32 → Prop) : Prop := ((p1 = (-1)) → w_X0_isToldPoint_b16 Φ st0) ∧ ((¬ p1 = (-1)) → w_X1_isPoint 2 st0 p1 (fun (r2 : Int32) => ((r2 = 0) → Φ 0) ∧ ((¬ r2 = 0) → w_X0_isToldPoint_b16 Φ st0)))
theorem nm_X0_isToldPoint : yX0_isToldPoint.cls ≠ "java/lang/invoke/MethodHandle" ∧ yX0_isToldPoint.cls ≠ "java/lang/invoke/VarHandle" ∧ (parseMethodDescriptor yX0_isToldPoint.desc).map (fun d => d.parameters.length) = some 1 := by decide +kernel
theorem e_X0_isToldPoint : plainFor yX0_isToldPoint = true := plainFor_of_name (by decide +kernel)
theorem m_X0_isToldPoint {θ : Th} {l : Launch} (hl0 : l.stackTraces = false) (hX : LX θ) {d : Nat} (hd : 2 ≤ d) (st0 : St) (p1 : Int32) {Φ : Int32 → Prop} (h : w_X0_isToldPoint st0 p1 Φ) : Ct θ l yX0_isToldPoint (ws_ yX0_isToldPoint cX0_isToldPoint 2 (some Jvm.ClassFile.FieldType.boolean)) d [.ref (ad θ 0), .int p1] st0 (rI st0 Φ, noX) := by
  refine Ct_entry hl0 e_X0_isToldPoint (Nat.le_of_ble_eq_true rfl) (fun κ hκ _ C => ?_)
  have hn : ∀ r, Φ r → ((rI st0 Φ, noX) : Ph).1 st0 (some (.int r)) := fun r q => ⟨r, rfl, rfl, q⟩
  change X _ _ _ _ _ [(0, .ref (ad θ 0)), (1, .int p1)] _
  unfold w_X0_isToldPoint at h
  refine X_iload_n C dX0_isToldPoint_0 rfl 1 rfl ?_
  refine X_iconst (v := (-1)) C dX0_isToldPoint_1 rfl ?_
  refine X_icmp_eq (tgt := 16) C dX0_isToldPoint_2 (by decide) (fun c1 => ?_) (fun c1 => ?_)
  · have h := h.1 c1
    refine X_sub [] (lo2 := []) rfl ?_
    exact t_X0_isToldPoint_b16 hX hd C hn h
  · have h := h.2 c1
    refine X_aload_n C dX0_isToldPoint_5 rfl 0 rfl (isRV_r _) ?_
    refine X_getF (ci := 0) (j := 1) (q := (RX0, TX0, 49)) C rfl (by decide) q261 rfl dX0_isToldPoint_6 (b := 2) (LX_S hX (k := 0) rfl) (LX_F hX (k := 0) (j := 1) rfl) rfl ?_
    refine X_iload_n C dX0_isToldPoint_9 rfl 1 rfl ?_
    refine X_callVS (ci := 1) (q := (RX1, TX1, 10)) (As := [_]) (rest := []) C rfl (LH_0 (LX_H2 hX)) q619 q620 q621 q133 q622 ⟨rfl, nm_X1_isPoint⟩ rfl dX0_isToldPoint_10 (m_X1_isPoint (Cx_l C) (LX_H2 hX) (d := d - 1) (by omega) st0 p1 h) (by omega) (by decide) (Nat.le_of_ble_eq_true rfl) (fun s8 w3 hE4 hP5 => ?_) (fun s9 E6 q7 hE4 hP5 => ?_)
    rotate_left
    · exact False.elim hP5
    obtain ⟨r2, rfl, rfl, h⟩ := hP5
    refine X_tls ?_
    refine X_if_eq (tgt := 20) C dX0_isToldPoint_13 (by decide) (fun c10 => ?_) (fun c10 => ?_)
    · have h := h.1 c10
      refine X_iconst (v := 0) C dX0_isToldPoint_20 rfl ?_
      exact X_zret C rfl rfl dX0_isToldPoint_21 (hn _ h)
    · have h := h.2 c10
      refine X_sub [] (lo2 := []) rfl ?_
      exact t_X0_isToldPoint_b16 hX hd C hn h

def w_X0_weighsTwo_l41 (Φ : St → Int32 → Prop) (Φa : St → Prop) (E74 : St → Prop) (E82 : St → Int32 → Int32 → Prop) : Nat → St → Nat → Nat → Nat → Int32 → Int32 → Int32 → Prop
  | 0, _, _, _, _, _, _, _ => False
  | n + 1, st, x1, x2, x3, x5, x6, x7 => ((3 ≤ x7) → E82 st x5 x6) ∧ ((¬ 3 ≤ x7) → vp_in x7 3 ∧ (((((sI st x1 x7.toNatClampNeg) - (sI st x2 x7.toNatClampNeg)) * x5) = (x6 * ((sI st x3 x7.toNatClampNeg) - (sI st x2 x7.toNatClampNeg)))) → w_X0_weighsTwo_l41 Φ Φa E74 E82 n st x1 x2 x3 x5 x6 (x7 + 1)) ∧ ((¬ (((sI st x1 x7.toNatClampNeg) - (sI st x2 x7.toNatClampNeg)) * x5) = (x6 * ((sI st x3 x7.toNatClampNeg) - (sI st x2 x7.toNatClampNeg)))) → E74 st))
theorem t_X0_weighsTwo_l41 {θ : Th} {κ : Kx} {Ph : Ph} (hX : LX θ) {d : Nat} (hd : 2 ≤ d) (C : Cx θ κ yX0_weighsTwo cX0_weighsTwo 8 (some Jvm.ClassFile.FieldType.boolean) [] d) {Φ : St → Int32 → Prop} {Φa : St → Prop} (hn : ∀ st r, Φ st r → Ph.1 st (some (.int r))) (ha : ∀ st q, Φa st → Ph.2 st "java/lang/ArithmeticException" q) {E74 : St → Prop} {E82 : St → Int32 → Int32 → Prop} (hE74 : ∀ (st : St), E74 st → X θ κ Ph st 74 [] []) (hE82 : ∀ (st : St) (x5 : Int32) (x6 : Int32), E82 st x5 x6 → X θ κ Ph st 82 [(0, .ref (ad θ 0)), (5, .int x5), (6, .int x6)] []) : ∀ (n : Nat) (st : St) (x1 : Nat) (x2 : Nat) (x3 : Nat) (x5 : Int32) (x6 : Int32) (x7 : Int32), sh st x1 = 101 → x1 < gBIG → ln st x1 = 3 → sh st x2 = 101 → x2 < gBIG → ln st x2 = 3 → sh st x3 = 101 → x3 < gBIG → ln st x3 = 3 → w_X0_weighsTwo_l41 Φ Φa E74 E82 n st x1 x2 x3 x5 x6 x7 → X θ κ Ph st 41 [(0, .ref (ad θ 0)), (1, .ref (ad θ x1)), (2, .ref (ad θ x2)), (3, .ref (ad θ x3)), (5, .int x5), (6, .int x6), (7, .int x7)] [] := by
  intro n
  induction n with
  | zero => intro st x1 x2 x3 x5 x6 x7 hs_x1 hb_x1 hl_x1 hs_x2 hb_x2 hl_x2 hs_x3 hb_x3 hl_x3 h; exact h.elim
  | succ n hK41 =>
    intro st x1 x2 x3 x5 x6 x7 hs_x1 hb_x1 hl_x1 hs_x2 hb_x2 hl_x2 hs_x3 hb_x3 hl_x3 h
    rw [w_X0_weighsTwo_l41] at h
    refine X_iload C dX0_weighsTwo_41 6 rfl ?_
    refine X_iconst (v := 3) C dX0_weighsTwo_43 rfl ?_
    refine X_icmp_ge (tgt := 82) C dX0_weighsTwo_44 (by decide) (fun c7 => ?_) (fun c7 => ?_)
    · have h := h.1 c7
      refine X_sub [0, 4, 5] (lo2 := [(0, _), (5, _), (6, _)]) rfl ?_
      exact hE82 st x5 x6 h
    · have h := h.2 c7
      refine X_aload_n C dX0_weighsTwo_47 rfl 1 rfl (isRV_r _) ?_
      refine X_iload C dX0_weighsTwo_48 6 rfl ?_
      have g8 := h.1
      have h := h.2
      refine X_ialdD C hs_x1 hl_x1 g8 rfl dX0_weighsTwo_50 ?_
      refine X_aload_n C dX0_weighsTwo_51 rfl 2 rfl (isRV_r _) ?_
      refine X_iload C dX0_weighsTwo_52 6 rfl ?_
      refine X_ialdD C hs_x2 hl_x2 g8 rfl dX0_weighsTwo_54 ?_
      refine X_isub C dX0_weighsTwo_55 ?_
      refine X_iload C dX0_weighsTwo_56 4 rfl ?_
      refine X_imul C dX0_weighsTwo_58 ?_
      refine X_iload C dX0_weighsTwo_59 5 rfl ?_
      refine X_aload_n C dX0_weighsTwo_61 rfl 3 rfl (isRV_r _) ?_
      refine X_iload C dX0_weighsTwo_62 6 rfl ?_
      refine X_ialdD C hs_x3 hl_x3 g8 rfl dX0_weighsTwo_64 ?_
      refine X_aload_n C dX0_weighsTwo_65 rfl 2 rfl (isRV_r _) ?_
      refine X_iload C dX0_weighsTwo_66 6 rfl ?_
      refine X_ialdD C hs_x2 hl_x2 g8 rfl dX0_weighsTwo_68 ?_
      refine X_isub C dX0_weighsTwo_69 ?_
      refine X_imul C dX0_weighsTwo_70 ?_
      refine X_icmp_eq (tgt := 76) C dX0_weighsTwo_71 (by decide) (fun c9 => ?_) (fun c9 => ?_)
      · have h := h.1 c9
        refine X_iinc (v := (x7 + 1)) C (j := 6) dX0_weighsTwo_76 rfl rfl (lo2 := [(7, _), (0, _), (1, _), (2, _), (3, _), (5, _), (6, _)]) (by decide) rfl ?_
        refine X_goto (tgt := 41) C dX0_weighsTwo_79 (by decide) ?_
        refine X_sub [1, 2, 3, 4, 5, 6, 0] (lo2 := [(0, _), (1, _), (2, _), (3, _), (5, _), (6, _), (7, _)]) rfl ?_
        exact hK41 st x1 x2 x3 x5 x6 (x7 + 1) hs_x1 hb_x1 hl_x1 hs_x2 hb_x2 hl_x2 hs_x3 hb_x3 hl_x3 h
      · have h := h.2 c9
        refine X_sub [] (lo2 := []) rfl ?_
        exact hE74 st h
def w_X0_weighsTwo_b74 (Φ : St → Int32 → Prop) (Φa : St → Prop) (st : St) : Prop := Φ st 0
theorem t_X0_weighsTwo_b74 {θ : Th} {κ : Kx} {Ph : Ph} (hX : LX θ) {d : Nat} (hd : 2 ≤ d) (C : Cx θ κ yX0_weighsTwo cX0_weighsTwo 8 (some Jvm.ClassFile.FieldType.boolean) [] d) {Φ : St → Int32 → Prop} {Φa : St → Prop} (hn : ∀ st r, Φ st r → Ph.1 st (some (.int r))) (ha : ∀ st q, Φa st → Ph.2 st "java/lang/ArithmeticException" q) (st : St) (h : w_X0_weighsTwo_b74 Φ Φa st) : X θ κ Ph st 74 [] [] := by
  unfold w_X0_weighsTwo_b74 at h
  refine X_iconst (v := 0) C dX0_weighsTwo_74 rfl ?_
  exact X_zret C rfl rfl dX0_weighsTwo_75 (hn st _ h)
def w_X0_weighsTwo_b82 (Φ : St → Int32 → Prop) (Φa : St → Prop) (st : St) (x5 : Int32) (x6 : Int32) : Prop := w_X2_is st (164 + 2 * 0) (x5 - x6).toInt64 x5.toInt64 (fun (s15 : St) (r14 : Nat) => w_X2_is s15 (164 + 2 * 1) x6.toInt64 x5.toInt64 (fun (s27 : St) (r26 : Nat) => Φ s27 1) Φa) Φa
theorem t_X0_weighsTwo_b82 {θ : Th} {κ : Kx} {Ph : Ph} (hX : LX θ) {d : Nat} (hd : 2 ≤ d) (C : Cx θ κ yX0_weighsTwo cX0_weighsTwo 8 (some Jvm.ClassFile.FieldType.boolean) [] d) {Φ : St → Int32 → Prop} {Φa : St → Prop} (hn : ∀ st r, Φ st r → Ph.1 st (some (.int r))) (ha : ∀ st q, Φa st → Ph.2 st "java/lang/ArithmeticException" q) (st : St) (x5 : Int32) (x6 : Int32) (h : w_X0_weighsTwo_b82 Φ Φa st x5 x6) : X θ κ Ph st 82 [(0, .ref (ad θ 0)), (5, .int x5), (6, .int x6)] [] := by
  unfold w_X0_weighsTwo_b82 at h
  refine X_aload_n C dX0_weighsTwo_82 rfl 0 rfl (isRV_r _) ?_
  refine X_getF (ci := 0) (j := 19) (q := (RX0, TX0, 49)) C rfl (by decide) q279 rfl dX0_weighsTwo_83 (b := 134) (LX_S hX (k := 0) rfl) (LX_F hX (k := 0) (j := 19) rfl) rfl ?_
  refine X_iconst (v := 0) C dX0_weighsTwo_86 rfl ?_
  refine X_aaldF C 9 rfl (LX_S hX (k := 134) rfl) (by decide) rfl (LX_L hX (k := 134) rfl) (vp_dec rfl) rfl (b := (164 + 2 * 0)) (LXf_weight hX (i := 0) (by decide)).2 dX0_weighsTwo_87 rfl ?_
  refine X_iload C dX0_weighsTwo_88 1 rfl ?_
  refine X_iload C dX0_weighsTwo_90 2 rfl ?_
  refine X_isub C dX0_weighsTwo_92 ?_
  refine X_i2l C dX0_weighsTwo_93 ?_
  refine X_iload C dX0_weighsTwo_94 1 rfl ?_
  refine X_i2l C dX0_weighsTwo_96 ?_
  refine X_sh (LXf_weight hX (i := 0) (by decide)).1 (by decide) (fun hs12 hb13 => ?_)
  refine X_callV (ci := 2) (q := (RX2, TX2, 2)) (As := [_, _]) (rest := []) C rfl hs12 q714 q715 q716 q134 q717 ⟨rfl, nm_X2_is⟩ rfl dX0_weighsTwo_97 (m_X2_is (Cx_l C) (d := d - 1) (by omega) st (164 + 2 * 0) (x5 - x6).toInt64 x5.toInt64 hs12 hb13 h) (by omega) (by decide) (Nat.le_of_ble_eq_true rfl) (fun s15 w16 hE17 hP18 => ?_) (fun s21 E19 q20 hE17 hP18 => ?_)
  rotate_left
  · rcases hP18 with ⟨rfl, h⟩
    exact XT_out C rfl (ha s21 q20 h)
  obtain ⟨r14, rfl, hb22, hs23, h⟩ := hP18
  refine X_tls ?_
  refine X_pop C dX0_weighsTwo_100 rfl ?_
  refine X_aload_n C dX0_weighsTwo_101 rfl 0 rfl (isRV_r _) ?_
  refine X_getF (ci := 0) (j := 19) (q := (RX0, TX0, 49)) C rfl (by decide) q279 rfl dX0_weighsTwo_102 (b := 134) (LX_S hX (k := 0) rfl) (LX_F hX (k := 0) (j := 19) rfl) rfl ?_
  refine X_iconst (v := 1) C dX0_weighsTwo_105 rfl ?_
  refine X_aaldF C 9 rfl (LX_S hX (k := 134) rfl) (by decide) rfl (LX_L hX (k := 134) rfl) (vp_dec rfl) rfl (b := (164 + 2 * 1)) (LXf_weight hX (i := 1) (by decide)).2 dX0_weighsTwo_106 rfl ?_
  refine X_iload C dX0_weighsTwo_107 2 rfl ?_
  refine X_i2l C dX0_weighsTwo_109 ?_
  refine X_iload C dX0_weighsTwo_110 1 rfl ?_
  refine X_i2l C dX0_weighsTwo_112 ?_
  refine X_sh (LXf_weight hX (i := 1) (by decide)).1 (by decide) (fun hs24 hb25 => ?_)
  refine X_callV (ci := 2) (q := (RX2, TX2, 2)) (As := [_, _]) (rest := []) C rfl hs24 q714 q715 q716 q134 q717 ⟨rfl, nm_X2_is⟩ rfl dX0_weighsTwo_113 (m_X2_is (Cx_l C) (d := d - 1) (by omega) s15 (164 + 2 * 1) x6.toInt64 x5.toInt64 hs24 hb25 h) (by omega) (by decide) (Nat.le_of_ble_eq_true rfl) (fun s27 w28 hE29 hP30 => ?_) (fun s33 E31 q32 hE29 hP30 => ?_)
  rotate_left
  · rcases hP30 with ⟨rfl, h⟩
    exact XT_out C rfl (ha s33 q32 h)
  obtain ⟨r26, rfl, hb34, hs35, h⟩ := hP30
  refine X_tls ?_
  have hs23 := Ext_sh hE29 hs23 (by decide)
  refine X_pop C dX0_weighsTwo_116 rfl ?_
  refine X_iconst (v := 1) C dX0_weighsTwo_117 rfl ?_
  exact X_zret C rfl rfl dX0_weighsTwo_118 (hn s27 _ h)
def w_X0_weighsTwo_b14 (Φ : St → Int32 → Prop) (Φa : St → Prop) (st : St) (x1 : Nat) (x2 : Nat) (x3 : Nat) (z0 : Int32) : Prop := vp_in z0 3 ∧ ∀ v3 : Int32, v3 = ((sI st x3 z0.toNatClampNeg) - (sI st x2 z0.toNatClampNeg)) → ∀ v5 : Int32, v5 = ((sI st x1 z0.toNatClampNeg) - (sI st x2 z0.toNatClampNeg)) → w_X0_weighsTwo_l41 Φ Φa (fun (s10 : St) => w_X0_weighsTwo_b74 Φ Φa s10) (fun (s11 : St) (x5 : Int32) (x6 : Int32) => w_X0_weighsTwo_b82 Φ Φa s11 x5 x6) gFU st x1 x2 x3 v3 v5 0
theorem t_X0_weighsTwo_b14 {θ : Th} {κ : Kx} {Ph : Ph} (hX : LX θ) {d : Nat} (hd : 2 ≤ d) (C : Cx θ κ yX0_weighsTwo cX0_weighsTwo 8 (some Jvm.ClassFile.FieldType.boolean) [] d) {Φ : St → Int32 → Prop} {Φa : St → Prop} (hn : ∀ st r, Φ st r → Ph.1 st (some (.int r))) (ha : ∀ st q, Φa st → Ph.2 st "java/lang/ArithmeticException" q) (st : St) (x1 : Nat) (x2 : Nat) (x3 : Nat) (z0 : Int32) (hs_x1 : sh st x1 = 101) (hb_x1 : x1 < gBIG) (hl_x1 : ln st x1 = 3) (hs_x2 : sh st x2 = 101) (hb_x2 : x2 < gBIG) (hl_x2 : ln st x2 = 3) (hs_x3 : sh st x3 = 101) (hb_x3 : x3 < gBIG) (hl_x3 : ln st x3 = 3) (h : w_X0_weighsTwo_b14 Φ Φa st x1 x2 x3 z0) : X θ κ Ph st 14 [(0, .ref (ad θ 0)), (1, .ref (ad θ x1)), (2, .ref (ad θ x2)), (3, .ref (ad θ x3))] [.int z0] := by
  unfold w_X0_weighsTwo_b14 at h
  refine X_istore C dX0_weighsTwo_14 (lo2 := [(4, _), (0, _), (1, _), (2, _), (3, _)]) (by decide) rfl ?_
  refine X_aload_n C dX0_weighsTwo_16 rfl 4 rfl (isRV_r _) ?_
  refine X_iload C dX0_weighsTwo_17 0 rfl ?_
  have g2 := h.1
  have h := h.2
  refine X_ialdD C hs_x3 hl_x3 g2 rfl dX0_weighsTwo_19 ?_
  refine X_aload_n C dX0_weighsTwo_20 rfl 3 rfl (isRV_r _) ?_
  refine X_iload C dX0_weighsTwo_21 0 rfl ?_
  refine X_ialdD C hs_x2 hl_x2 g2 rfl dX0_weighsTwo_23 ?_
  refine X_isub C dX0_weighsTwo_24 ?_
  refine X_topi (fun v3 e4 => ?_)
  have h := h v3 e4
  refine X_istore C dX0_weighsTwo_25 (lo2 := [(5, _), (4, _), (0, _), (1, _), (2, _), (3, _)]) (by decide) rfl ?_
  refine X_aload_n C dX0_weighsTwo_27 rfl 3 rfl (isRV_r _) ?_
  refine X_iload C dX0_weighsTwo_28 1 rfl ?_
  refine X_ialdD C hs_x1 hl_x1 g2 rfl dX0_weighsTwo_30 ?_
  refine X_aload_n C dX0_weighsTwo_31 rfl 4 rfl (isRV_r _) ?_
  refine X_iload C dX0_weighsTwo_32 1 rfl ?_
  refine X_ialdD C hs_x2 hl_x2 g2 rfl dX0_weighsTwo_34 ?_
  refine X_isub C dX0_weighsTwo_35 ?_
  refine X_topi (fun v5 e6 => ?_)
  have h := h v5 e6
  refine X_istore C dX0_weighsTwo_36 (lo2 := [(6, _), (5, _), (4, _), (0, _), (1, _), (2, _), (3, _)]) (by decide) rfl ?_
  refine X_iconst (v := 0) C dX0_weighsTwo_38 rfl ?_
  refine X_istore C dX0_weighsTwo_39 (lo2 := [(7, _), (6, _), (5, _), (4, _), (0, _), (1, _), (2, _), (3, _)]) (by decide) rfl ?_
  refine X_sub [4, 5, 6, 7, 2, 1, 0] (lo2 := [(0, _), (1, _), (2, _), (3, _), (5, _), (6, _), (7, _)]) rfl ?_
  refine t_X0_weighsTwo_l41 hX hd C hn ha ?_ ?_ gFU st x1 x2 x3 v3 v5 0 hs_x1 hb_x1 hl_x1 hs_x2 hb_x2 hl_x2 hs_x3 hb_x3 hl_x3 h
  · intro s10 h
    exact t_X0_weighsTwo_b74 hX hd C hn ha s10 h
  · intro s11 x5 x6 h
    exact t_X0_weighsTwo_b82 hX hd C hn ha s11 x5 x6 h
def w_X0_weighsTwo (st : St) (p1 : Nat) (p2 : Nat) (p3 : Nat) (Φ : St → Int32 → Prop) (Φa : St → Prop) : Prop := (((sI st p2 0) ≠ (sI st p3 0)) → w_X0_weighsTwo_b14 Φ Φa st p1 p2 p3 0) ∧ (((sI st p2 0) = (sI st p3 0)) → w_X0_weighsTwo_b14 Φ Φa st p1 p2 p3 1)
theorem nm_X0_weighsTwo : yX0_weighsTwo.cls ≠ "java/lang/invoke/MethodHandle" ∧ yX0_weighsTwo.cls ≠ "java/lang/invoke/VarHandle" ∧ (parseMethodDescriptor yX0_weighsTwo.desc).map (fun d => d.parameters.length) = some 3 := by decide +kernel
theorem e_X0_weighsTwo : plainFor yX0_weighsTwo = true := plainFor_of_name (by decide +kernel)
theorem m_X0_weighsTwo {θ : Th} {l : Launch} (hl0 : l.stackTraces = false) (hX : LX θ) {d : Nat} (hd : 2 ≤ d) (st : St) (p1 : Nat) (p2 : Nat) (p3 : Nat) (hs_p1 : sh st p1 = 101) (hb_p1 : p1 < gBIG) (hl_p1 : ln st p1 = 3) (hs_p2 : sh st p2 = 101) (hb_p2 : p2 < gBIG) (hl_p2 : ln st p2 = 3) (hs_p3 : sh st p3 = 101) (hb_p3 : p3 < gBIG) (hl_p3 : ln st p3 = 3) {Φ : St → Int32 → Prop} {Φa : St → Prop} (h : w_X0_weighsTwo st p1 p2 p3 Φ Φa) : Ct θ l yX0_weighsTwo (ws_ yX0_weighsTwo cX0_weighsTwo 8 (some Jvm.ClassFile.FieldType.boolean)) d [.ref (ad θ 0), .ref (ad θ p1), .ref (ad θ p2), .ref (ad θ p3)] st (pI Φ, (exA Φa)) := by
  refine Ct_entry hl0 e_X0_weighsTwo (Nat.le_of_ble_eq_true rfl) (fun κ hκ _ C => ?_)
  have hn : ∀ st r, Φ st r → ((pI Φ, (exA Φa)) : Ph).1 st (some (.int r)) := fun st r q => ⟨r, rfl, q⟩
  have ha : ∀ st q, Φa st → ((pI Φ, (exA Φa)) : Ph).2 st "java/lang/ArithmeticException" q := fun st q2 q => ⟨rfl, q⟩
  change X _ _ _ _ _ [(0, .ref (ad θ 0)), (1, .ref (ad θ p1)), (2, .ref (ad θ p2)), (3, .ref (ad θ p3))] _
  unfold w_X0_weighsTwo at h
  refine X_aload_n C dX0_weighsTwo_0 rfl 2 rfl (isRV_r _) ?_
  refine X_iconst (v := 0) C dX0_weighsTwo_1 rfl ?_
  refine X_ialdD C hs_p2 hl_p2 (vp_dec rfl) rfl dX0_weighsTwo_2 ?_
  refine X_aload_n C dX0_weighsTwo_3 rfl 3 rfl (isRV_r _) ?_
  refine X_iconst (v := 0) C dX0_weighsTwo_4 rfl ?_
  refine X_ialdD C hs_p3 hl_p3 (vp_dec rfl) rfl dX0_weighsTwo_5 ?_
  refine X_icmp_ne (tgt := 13) C dX0_weighsTwo_6 (by decide) (fun c1 => ?_) (fun c1 => ?_)
  · have h := h.1 c1
    refine X_iconst (v := 0) C dX0_weighsTwo_13 rfl ?_
    exact t_X0_weighsTwo_b14 hX hd C hn ha st p1 p2 p3 0 hs_p1 hb_p1 hl_p1 hs_p2 hb_p2 hl_p2 hs_p3 hb_p3 hl_p3 h
  · have h := h.2 c1
    refine X_iconst (v := 1) C dX0_weighsTwo_9 rfl ?_
    refine X_goto (tgt := 14) C dX0_weighsTwo_10 (by decide) ?_
    exact t_X0_weighsTwo_b14 hX hd C hn ha st p1 p2 p3 1 hs_p1 hb_p1 hl_p1 hs_p2 hb_p2 hl_p2 hs_p3 hb_p3 hl_p3 h

def w_X0_cross (st0 : St) (p1 : Nat) (p2 : Nat) (p3 : Nat) (Φ : Int32 → Prop) : Prop := Φ ((((sI st0 p2 0) - (sI st0 p1 0)) * ((sI st0 p3 1) - (sI st0 p1 1))) - (((sI st0 p2 1) - (sI st0 p1 1)) * ((sI st0 p3 0) - (sI st0 p1 0))))
theorem nm_X0_cross : yX0_cross.cls ≠ "java/lang/invoke/MethodHandle" ∧ yX0_cross.cls ≠ "java/lang/invoke/VarHandle" ∧ (parseMethodDescriptor yX0_cross.desc).map (fun d => d.parameters.length) = some 3 := by decide +kernel
theorem e_X0_cross : plainFor yX0_cross = true := plainFor_of_name (by decide +kernel)
theorem m_X0_cross {θ : Th} {l : Launch} (hl0 : l.stackTraces = false) {d : Nat} (hd : 0 ≤ d) (st0 : St) (p1 : Nat) (p2 : Nat) (p3 : Nat) (hs_p1 : sh st0 p1 = 101) (hb_p1 : p1 < gBIG) (hl_p1 : ln st0 p1 = 3) (hs_p2 : sh st0 p2 = 101) (hb_p2 : p2 < gBIG) (hl_p2 : ln st0 p2 = 3) (hs_p3 : sh st0 p3 = 101) (hb_p3 : p3 < gBIG) (hl_p3 : ln st0 p3 = 3) {Φ : Int32 → Prop} (h : w_X0_cross st0 p1 p2 p3 Φ) : Ct θ l yX0_cross (ws_ yX0_cross cX0_cross 3 (some Jvm.ClassFile.FieldType.int)) d [.ref (ad θ p1), .ref (ad θ p2), .ref (ad θ p3)] st0 (rI st0 Φ, noX) := by
  refine Ct_entry hl0 e_X0_cross (Nat.le_of_ble_eq_true rfl) (fun κ hκ _ C => ?_)
  have hn : ∀ r, Φ r → ((rI st0 Φ, noX) : Ph).1 st0 (some (.int r)) := fun r q => ⟨r, rfl, rfl, q⟩
  change X _ _ _ _ _ [(0, .ref (ad θ p1)), (1, .ref (ad θ p2)), (2, .ref (ad θ p3))] _
  unfold w_X0_cross at h
  refine X_aload_n C dX0_cross_0 rfl 1 rfl (isRV_r _) ?_
  refine X_iconst (v := 0) C dX0_cross_1 rfl ?_
  refine X_ialdD C hs_p2 hl_p2 (vp_dec rfl) rfl dX0_cross_2 ?_
  refine X_aload_n C dX0_cross_3 rfl 0 rfl (isRV_r _) ?_
  refine X_iconst (v := 0) C dX0_cross_4 rfl ?_
  refine X_ialdD C hs_p1 hl_p1 (vp_dec rfl) rfl dX0_cross_5 ?_
  refine X_isub C dX0_cross_6 ?_
  refine X_aload_n C dX0_cross_7 rfl 2 rfl (isRV_r _) ?_
  refine X_iconst (v := 1) C dX0_cross_8 rfl ?_
  refine X_ialdD C hs_p3 hl_p3 (vp_dec rfl) rfl dX0_cross_9 ?_
  refine X_aload_n C dX0_cross_10 rfl 0 rfl (isRV_r _) ?_
  refine X_iconst (v := 1) C dX0_cross_11 rfl ?_
  refine X_ialdD C hs_p1 hl_p1 (vp_dec rfl) rfl dX0_cross_12 ?_
  refine X_isub C dX0_cross_13 ?_
  refine X_imul C dX0_cross_14 ?_
  refine X_aload_n C dX0_cross_15 rfl 1 rfl (isRV_r _) ?_
  refine X_iconst (v := 1) C dX0_cross_16 rfl ?_
  refine X_ialdD C hs_p2 hl_p2 (vp_dec rfl) rfl dX0_cross_17 ?_
  refine X_aload_n C dX0_cross_18 rfl 0 rfl (isRV_r _) ?_
  refine X_iconst (v := 1) C dX0_cross_19 rfl ?_
  refine X_ialdD C hs_p1 hl_p1 (vp_dec rfl) rfl dX0_cross_20 ?_
  refine X_isub C dX0_cross_21 ?_
  refine X_aload_n C dX0_cross_22 rfl 2 rfl (isRV_r _) ?_
  refine X_iconst (v := 0) C dX0_cross_23 rfl ?_
  refine X_ialdD C hs_p3 hl_p3 (vp_dec rfl) rfl dX0_cross_24 ?_
  refine X_aload_n C dX0_cross_25 rfl 0 rfl (isRV_r _) ?_
  refine X_iconst (v := 0) C dX0_cross_26 rfl ?_
  refine X_ialdD C hs_p1 hl_p1 (vp_dec rfl) rfl dX0_cross_27 ?_
  refine X_isub C dX0_cross_28 ?_
  refine X_imul C dX0_cross_29 ?_
  refine X_isub C dX0_cross_30 ?_
  exact X_iret C rfl dX0_cross_31 (hn _ h)

def w_X0_weighsThree (st : St) (p1 : Nat) (p2 : Nat) (p3 : Nat) (p4 : Nat) (Φ : St → Int32 → Prop) (Φa : St → Prop) : Prop := w_X0_cross st p2 p3 p4 (fun (r1 : Int32) => ((r1 ≠ 0) → w_X0_cross st p2 p1 p4 (fun (r10 : Int32) => w_X0_cross st p2 p3 p1 (fun (r18 : Int32) => w_X2_is st (164 + 2 * 0) ((r1 - r10) - r18).toInt64 r1.toInt64 (fun (s29 : St) (r28 : Nat) => w_X2_is s29 (164 + 2 * 1) r10.toInt64 r1.toInt64 (fun (s41 : St) (r40 : Nat) => w_X2_is s41 (164 + 2 * 2) r18.toInt64 r1.toInt64 (fun (s53 : St) (r52 : Nat) => Φ s53 1) Φa) Φa) Φa))) ∧ ((r1 = 0) → Φ st 0))
theorem nm_X0_weighsThree : yX0_weighsThree.cls ≠ "java/lang/invoke/MethodHandle" ∧ yX0_weighsThree.cls ≠ "java/lang/invoke/VarHandle" ∧ (parseMethodDescriptor yX0_weighsThree.desc).map (fun d => d.parameters.length) = some 4 := by decide +kernel
theorem e_X0_weighsThree : plainFor yX0_weighsThree = true := plainFor_of_name (by decide +kernel)
theorem m_X0_weighsThree {θ : Th} {l : Launch} (hl0 : l.stackTraces = false) (hX : LX θ) {d : Nat} (hd : 2 ≤ d) (st : St) (p1 : Nat) (p2 : Nat) (p3 : Nat) (p4 : Nat) (hs_p1 : sh st p1 = 101) (hb_p1 : p1 < gBIG) (hl_p1 : ln st p1 = 3) (hs_p2 : sh st p2 = 101) (hb_p2 : p2 < gBIG) (hl_p2 : ln st p2 = 3) (hs_p3 : sh st p3 = 101) (hb_p3 : p3 < gBIG) (hl_p3 : ln st p3 = 3) (hs_p4 : sh st p4 = 101) (hb_p4 : p4 < gBIG) (hl_p4 : ln st p4 = 3) {Φ : St → Int32 → Prop} {Φa : St → Prop} (h : w_X0_weighsThree st p1 p2 p3 p4 Φ Φa) : Ct θ l yX0_weighsThree (ws_ yX0_weighsThree cX0_weighsThree 8 (some Jvm.ClassFile.FieldType.boolean)) d [.ref (ad θ 0), .ref (ad θ p1), .ref (ad θ p2), .ref (ad θ p3), .ref (ad θ p4)] st (pI Φ, (exA Φa)) := by
  refine Ct_entry hl0 e_X0_weighsThree (Nat.le_of_ble_eq_true rfl) (fun κ hκ _ C => ?_)
  have hn : ∀ st r, Φ st r → ((pI Φ, (exA Φa)) : Ph).1 st (some (.int r)) := fun st r q => ⟨r, rfl, q⟩
  have ha : ∀ st q, Φa st → ((pI Φ, (exA Φa)) : Ph).2 st "java/lang/ArithmeticException" q := fun st q2 q => ⟨rfl, q⟩
  change X _ _ _ _ _ [(0, .ref (ad θ 0)), (1, .ref (ad θ p1)), (2, .ref (ad θ p2)), (3, .ref (ad θ p3)), (4, .ref (ad θ p4))] _
  unfold w_X0_weighsThree at h
  refine X_aload_n C dX0_weighsThree_0 rfl 2 rfl (isRV_r _) ?_
  refine X_aload_n C dX0_weighsThree_1 rfl 3 rfl (isRV_r _) ?_
  refine X_aload C dX0_weighsThree_2 4 rfl (isRV_r _) ?_
  refine X_callS (As := [_, _, _]) (rest := []) C q783 q784 q132 q785 nm_X0_cross rfl dX0_weighsThree_4 (m_X0_cross (Cx_l C) (d := d - 1) (by omega) st p2 p3 p4 hs_p2 hb_p2 hl_p2 hs_p3 hb_p3 hl_p3 hs_p4 hb_p4 hl_p4 h) (by omega) (by decide) (Nat.le_of_ble_eq_true rfl) (fun s7 w2 hE3 hP4 => ?_) (fun s8 E5 q6 hE3 hP4 => ?_)
  rotate_left
  · exact False.elim hP4
  obtain ⟨r1, rfl, rfl, h⟩ := hP4
  refine X_tls ?_
  refine X_istore C dX0_weighsThree_7 (lo2 := [(5, _), (0, _), (1, _), (2, _), (3, _), (4, _)]) (by decide) rfl ?_
  refine X_iload C dX0_weighsThree_9 0 rfl ?_
  refine X_if_ne (tgt := 16) C dX0_weighsThree_11 (by decide) (fun c9 => ?_) (fun c9 => ?_)
  · have h := h.1 c9
    refine X_aload_n C dX0_weighsThree_16 rfl 3 rfl (isRV_r _) ?_
    refine X_aload_n C dX0_weighsThree_17 rfl 2 rfl (isRV_r _) ?_
    refine X_aload C dX0_weighsThree_18 5 rfl (isRV_r _) ?_
    refine X_callS (As := [_, _, _]) (rest := []) C q783 q784 q132 q785 nm_X0_cross rfl dX0_weighsThree_20 (m_X0_cross (Cx_l C) (d := d - 1) (by omega) st p2 p1 p4 hs_p2 hb_p2 hl_p2 hs_p1 hb_p1 hl_p1 hs_p4 hb_p4 hl_p4 h) (by omega) (by decide) (Nat.le_of_ble_eq_true rfl) (fun s16 w11 hE12 hP13 => ?_) (fun s17 E14 q15 hE12 hP13 => ?_)
    rotate_left
    · exact False.elim hP13
    obtain ⟨r10, rfl, rfl, h⟩ := hP13
    refine X_tls ?_
    refine X_istore C dX0_weighsThree_23 (lo2 := [(6, _), (5, _), (0, _), (1, _), (2, _), (3, _), (4, _)]) (by decide) rfl ?_
    refine X_aload_n C dX0_weighsThree_25 rfl 4 rfl (isRV_r _) ?_
    refine X_aload_n C dX0_weighsThree_26 rfl 5 rfl (isRV_r _) ?_
    refine X_aload_n C dX0_weighsThree_27 rfl 3 rfl (isRV_r _) ?_
    refine X_callS (As := [_, _, _]) (rest := []) C q783 q784 q132 q785 nm_X0_cross rfl dX0_weighsThree_28 (m_X0_cross (Cx_l C) (d := d - 1) (by omega) st p2 p3 p1 hs_p2 hb_p2 hl_p2 hs_p3 hb_p3 hl_p3 hs_p1 hb_p1 hl_p1 h) (by omega) (by decide) (Nat.le_of_ble_eq_true rfl) (fun s24 w19 hE20 hP21 => ?_) (fun s25 E22 q23 hE20 hP21 => ?_)
    rotate_left
    · exact False.elim hP21
    obtain ⟨r18, rfl, rfl, h⟩ := hP21
    refine X_tls ?_
    refine X_istore C dX0_weighsThree_31 (lo2 := [(7, _), (6, _), (5, _), (0, _), (1, _), (2, _), (3, _), (4, _)]) (by decide) rfl ?_
    refine X_aload_n C dX0_weighsThree_33 rfl 3 rfl (isRV_r _) ?_
    refine X_getF (ci := 0) (j := 19) (q := (RX0, TX0, 49)) C rfl (by decide) q279 rfl dX0_weighsThree_34 (b := 134) (LX_S hX (k := 0) rfl) (LX_F hX (k := 0) (j := 19) rfl) rfl ?_
    refine X_iconst (v := 0) C dX0_weighsThree_37 rfl ?_
    refine X_aaldF C 9 rfl (LX_S hX (k := 134) rfl) (by decide) rfl (LX_L hX (k := 134) rfl) (vp_dec rfl) rfl (b := (164 + 2 * 0)) (LXf_weight hX (i := 0) (by decide)).2 dX0_weighsThree_38 rfl ?_
    refine X_iload C dX0_weighsThree_39 2 rfl ?_
    refine X_iload C dX0_weighsThree_41 1 rfl ?_
    refine X_isub C dX0_weighsThree_43 ?_
    refine X_iload C dX0_weighsThree_44 0 rfl ?_
    refine X_isub C dX0_weighsThree_46 ?_
    refine X_i2l C dX0_weighsThree_47 ?_
    refine X_iload C dX0_weighsThree_48 2 rfl ?_
    refine X_i2l C dX0_weighsThree_50 ?_
    refine X_sh (LXf_weight hX (i := 0) (by decide)).1 (by decide) (fun hs26 hb27 => ?_)
    refine X_callV (ci := 2) (q := (RX2, TX2, 2)) (As := [_, _]) (rest := []) C rfl hs26 q714 q715 q716 q134 q717 ⟨rfl, nm_X2_is⟩ rfl dX0_weighsThree_51 (m_X2_is (Cx_l C) (d := d - 1) (by omega) st (164 + 2 * 0) ((r1 - r10) - r18).toInt64 r1.toInt64 hs26 hb27 h) (by omega) (by decide) (Nat.le_of_ble_eq_true rfl) (fun s29 w30 hE31 hP32 => ?_) (fun s35 E33 q34 hE31 hP32 => ?_)
    rotate_left
    · rcases hP32 with ⟨rfl, h⟩
      exact XT_out C rfl (ha s35 q34 h)
    obtain ⟨r28, rfl, hb36, hs37, h⟩ := hP32
    refine X_tls ?_
    have hl_p1 := Ext_ln hE31 (by rw [hs_p1]; decide) hl_p1
    have hl_p2 := Ext_ln hE31 (by rw [hs_p2]; decide) hl_p2
    have hl_p3 := Ext_ln hE31 (by rw [hs_p3]; decide) hl_p3
    have hl_p4 := Ext_ln hE31 (by rw [hs_p4]; decide) hl_p4
    have hs_p1 := Ext_sh hE31 hs_p1 (by decide)
    have hs_p2 := Ext_sh hE31 hs_p2 (by decide)
    have hs_p3 := Ext_sh hE31 hs_p3 (by decide)
    have hs_p4 := Ext_sh hE31 hs_p4 (by decide)
    refine X_pop C dX0_weighsThree_54 rfl ?_
    refine X_aload_n C dX0_weighsThree_55 rfl 3 rfl (isRV_r _) ?_
    refine X_getF (ci := 0) (j := 19) (q := (RX0, TX0, 49)) C rfl (by decide) q279 rfl dX0_weighsThree_56 (b := 134) (LX_S hX (k := 0) rfl) (LX_F hX (k := 0) (j := 19) rfl) rfl ?_
    refine X_iconst (v := 1) C dX0_weighsThree_59 rfl ?_
    refine X_aaldF C 9 rfl (LX_S hX (k := 134) rfl) (by decide) rfl (LX_L hX (k := 134) rfl) (vp_dec rfl) rfl (b := (164 + 2 * 1)) (LXf_weight hX (i := 1) (by decide)).2 dX0_weighsThree_60 rfl ?_
    refine X_iload C dX0_weighsThree_61 1 rfl ?_
    refine X_i2l C dX0_weighsThree_63 ?_
    refine X_iload C dX0_weighsThree_64 2 rfl ?_
    refine X_i2l C dX0_weighsThree_66 ?_
    refine X_sh (LXf_weight hX (i := 1) (by decide)).1 (by decide) (fun hs38 hb39 => ?_)
    refine X_callV (ci := 2) (q := (RX2, TX2, 2)) (As := [_, _]) (rest := []) C rfl hs38 q714 q715 q716 q134 q717 ⟨rfl, nm_X2_is⟩ rfl dX0_weighsThree_67 (m_X2_is (Cx_l C) (d := d - 1) (by omega) s29 (164 + 2 * 1) r10.toInt64 r1.toInt64 hs38 hb39 h) (by omega) (by decide) (Nat.le_of_ble_eq_true rfl) (fun s41 w42 hE43 hP44 => ?_) (fun s47 E45 q46 hE43 hP44 => ?_)
    rotate_left
    · rcases hP44 with ⟨rfl, h⟩
      exact XT_out C rfl (ha s47 q46 h)
    obtain ⟨r40, rfl, hb48, hs49, h⟩ := hP44
    refine X_tls ?_
    have hl_p1 := Ext_ln hE43 (by rw [hs_p1]; decide) hl_p1
    have hl_p2 := Ext_ln hE43 (by rw [hs_p2]; decide) hl_p2
    have hl_p3 := Ext_ln hE43 (by rw [hs_p3]; decide) hl_p3
    have hl_p4 := Ext_ln hE43 (by rw [hs_p4]; decide) hl_p4
    have hs_p1 := Ext_sh hE43 hs_p1 (by decide)
    have hs_p2 := Ext_sh hE43 hs_p2 (by decide)
    have hs_p3 := Ext_sh hE43 hs_p3 (by decide)
    have hs_p4 := Ext_sh hE43 hs_p4 (by decide)
    have hs37 := Ext_sh hE43 hs37 (by decide)
    refine X_pop C dX0_weighsThree_70 rfl ?_
    refine X_aload_n C dX0_weighsThree_71 rfl 3 rfl (isRV_r _) ?_
    refine X_getF (ci := 0) (j := 19) (q := (RX0, TX0, 49)) C rfl (by decide) q279 rfl dX0_weighsThree_72 (b := 134) (LX_S hX (k := 0) rfl) (LX_F hX (k := 0) (j := 19) rfl) rfl ?_
    refine X_iconst (v := 2) C dX0_weighsThree_75 rfl ?_
    refine X_aaldF C 9 rfl (LX_S hX (k := 134) rfl) (by decide) rfl (LX_L hX (k := 134) rfl) (vp_dec rfl) rfl (b := (164 + 2 * 2)) (LXf_weight hX (i := 2) (by decide)).2 dX0_weighsThree_76 rfl ?_
    refine X_iload C dX0_weighsThree_77 0 rfl ?_
    refine X_i2l C dX0_weighsThree_79 ?_
    refine X_iload C dX0_weighsThree_80 2 rfl ?_
    refine X_i2l C dX0_weighsThree_82 ?_
    refine X_sh (LXf_weight hX (i := 2) (by decide)).1 (by decide) (fun hs50 hb51 => ?_)
    refine X_callV (ci := 2) (q := (RX2, TX2, 2)) (As := [_, _]) (rest := []) C rfl hs50 q714 q715 q716 q134 q717 ⟨rfl, nm_X2_is⟩ rfl dX0_weighsThree_83 (m_X2_is (Cx_l C) (d := d - 1) (by omega) s41 (164 + 2 * 2) r18.toInt64 r1.toInt64 hs50 hb51 h) (by omega) (by decide) (Nat.le_of_ble_eq_true rfl) (fun s53 w54 hE55 hP56 => ?_) (fun s59 E57 q58 hE55 hP56 => ?_)
    rotate_left
    · rcases hP56 with ⟨rfl, h⟩
      exact XT_out C rfl (ha s59 q58 h)
    obtain ⟨r52, rfl, hb60, hs61, h⟩ := hP56
    refine X_tls ?_
    have hl_p1 := Ext_ln hE55 (by rw [hs_p1]; decide) hl_p1
    have hl_p2 := Ext_ln hE55 (by rw [hs_p2]; decide) hl_p2
    have hl_p3 := Ext_ln hE55 (by rw [hs_p3]; decide) hl_p3
    have hl_p4 := Ext_ln hE55 (by rw [hs_p4]; decide) hl_p4
    have hs_p1 := Ext_sh hE55 hs_p1 (by decide)
    have hs_p2 := Ext_sh hE55 hs_p2 (by decide)
    have hs_p3 := Ext_sh hE55 hs_p3 (by decide)
    have hs_p4 := Ext_sh hE55 hs_p4 (by decide)
    have hs37 := Ext_sh hE55 hs37 (by decide)
    have hs49 := Ext_sh hE55 hs49 (by decide)
    refine X_pop C dX0_weighsThree_86 rfl ?_
    refine X_iconst (v := 1) C dX0_weighsThree_87 rfl ?_
    exact X_zret C rfl rfl dX0_weighsThree_88 (hn s53 _ h)
  · have h := h.2 c9
    refine X_iconst (v := 0) C dX0_weighsThree_14 rfl ?_
    exact X_zret C rfl rfl dX0_weighsThree_15 (hn st _ h)

def w_X0_weighs (st : St) (p1 : Int32) (p2 : Nat) (p3 : Int32) (Φ : St → Int32 → Prop) (Φa : St → Prop) : Prop := vp_in p1 15 ∧ ((p3 ≠ 1) → vp_in (sI st p2 0) 15 ∧ vp_in (sI st p2 1) 15 ∧ ((p3 ≠ 2) → vp_in (sI st p2 2) 15 ∧ w_X0_weighsThree st (2 + (16 + p1.toNatClampNeg)) (2 + (16 + (sI st p2 0).toNatClampNeg)) (2 + (16 + (sI st p2 1).toNatClampNeg)) (2 + (16 + (sI st p2 2).toNatClampNeg)) (fun (s20 : St) (r19 : Int32) => (r19 = 0 ∨ r19 = 1) ∧ Φ s20 r19) Φa) ∧ ((p3 = 2) → w_X0_weighsTwo st (2 + (16 + p1.toNatClampNeg)) (2 + (16 + (sI st p2 0).toNatClampNeg)) (2 + (16 + (sI st p2 1).toNatClampNeg)) (fun (s38 : St) (r37 : Int32) => (r37 = 0 ∨ r37 = 1) ∧ Φ s38 r37) Φa)) ∧ ((p3 = 1) → w_X2_is st (164 + 2 * 0) 1 1 (fun (s49 : St) (r48 : Nat) => (((sI s49 p2 0) ≠ p1) → Φ s49 0) ∧ (((sI s49 p2 0) = p1) → Φ s49 1)) Φa)
theorem nm_X0_weighs : yX0_weighs.cls ≠ "java/lang/invoke/MethodHandle" ∧ yX0_weighs.cls ≠ "java/lang/invoke/VarHandle" ∧ (parseMethodDescriptor yX0_weighs.desc).map (fun d => d.parameters.length) = some 3 := by decide +kernel
theorem e_X0_weighs : plainFor yX0_weighs = true := plainFor_of_name (by decide +kernel)
theorem m_X0_weighs {θ : Th} {l : Launch} (hl0 : l.stackTraces = false) (hX : LX θ) {d : Nat} (hd : 3 ≤ d) (st : St) (p1 : Int32) (p2 : Nat) (p3 : Int32) (hs_p2 : sh st p2 = 101) (hb_p2 : p2 < gBIG) (hl_p2 : ln st p2 = 3) {Φ : St → Int32 → Prop} {Φa : St → Prop} (h : w_X0_weighs st p1 p2 p3 Φ Φa) : Ct θ l yX0_weighs (ws_ yX0_weighs cX0_weighs 7 (some Jvm.ClassFile.FieldType.boolean)) d [.ref (ad θ 0), .int p1, .ref (ad θ p2), .int p3] st (pI Φ, (exA Φa)) := by
  refine Ct_entry hl0 e_X0_weighs (Nat.le_of_ble_eq_true rfl) (fun κ hκ _ C => ?_)
  have hn : ∀ st r, Φ st r → ((pI Φ, (exA Φa)) : Ph).1 st (some (.int r)) := fun st r q => ⟨r, rfl, q⟩
  have ha : ∀ st q, Φa st → ((pI Φ, (exA Φa)) : Ph).2 st "java/lang/ArithmeticException" q := fun st q2 q => ⟨rfl, q⟩
  change X _ _ _ _ _ [(0, .ref (ad θ 0)), (1, .int p1), (2, .ref (ad θ p2)), (3, .int p3)] _
  unfold w_X0_weighs at h
  refine X_aload_n C dX0_weighs_0 rfl 0 rfl (isRV_r _) ?_
  refine X_getF (ci := 0) (j := 1) (q := (RX0, TX0, 49)) C rfl (by decide) q261 rfl dX0_weighs_1 (b := 2) (LX_S hX (k := 0) rfl) (LX_F hX (k := 0) (j := 1) rfl) rfl ?_
  refine X_getNF (ci := 1) (j := 8) (q := (RX1, TX1, 10)) C rfl (by decide) q205 rfl dX0_weighs_4 (b := (2 + 15)) (LH_0 (LX_H2 hX)) (LH_F (LX_H2 hX) (k := 0) (j := 8) rfl) rfl ?_
  refine X_iload_n C dX0_weighs_7 rfl 1 rfl ?_
  have g1 := h.1
  have h := h.2
  refine X_aaldF C 6 rfl (LH_S (LX_H2 hX) (k := 15) rfl) (by decide) rfl (LH_L (LX_H2 hX) (k := 15) rfl) g1 rfl (b := (2 + (16 + p1.toNatClampNeg))) (LHf_give (LX_H2 hX) (i := p1.toNatClampNeg) (in_lt g1)).2.2 dX0_weighs_8 rfl ?_
  refine X_astore C dX0_weighs_9 (isRV_r _) (lo2 := [(4, _), (0, _), (1, _), (2, _), (3, _)]) (by decide) rfl ?_
  refine X_iload_n C dX0_weighs_11 rfl 4 rfl ?_
  refine X_iconst (v := 1) C dX0_weighs_12 rfl ?_
  refine X_icmp_ne (tgt := 41) C dX0_weighs_13 (by decide) (fun c2 => ?_) (fun c2 => ?_)
  · have h := h.1 c2
    refine X_aload_n C dX0_weighs_41 rfl 1 rfl (isRV_r _) ?_
    refine X_getF (ci := 0) (j := 1) (q := (RX0, TX0, 49)) C rfl (by decide) q261 rfl dX0_weighs_42 (b := 2) (LX_S hX (k := 0) rfl) (LX_F hX (k := 0) (j := 1) rfl) rfl ?_
    refine X_getNF (ci := 1) (j := 8) (q := (RX1, TX1, 10)) C rfl (by decide) q205 rfl dX0_weighs_45 (b := (2 + 15)) (LH_0 (LX_H2 hX)) (LH_F (LX_H2 hX) (k := 0) (j := 8) rfl) rfl ?_
    refine X_aload_n C dX0_weighs_48 rfl 3 rfl (isRV_r _) ?_
    refine X_iconst (v := 0) C dX0_weighs_49 rfl ?_
    refine X_ialdD C hs_p2 hl_p2 (vp_dec rfl) rfl dX0_weighs_50 ?_
    have g3 := h.1
    have h := h.2
    refine X_aaldF C 6 rfl (LH_S (LX_H2 hX) (k := 15) rfl) (by decide) rfl (LH_L (LX_H2 hX) (k := 15) rfl) g3 rfl (b := (2 + (16 + (sI st p2 0).toNatClampNeg))) (LHf_give (LX_H2 hX) (i := (sI st p2 0).toNatClampNeg) (in_lt g3)).2.2 dX0_weighs_51 rfl ?_
    refine X_astore C dX0_weighs_52 (isRV_r _) (lo2 := [(5, _), (4, _), (0, _), (1, _), (2, _), (3, _)]) (by decide) rfl ?_
    refine X_aload_n C dX0_weighs_54 rfl 2 rfl (isRV_r _) ?_
    refine X_getF (ci := 0) (j := 1) (q := (RX0, TX0, 49)) C rfl (by decide) q261 rfl dX0_weighs_55 (b := 2) (LX_S hX (k := 0) rfl) (LX_F hX (k := 0) (j := 1) rfl) rfl ?_
    refine X_getNF (ci := 1) (j := 8) (q := (RX1, TX1, 10)) C rfl (by decide) q205 rfl dX0_weighs_58 (b := (2 + 15)) (LH_0 (LX_H2 hX)) (LH_F (LX_H2 hX) (k := 0) (j := 8) rfl) rfl ?_
    refine X_aload_n C dX0_weighs_61 rfl 4 rfl (isRV_r _) ?_
    refine X_iconst (v := 1) C dX0_weighs_62 rfl ?_
    refine X_ialdD C hs_p2 hl_p2 (vp_dec rfl) rfl dX0_weighs_63 ?_
    have g4 := h.1
    have h := h.2
    refine X_aaldF C 6 rfl (LH_S (LX_H2 hX) (k := 15) rfl) (by decide) rfl (LH_L (LX_H2 hX) (k := 15) rfl) g4 rfl (b := (2 + (16 + (sI st p2 1).toNatClampNeg))) (LHf_give (LX_H2 hX) (i := (sI st p2 1).toNatClampNeg) (in_lt g4)).2.2 dX0_weighs_64 rfl ?_
    refine X_astore C dX0_weighs_65 (isRV_r _) (lo2 := [(6, _), (5, _), (4, _), (0, _), (1, _), (2, _), (3, _)]) (by decide) rfl ?_
    refine X_iload_n C dX0_weighs_67 rfl 6 rfl ?_
    refine X_iconst (v := 2) C dX0_weighs_68 rfl ?_
    refine X_icmp_ne (tgt := 85) C dX0_weighs_69 (by decide) (fun c5 => ?_) (fun c5 => ?_)
    · have h := h.1 c5
      refine X_aload_n C dX0_weighs_85 rfl 3 rfl (isRV_r _) ?_
      refine X_aload C dX0_weighs_86 2 rfl (isRV_r _) ?_
      refine X_aload C dX0_weighs_88 1 rfl (isRV_r _) ?_
      refine X_aload C dX0_weighs_90 0 rfl (isRV_r _) ?_
      refine X_aload_n C dX0_weighs_92 rfl 3 rfl (isRV_r _) ?_
      refine X_getF (ci := 0) (j := 1) (q := (RX0, TX0, 49)) C rfl (by decide) q261 rfl dX0_weighs_93 (b := 2) (LX_S hX (k := 0) rfl) (LX_F hX (k := 0) (j := 1) rfl) rfl ?_
      refine X_getNF (ci := 1) (j := 8) (q := (RX1, TX1, 10)) C rfl (by decide) q205 rfl dX0_weighs_96 (b := (2 + 15)) (LH_0 (LX_H2 hX)) (LH_F (LX_H2 hX) (k := 0) (j := 8) rfl) rfl ?_
      refine X_aload_n C dX0_weighs_99 rfl 5 rfl (isRV_r _) ?_
      refine X_iconst (v := 2) C dX0_weighs_100 rfl ?_
      refine X_ialdD C hs_p2 hl_p2 (vp_dec rfl) rfl dX0_weighs_101 ?_
      have g6 := h.1
      have h := h.2
      refine X_aaldF C 6 rfl (LH_S (LX_H2 hX) (k := 15) rfl) (by decide) rfl (LH_L (LX_H2 hX) (k := 15) rfl) g6 rfl (b := (2 + (16 + (sI st p2 2).toNatClampNeg))) (LHf_give (LX_H2 hX) (i := (sI st p2 2).toNatClampNeg) (in_lt g6)).2.2 dX0_weighs_102 rfl ?_
      refine X_shl (LHf_give (LX_H2 hX) (i := p1.toNatClampNeg) (in_lt g1)).1 (by decide) (LHf_give (LX_H2 hX) (i := p1.toNatClampNeg) (in_lt g1)).2.1 (fun hs7 hl9 hb8 => ?_)
      refine X_shl (LHf_give (LX_H2 hX) (i := (sI st p2 0).toNatClampNeg) (in_lt g3)).1 (by decide) (LHf_give (LX_H2 hX) (i := (sI st p2 0).toNatClampNeg) (in_lt g3)).2.1 (fun hs10 hl12 hb11 => ?_)
      refine X_shl (LHf_give (LX_H2 hX) (i := (sI st p2 1).toNatClampNeg) (in_lt g4)).1 (by decide) (LHf_give (LX_H2 hX) (i := (sI st p2 1).toNatClampNeg) (in_lt g4)).2.1 (fun hs13 hl15 hb14 => ?_)
      refine X_shl (LHf_give (LX_H2 hX) (i := (sI st p2 2).toNatClampNeg) (in_lt g6)).1 (by decide) (LHf_give (LX_H2 hX) (i := (sI st p2 2).toNatClampNeg) (in_lt g6)).2.1 (fun hs16 hl18 hb17 => ?_)
      refine X_callVS (ci := 0) (q := (RX0, TX0, 49)) (As := [_, _, _, _]) (rest := []) C rfl (LX_S hX (k := 0) rfl) q779 q781 qs20 q132 q782 ⟨rfl, nm_X0_weighsThree⟩ rfl dX0_weighs_103 (m_X0_weighsThree (Cx_l C) hX (d := d - 1) (by omega) st (2 + (16 + p1.toNatClampNeg)) (2 + (16 + (sI st p2 0).toNatClampNeg)) (2 + (16 + (sI st p2 1).toNatClampNeg)) (2 + (16 + (sI st p2 2).toNatClampNeg)) hs7 hb8 hl9 hs10 hb11 hl12 hs13 hb14 hl15 hs16 hb17 hl18 h) (by omega) (by decide) (Nat.le_of_ble_eq_true rfl) (fun s20 w21 hE22 hP23 => ?_) (fun s26 E24 q25 hE22 hP23 => ?_)
      rotate_left
      · rcases hP23 with ⟨rfl, h⟩
        exact XT_out C rfl (ha s26 q25 h)
      obtain ⟨r19, rfl, h⟩ := hP23
      refine X_tls ?_
      have hl_p2 := Ext_ln hE22 (by rw [hs_p2]; decide) hl_p2
      have hs_p2 := Ext_sh hE22 hs_p2 (by decide)
      have g27 := h.1
      have h := h.2
      exact X_zret C rfl (nb_01 g27).1 dX0_weighs_106 (hn s20 _ h)
    · have h := h.2 c5
      refine X_aload_n C dX0_weighs_72 rfl 3 rfl (isRV_r _) ?_
      refine X_aload C dX0_weighs_73 2 rfl (isRV_r _) ?_
      refine X_aload C dX0_weighs_75 1 rfl (isRV_r _) ?_
      refine X_aload C dX0_weighs_77 0 rfl (isRV_r _) ?_
      refine X_shl (LHf_give (LX_H2 hX) (i := p1.toNatClampNeg) (in_lt g1)).1 (by decide) (LHf_give (LX_H2 hX) (i := p1.toNatClampNeg) (in_lt g1)).2.1 (fun hs28 hl30 hb29 => ?_)
      refine X_shl (LHf_give (LX_H2 hX) (i := (sI st p2 0).toNatClampNeg) (in_lt g3)).1 (by decide) (LHf_give (LX_H2 hX) (i := (sI st p2 0).toNatClampNeg) (in_lt g3)).2.1 (fun hs31 hl33 hb32 => ?_)
      refine X_shl (LHf_give (LX_H2 hX) (i := (sI st p2 1).toNatClampNeg) (in_lt g4)).1 (by decide) (LHf_give (LX_H2 hX) (i := (sI st p2 1).toNatClampNeg) (in_lt g4)).2.1 (fun hs34 hl36 hb35 => ?_)
      refine X_callVS (ci := 0) (q := (RX0, TX0, 49)) (As := [_, _, _]) (rest := []) C rfl (LX_S hX (k := 0) rfl) q775 q777 qs19 q132 q778 ⟨rfl, nm_X0_weighsTwo⟩ rfl dX0_weighs_79 (m_X0_weighsTwo (Cx_l C) hX (d := d - 1) (by omega) st (2 + (16 + p1.toNatClampNeg)) (2 + (16 + (sI st p2 0).toNatClampNeg)) (2 + (16 + (sI st p2 1).toNatClampNeg)) hs28 hb29 hl30 hs31 hb32 hl33 hs34 hb35 hl36 h) (by omega) (by decide) (Nat.le_of_ble_eq_true rfl) (fun s38 w39 hE40 hP41 => ?_) (fun s44 E42 q43 hE40 hP41 => ?_)
      rotate_left
      · rcases hP41 with ⟨rfl, h⟩
        exact XT_out C rfl (ha s44 q43 h)
      obtain ⟨r37, rfl, h⟩ := hP41
      refine X_tls ?_
      have hl_p2 := Ext_ln hE40 (by rw [hs_p2]; decide) hl_p2
      have hs_p2 := Ext_sh hE40 hs_p2 (by decide)
      refine X_goto (tgt := 106) C dX0_weighs_82 (by decide) ?_
      have g45 := h.1
      have h := h.2
      exact X_zret C rfl (nb_01 g45).1 dX0_weighs_106 (hn s38 _ h)
  · have h := h.2 c2
    refine X_aload_n C dX0_weighs_16 rfl 1 rfl (isRV_r _) ?_
    refine X_getF (ci := 0) (j := 19) (q := (RX0, TX0, 49)) C rfl (by decide) q279 rfl dX0_weighs_17 (b := 134) (LX_S hX (k := 0) rfl) (LX_F hX (k := 0) (j := 19) rfl) rfl ?_
    refine X_iconst (v := 0) C dX0_weighs_20 rfl ?_
    refine X_aaldF C 9 rfl (LX_S hX (k := 134) rfl) (by decide) rfl (LX_L hX (k := 134) rfl) (vp_dec rfl) rfl (b := (164 + 2 * 0)) (LXf_weight hX (i := 0) (by decide)).2 dX0_weighs_21 rfl ?_
    refine X_lconst (v := 1) C dX0_weighs_22 rfl ?_
    refine X_lconst (v := 1) C dX0_weighs_23 rfl ?_
    refine X_sh (LXf_weight hX (i := 0) (by decide)).1 (by decide) (fun hs46 hb47 => ?_)
    refine X_callV (ci := 2) (q := (RX2, TX2, 2)) (As := [_, _]) (rest := []) C rfl hs46 q714 q715 q716 q134 q717 ⟨rfl, nm_X2_is⟩ rfl dX0_weighs_24 (m_X2_is (Cx_l C) (d := d - 1) (by omega) st (164 + 2 * 0) 1 1 hs46 hb47 h) (by omega) (by decide) (Nat.le_of_ble_eq_true rfl) (fun s49 w50 hE51 hP52 => ?_) (fun s55 E53 q54 hE51 hP52 => ?_)
    rotate_left
    · rcases hP52 with ⟨rfl, h⟩
      exact XT_out C rfl (ha s55 q54 h)
    obtain ⟨r48, rfl, hb56, hs57, h⟩ := hP52
    refine X_tls ?_
    have hl_p2 := Ext_ln hE51 (by rw [hs_p2]; decide) hl_p2
    have hs_p2 := Ext_sh hE51 hs_p2 (by decide)
    refine X_pop C dX0_weighs_27 rfl ?_
    refine X_aload_n C dX0_weighs_28 rfl 3 rfl (isRV_r _) ?_
    refine X_iconst (v := 0) C dX0_weighs_29 rfl ?_
    refine X_ialdD C hs_p2 hl_p2 (vp_dec rfl) rfl dX0_weighs_30 ?_
    refine X_iload_n C dX0_weighs_31 rfl 2 rfl ?_
    refine X_icmp_ne (tgt := 39) C dX0_weighs_32 (by decide) (fun c58 => ?_) (fun c58 => ?_)
    · have h := h.1 c58
      refine X_iconst (v := 0) C dX0_weighs_39 rfl ?_
      exact X_zret C rfl rfl dX0_weighs_40 (hn s49 _ h)
    · have h := h.2 c58
      refine X_iconst (v := 1) C dX0_weighs_35 rfl ?_
      refine X_goto (tgt := 40) C dX0_weighs_36 (by decide) ?_
      exact X_zret C rfl rfl dX0_weighs_40 (hn s49 _ h)

def w_X0_splits_l12 (Φ : St → Int32 → Prop) (Φa : St → Prop) (E41 : St → Int32 → Prop) : Nat → St → Int32 → Int32 → Int32 → Prop
  | 0, _, _, _, _ => False
  | n + 1, st, x3, x4, x5 => ((x3 ≤ x5) → E41 st x4) ∧ ((¬ x3 ≤ x5) → ((x4 = 0) → E41 st x4) ∧ ((¬ x4 = 0) → vp_in x5 3 ∧ w_X2_isAbove st (164 + 2 * x5.toNatClampNeg) (fun (r14 : Int32) => w_X0_splits_l12 Φ Φa E41 n st x3 r14 (x5 + 1))))
theorem t_X0_splits_l12 {θ : Th} {κ : Kx} {Ph : Ph} (hX : LX θ) {d : Nat} (hd : 4 ≤ d) (C : Cx θ κ yX0_splits cX0_splits 6 (some Jvm.ClassFile.FieldType.boolean) [] d) {Φ : St → Int32 → Prop} {Φa : St → Prop} (hn : ∀ st r, Φ st r → Ph.1 st (some (.int r))) (ha : ∀ st q, Φa st → Ph.2 st "java/lang/ArithmeticException" q) {E41 : St → Int32 → Prop} (hE41 : ∀ (st : St) (x4 : Int32), E41 st x4 → X θ κ Ph st 41 [(4, .int x4)] []) : ∀ (n : Nat) (st : St) (x3 : Int32) (x4 : Int32) (x5 : Int32), w_X0_splits_l12 Φ Φa E41 n st x3 x4 x5 → X θ κ Ph st 12 [(0, .ref (ad θ 0)), (3, .int x3), (4, .int x4), (5, .int x5)] [] := by
  intro n
  induction n with
  | zero => intro st x3 x4 x5 h; exact h.elim
  | succ n hK12 =>
    intro st x3 x4 x5 h
    rw [w_X0_splits_l12] at h
    refine X_iload C dX0_splits_12 3 rfl ?_
    refine X_iload_n C dX0_splits_14 rfl 1 rfl ?_
    refine X_icmp_ge (tgt := 41) C dX0_splits_15 (by decide) (fun c9 => ?_) (fun c9 => ?_)
    · have h := h.1 c9
      refine X_sub [2] (lo2 := [(4, _)]) rfl ?_
      exact hE41 st x4 h
    · have h := h.2 c9
      refine X_iload C dX0_splits_18 2 rfl ?_
      refine X_if_eq (tgt := 41) C dX0_splits_20 (by decide) (fun c10 => ?_) (fun c10 => ?_)
      · have h := h.1 c10
        refine X_sub [2] (lo2 := [(4, _)]) rfl ?_
        exact hE41 st x4 h
      · have h := h.2 c10
        refine X_aload_n C dX0_splits_23 rfl 0 rfl (isRV_r _) ?_
        refine X_getF (ci := 0) (j := 19) (q := (RX0, TX0, 49)) C rfl (by decide) q279 rfl dX0_splits_24 (b := 134) (LX_S hX (k := 0) rfl) (LX_F hX (k := 0) (j := 19) rfl) rfl ?_
        refine X_iload C dX0_splits_27 3 rfl ?_
        have g11 := h.1
        have h := h.2
        refine X_aaldF C 9 rfl (LX_S hX (k := 134) rfl) (by decide) rfl (LX_L hX (k := 134) rfl) g11 rfl (b := (164 + 2 * x5.toNatClampNeg)) (LXf_weight hX (i := x5.toNatClampNeg) (in_lt g11)).2 dX0_splits_29 rfl ?_
        refine X_sh (LXf_weight hX (i := x5.toNatClampNeg) (in_lt g11)).1 (by decide) (fun hs12 hb13 => ?_)
        refine X_callV (ci := 2) (q := (RX2, TX2, 2)) (As := []) (rest := []) C rfl hs12 q786 q787 q788 q134 q789 ⟨rfl, nm_X2_isAbove⟩ rfl dX0_splits_30 (m_X2_isAbove (Cx_l C) (d := d - 1) (by omega) st (164 + 2 * x5.toNatClampNeg) hs12 hb13 h) (by omega) (by decide) (Nat.le_of_ble_eq_true rfl) (fun s20 w15 hE16 hP17 => ?_) (fun s21 E18 q19 hE16 hP17 => ?_)
        rotate_left
        · exact False.elim hP17
        obtain ⟨r14, rfl, rfl, h⟩ := hP17
        refine X_tls ?_
        refine X_istore C dX0_splits_33 (lo2 := [(4, _), (0, _), (3, _), (5, _)]) (by decide) rfl ?_
        refine X_iinc (v := (x5 + 1)) C (j := 3) dX0_splits_35 rfl rfl (lo2 := [(5, _), (4, _), (0, _), (3, _)]) (by decide) rfl ?_
        refine X_goto (tgt := 12) C dX0_splits_38 (by decide) ?_
        refine X_sub [2, 3, 1, 0] (lo2 := [(0, _), (3, _), (4, _), (5, _)]) rfl ?_
        exact hK12 st x3 r14 (x5 + 1) h
def w_X0_splits_b41 (Φ : St → Int32 → Prop) (Φa : St → Prop) (st : St) (x4 : Int32) : Prop := (x4 = 0 ∨ x4 = 1) ∧ Φ st x4
theorem t_X0_splits_b41 {θ : Th} {κ : Kx} {Ph : Ph} (hX : LX θ) {d : Nat} (hd : 4 ≤ d) (C : Cx θ κ yX0_splits cX0_splits 6 (some Jvm.ClassFile.FieldType.boolean) [] d) {Φ : St → Int32 → Prop} {Φa : St → Prop} (hn : ∀ st r, Φ st r → Ph.1 st (some (.int r))) (ha : ∀ st q, Φa st → Ph.2 st "java/lang/ArithmeticException" q) (st : St) (x4 : Int32) (h : w_X0_splits_b41 Φ Φa st x4) : X θ κ Ph st 41 [(4, .int x4)] [] := by
  unfold w_X0_splits_b41 at h
  refine X_iload C dX0_splits_41 0 rfl ?_
  have g23 := h.1
  have h := h.2
  exact X_zret C rfl (nb_01 g23).1 dX0_splits_43 (hn st _ h)
def w_X0_splits (st : St) (p1 : Int32) (p2 : Nat) (p3 : Int32) (Φ : St → Int32 → Prop) (Φa : St → Prop) : Prop := w_X0_weighs st p1 p2 p3 (fun (s2 : St) (r1 : Int32) => w_X0_splits_l12 Φ Φa (fun (s22 : St) (x4 : Int32) => w_X0_splits_b41 Φ Φa s22 x4) gFU s2 p3 r1 0) Φa
theorem nm_X0_splits : yX0_splits.cls ≠ "java/lang/invoke/MethodHandle" ∧ yX0_splits.cls ≠ "java/lang/invoke/VarHandle" ∧ (parseMethodDescriptor yX0_splits.desc).map (fun d => d.parameters.length) = some 3 := by decide +kernel
theorem e_X0_splits : plainFor yX0_splits = true := plainFor_of_name (by decide +kernel)
theorem m_X0_splits {θ : Th} {l : Launch} (hl0 : l.stackTraces = false) (hX : LX θ) {d : Nat} (hd : 4 ≤ d) (st : St) (p1 : Int32) (p2 : Nat) (p3 : Int32) (hs_p2 : sh st p2 = 101) (hb_p2 : p2 < gBIG) (hl_p2 : ln st p2 = 3) {Φ : St → Int32 → Prop} {Φa : St → Prop} (h : w_X0_splits st p1 p2 p3 Φ Φa) : Ct θ l yX0_splits (ws_ yX0_splits cX0_splits 6 (some Jvm.ClassFile.FieldType.boolean)) d [.ref (ad θ 0), .int p1, .ref (ad θ p2), .int p3] st (pI Φ, (exA Φa)) := by
  refine Ct_entry hl0 e_X0_splits (Nat.le_of_ble_eq_true rfl) (fun κ hκ _ C => ?_)
  have hn : ∀ st r, Φ st r → ((pI Φ, (exA Φa)) : Ph).1 st (some (.int r)) := fun st r q => ⟨r, rfl, q⟩
  have ha : ∀ st q, Φa st → ((pI Φ, (exA Φa)) : Ph).2 st "java/lang/ArithmeticException" q := fun st q2 q => ⟨rfl, q⟩
  change X _ _ _ _ _ [(0, .ref (ad θ 0)), (1, .int p1), (2, .ref (ad θ p2)), (3, .int p3)] _
  unfold w_X0_splits at h
  refine X_aload_n C dX0_splits_0 rfl 0 rfl (isRV_r _) ?_
  refine X_iload_n C dX0_splits_1 rfl 1 rfl ?_
  refine X_aload_n C dX0_splits_2 rfl 2 rfl (isRV_r _) ?_
  refine X_iload_n C dX0_splits_3 rfl 3 rfl ?_
  refine X_callVS (ci := 0) (q := (RX0, TX0, 49)) (As := [_, _, _]) (rest := []) C rfl (LX_S hX (k := 0) rfl) q771 q773 qs18 q132 q774 ⟨rfl, nm_X0_weighs⟩ rfl dX0_splits_4 (m_X0_weighs (Cx_l C) hX (d := d - 1) (by omega) st p1 p2 p3 hs_p2 hb_p2 hl_p2 h) (by omega) (by decide) (Nat.le_of_ble_eq_true rfl) (fun s2 w3 hE4 hP5 => ?_) (fun s8 E6 q7 hE4 hP5 => ?_)
  rotate_left
  · rcases hP5 with ⟨rfl, h⟩
    exact XT_out C rfl (ha s8 q7 h)
  obtain ⟨r1, rfl, h⟩ := hP5
  refine X_tls ?_
  have hl_p2 := Ext_ln hE4 (by rw [hs_p2]; decide) hl_p2
  have hs_p2 := Ext_sh hE4 hs_p2 (by decide)
  refine X_istore C dX0_splits_7 (lo2 := [(4, _), (0, _), (1, _), (2, _), (3, _)]) (by decide) rfl ?_
  refine X_iconst (v := 0) C dX0_splits_9 rfl ?_
  refine X_istore C dX0_splits_10 (lo2 := [(5, _), (4, _), (0, _), (1, _), (2, _), (3, _)]) (by decide) rfl ?_
  refine X_sub [2, 5, 1, 0] (lo2 := [(0, _), (3, _), (4, _), (5, _)]) rfl ?_
  refine t_X0_splits_l12 hX hd C hn ha ?_ gFU s2 p3 r1 0 h
  · intro s22 x4 h
    exact t_X0_splits_b41 hX hd C hn ha s22 x4 h

def w_X0_allWorths_l2 (Φ : St → Prop) (Φw : St → Nat → Prop) (Φa : St → Prop) (E25 : St → Prop) : Nat → St → Int32 → Prop
  | 0, _, _ => False
  | n + 1, st, x1 => (((sI st 2 9) ≤ x1) → E25 st) ∧ ((¬ (sI st 2 9) ≤ x1) → w_X0_worthOf st x1 (fun (s3 : St) (r2 : Nat) => w_X0_allWorths_l2 Φ Φw Φa E25 n s3 (x1 + 1)) Φw Φa)
theorem t_X0_allWorths_l2 {θ : Th} {κ : Kx} {Ph : Ph} (hX : LX θ) {d : Nat} (hd : 6 ≤ d) (C : Cx θ κ yX0_allWorths cX0_allWorths 3 (none : Option Jvm.ClassFile.FieldType) [] d) {Φ : St → Prop} {Φw : St → Nat → Prop} {Φa : St → Prop} (hn : ∀ st, Φ st → Ph.1 st none) (hw : ∀ st a, a < gBIG → sh st a = 6 → Φw st a → Ph.2 st "SecretsWorth$Wrong" (ad θ a)) (ha : ∀ st q, Φa st → Ph.2 st "java/lang/ArithmeticException" q) {E25 : St → Prop} (hE25 : ∀ (st : St), E25 st → X θ κ Ph st 25 [] []) : ∀ (n : Nat) (st : St) (x1 : Int32), w_X0_allWorths_l2 Φ Φw Φa E25 n st x1 → X θ κ Ph st 2 [(0, .ref (ad θ 0)), (1, .int x1)] [] := by
  intro n
  induction n with
  | zero => intro st x1 h; exact h.elim
  | succ n hK2 =>
    intro st x1 h
    rw [w_X0_allWorths_l2] at h
    refine X_iload_n C dX0_allWorths_2 rfl 1 rfl ?_
    refine X_aload_n C dX0_allWorths_3 rfl 0 rfl (isRV_r _) ?_
    refine X_getF (ci := 0) (j := 1) (q := (RX0, TX0, 49)) C rfl (by decide) q261 rfl dX0_allWorths_4 (b := 2) (LX_S hX (k := 0) rfl) (LX_F hX (k := 0) (j := 1) rfl) rfl ?_
    refine X_getNS (ci := 1) (j := 9) (q := (RX1, TX1, 10)) C rfl (by decide) q207 rfl dX0_allWorths_7 (LH_0 (LX_H2 hX)) (v := .int (sI st 2 9)) rfl ?_
    refine X_icmp_ge (tgt := 25) C dX0_allWorths_10 (by decide) (fun c1 => ?_) (fun c1 => ?_)
    · have h := h.1 c1
      refine X_sub [] (lo2 := []) rfl ?_
      exact hE25 st h
    · have h := h.2 c1
      refine X_aload_n C dX0_allWorths_13 rfl 0 rfl (isRV_r _) ?_
      refine X_iload_n C dX0_allWorths_14 rfl 1 rfl ?_
      refine X_callVS (ci := 0) (q := (RX0, TX0, 49)) (As := [_]) (rest := []) C rfl (LX_S hX (k := 0) rfl) q661 q663 qs5 q132 q664 ⟨rfl, nm_X0_worthOf⟩ rfl dX0_allWorths_15 (m_X0_worthOf (Cx_l C) hX (d := d - 1) (by omega) st x1 h) (by omega) (by decide) (Nat.le_of_ble_eq_true rfl) (fun s3 w4 hE5 hP6 => ?_) (fun s9 E7 q8 hE5 hP6 => ?_)
      rotate_left
      · rcases hP6 with ⟨rfl, a_, rfl, hb_, hs_, h⟩ | ⟨rfl, h⟩
        · exact XT_out C rfl (hw s9 a_ hb_ hs_ h)
        · exact XT_out C rfl (ha s9 q8 h)
      obtain ⟨r2, rfl, hb10, hs11, h⟩ := hP6
      refine X_tls ?_
      refine X_astore_n C dX0_allWorths_18 rfl (isRV_r _) (lo2 := [(2, _), (0, _), (1, _)]) (by decide) rfl ?_
      refine X_iinc (v := (x1 + 1)) C (j := 2) dX0_allWorths_19 rfl rfl (lo2 := [(1, _), (2, _), (0, _)]) (by decide) rfl ?_
      refine X_goto (tgt := 2) C dX0_allWorths_22 (by decide) ?_
      refine X_sub [2, 0] (lo2 := [(0, _), (1, _)]) rfl ?_
      exact hK2 s3 (x1 + 1) h
def w_X0_allWorths_b25 (Φ : St → Prop) (Φw : St → Nat → Prop) (Φa : St → Prop) (st : St) : Prop := Φ st
theorem t_X0_allWorths_b25 {θ : Th} {κ : Kx} {Ph : Ph} (hX : LX θ) {d : Nat} (hd : 6 ≤ d) (C : Cx θ κ yX0_allWorths cX0_allWorths 3 (none : Option Jvm.ClassFile.FieldType) [] d) {Φ : St → Prop} {Φw : St → Nat → Prop} {Φa : St → Prop} (hn : ∀ st, Φ st → Ph.1 st none) (hw : ∀ st a, a < gBIG → sh st a = 6 → Φw st a → Ph.2 st "SecretsWorth$Wrong" (ad θ a)) (ha : ∀ st q, Φa st → Ph.2 st "java/lang/ArithmeticException" q) (st : St) (h : w_X0_allWorths_b25 Φ Φw Φa st) : X θ κ Ph st 25 [] [] := by
  unfold w_X0_allWorths_b25 at h
  exact X_vret C rfl dX0_allWorths_25 (hn st h)
def w_X0_allWorths (st : St) (Φ : St → Prop) (Φw : St → Nat → Prop) (Φa : St → Prop) : Prop := w_X0_allWorths_l2 Φ Φw Φa (fun (s12 : St) => w_X0_allWorths_b25 Φ Φw Φa s12) gFU st 0
theorem nm_X0_allWorths : yX0_allWorths.cls ≠ "java/lang/invoke/MethodHandle" ∧ yX0_allWorths.cls ≠ "java/lang/invoke/VarHandle" ∧ (parseMethodDescriptor yX0_allWorths.desc).map (fun d => d.parameters.length) = some 0 := by decide +kernel
theorem e_X0_allWorths : plainFor yX0_allWorths = true := plainFor_of_name (by decide +kernel)
theorem m_X0_allWorths {θ : Th} {l : Launch} (hl0 : l.stackTraces = false) (hX : LX θ) {d : Nat} (hd : 6 ≤ d) (st : St) {Φ : St → Prop} {Φw : St → Nat → Prop} {Φa : St → Prop} (h : w_X0_allWorths st Φ Φw Φa) : Ct θ l yX0_allWorths (ws_ yX0_allWorths cX0_allWorths 3 (none : Option Jvm.ClassFile.FieldType)) d [.ref (ad θ 0)] st (pV Φ, (exOr (exW θ Φw) (exA Φa))) := by
  refine Ct_entry hl0 e_X0_allWorths (Nat.le_of_ble_eq_true rfl) (fun κ hκ _ C => ?_)
  have hn : ∀ st, Φ st → ((pV Φ, (exOr (exW θ Φw) (exA Φa))) : Ph).1 st none := fun st q => ⟨rfl, q⟩
  have hw : ∀ st a, a < gBIG → sh st a = 6 → Φw st a → ((pV Φ, (exOr (exW θ Φw) (exA Φa))) : Ph).2 st "SecretsWorth$Wrong" (ad θ a) := fun st a q1 q2 q => Or.inl ⟨rfl, a, rfl, q1, q2, q⟩
  have ha : ∀ st q, Φa st → ((pV Φ, (exOr (exW θ Φw) (exA Φa))) : Ph).2 st "java/lang/ArithmeticException" q := fun st q2 q => Or.inr (⟨rfl, q⟩)
  change X _ _ _ _ _ [(0, .ref (ad θ 0))] _
  unfold w_X0_allWorths at h
  refine X_iconst (v := 0) C dX0_allWorths_0 rfl ?_
  refine X_istore_n C dX0_allWorths_1 rfl (lo2 := [(1, _), (0, _)]) (by decide) rfl ?_
  refine X_sub [1, 0] (lo2 := [(0, _), (1, _)]) rfl ?_
  refine t_X0_allWorths_l2 hX hd C hn hw ha ?_ gFU st 0 h
  · intro s12 h
    exact t_X0_allWorths_b25 hX hd C hn hw ha s12 h

def w_X0_mixes_l14 (Φ : St → Nat → Prop) (Φa : St → Prop) (E75 : St → Prop) : Nat → St → Nat → Int32 → Int32 → Prop
  | 0, _, _, _, _ => False
  | n + 1, st, x1, x2, x3 => ((x2 ≤ x3) → E75 st) ∧ ((¬ x2 ≤ x3) → vp_in x3 3 ∧ vp_in (sI st x1 x3.toNatClampNeg) 15 ∧ w_X2_times st 141 (164 + 2 * x3.toNatClampNeg) (149 + (sI st x1 x3.toNatClampNeg).toNatClampNeg) (fun (s25 : St) (r24 : Nat) => w_X2_add s25 142 139 141 (fun (s41 : St) (r40 : Nat) => w_X2_as s41 139 142 (fun (s55 : St) (r54 : Nat) => w_X0_mixes_l14 Φ Φa E75 n s55 x1 x2 (x3 + 1))) Φa) Φa)
theorem t_X0_mixes_l14 {θ : Th} {κ : Kx} {Ph : Ph} (hX : LX θ) {d : Nat} (hd : 3 ≤ d) (C : Cx θ κ yX0_mixes cX0_mixes 4 (some (Jvm.ClassFile.FieldType.object "SecretsWorth$Ratio")) [] d) {Φ : St → Nat → Prop} {Φa : St → Prop} (hn : ∀ st r, r < gBIG → sh st r = 3 → Φ st r → Ph.1 st (some (.ref (ad θ r)))) (ha : ∀ st q, Φa st → Ph.2 st "java/lang/ArithmeticException" q) {E75 : St → Prop} (hE75 : ∀ (st : St), E75 st → X θ κ Ph st 75 [(0, .ref (ad θ 0))] []) : ∀ (n : Nat) (st : St) (x1 : Nat) (x2 : Int32) (x3 : Int32), sh st x1 = 101 → x1 < gBIG → ln st x1 = 3 → w_X0_mixes_l14 Φ Φa E75 n st x1 x2 x3 → X θ κ Ph st 14 [(0, .ref (ad θ 0)), (1, .ref (ad θ x1)), (2, .int x2), (3, .int x3)] [] := by
  intro n
  induction n with
  | zero => intro st x1 x2 x3 hs_x1 hb_x1 hl_x1 h; exact h.elim
  | succ n hK14 =>
    intro st x1 x2 x3 hs_x1 hb_x1 hl_x1 h
    rw [w_X0_mixes_l14] at h
    refine X_iload_n C dX0_mixes_14 rfl 3 rfl ?_
    refine X_iload_n C dX0_mixes_15 rfl 2 rfl ?_
    refine X_icmp_ge (tgt := 75) C dX0_mixes_16 (by decide) (fun c15 => ?_) (fun c15 => ?_)
    · have h := h.1 c15
      refine X_sub [0] (lo2 := [(0, _)]) rfl ?_
      exact hE75 st h
    · have h := h.2 c15
      refine X_aload_n C dX0_mixes_19 rfl 0 rfl (isRV_r _) ?_
      refine X_getF (ci := 0) (j := 27) (q := (RX0, TX0, 49)) C rfl (by decide) q287 rfl dX0_mixes_20 (b := 141) (LX_S hX (k := 0) rfl) (LX_F hX (k := 0) (j := 27) rfl) rfl ?_
      refine X_aload_n C dX0_mixes_23 rfl 0 rfl (isRV_r _) ?_
      refine X_getF (ci := 0) (j := 19) (q := (RX0, TX0, 49)) C rfl (by decide) q279 rfl dX0_mixes_24 (b := 134) (LX_S hX (k := 0) rfl) (LX_F hX (k := 0) (j := 19) rfl) rfl ?_
      refine X_iload_n C dX0_mixes_27 rfl 3 rfl ?_
      have g16 := h.1
      have h := h.2
      refine X_aaldF C 9 rfl (LX_S hX (k := 134) rfl) (by decide) rfl (LX_L hX (k := 134) rfl) g16 rfl (b := (164 + 2 * x3.toNatClampNeg)) (LXf_weight hX (i := x3.toNatClampNeg) (in_lt g16)).2 dX0_mixes_28 rfl ?_
      refine X_aload_n C dX0_mixes_29 rfl 0 rfl (isRV_r _) ?_
      refine X_getF (ci := 0) (j := 18) (q := (RX0, TX0, 49)) C rfl (by decide) q278 rfl dX0_mixes_30 (b := 133) (LX_S hX (k := 0) rfl) (LX_F hX (k := 0) (j := 18) rfl) rfl ?_
      refine X_aload_n C dX0_mixes_33 rfl 1 rfl (isRV_r _) ?_
      refine X_iload_n C dX0_mixes_34 rfl 3 rfl ?_
      refine X_ialdD C hs_x1 hl_x1 g16 rfl dX0_mixes_35 ?_
      have g17 := h.1
      have h := h.2
      refine X_aaldF C 9 rfl (LX_S hX (k := 133) rfl) (by decide) rfl (LX_L hX (k := 133) rfl) g17 rfl (b := (149 + (sI st x1 x3.toNatClampNeg).toNatClampNeg)) (LXf_worth hX (i := (sI st x1 x3.toNatClampNeg).toNatClampNeg) (in_lt g17)).2 dX0_mixes_36 rfl ?_
      refine X_sh (LX_S hX (k := 141) rfl) (by decide) (fun hs18 hb19 => ?_)
      refine X_sh (LXf_weight hX (i := x3.toNatClampNeg) (in_lt g16)).1 (by decide) (fun hs20 hb21 => ?_)
      refine X_sh (LXf_worth hX (i := (sI st x1 x3.toNatClampNeg).toNatClampNeg) (in_lt g17)).1 (by decide) (fun hs22 hb23 => ?_)
      refine X_callV (ci := 2) (q := (RX2, TX2, 2)) (As := [_, _]) (rest := []) C rfl hs18 q802 q803 q804 q134 q805 ⟨rfl, nm_X2_times⟩ rfl dX0_mixes_37 (m_X2_times (Cx_l C) (d := d - 1) (by omega) st 141 (164 + 2 * x3.toNatClampNeg) (149 + (sI st x1 x3.toNatClampNeg).toNatClampNeg) hs18 hb19 hs20 hb21 hs22 hb23 h) (by omega) (by decide) (Nat.le_of_ble_eq_true rfl) (fun s25 w26 hE27 hP28 => ?_) (fun s31 E29 q30 hE27 hP28 => ?_)
      rotate_left
      · rcases hP28 with ⟨rfl, h⟩
        exact XT_out C rfl (ha s31 q30 h)
      obtain ⟨r24, rfl, hb32, hs33, h⟩ := hP28
      refine X_tls ?_
      have hl_x1 := Ext_ln hE27 (by rw [hs_x1]; decide) hl_x1
      have hs_x1 := Ext_sh hE27 hs_x1 (by decide)
      refine X_pop C dX0_mixes_40 rfl ?_
      refine X_aload_n C dX0_mixes_41 rfl 0 rfl (isRV_r _) ?_
      refine X_getF (ci := 0) (j := 28) (q := (RX0, TX0, 49)) C rfl (by decide) q288 rfl dX0_mixes_42 (b := 142) (LX_S hX (k := 0) rfl) (LX_F hX (k := 0) (j := 28) rfl) rfl ?_
      refine X_aload_n C dX0_mixes_45 rfl 0 rfl (isRV_r _) ?_
      refine X_getF (ci := 0) (j := 25) (q := (RX0, TX0, 49)) C rfl (by decide) q285 rfl dX0_mixes_46 (b := 139) (LX_S hX (k := 0) rfl) (LX_F hX (k := 0) (j := 25) rfl) rfl ?_
      refine X_aload_n C dX0_mixes_49 rfl 0 rfl (isRV_r _) ?_
      refine X_getF (ci := 0) (j := 27) (q := (RX0, TX0, 49)) C rfl (by decide) q287 rfl dX0_mixes_50 (b := 141) (LX_S hX (k := 0) rfl) (LX_F hX (k := 0) (j := 27) rfl) rfl ?_
      refine X_sh (LX_S hX (k := 142) rfl) (by decide) (fun hs34 hb35 => ?_)
      refine X_sh (LX_S hX (k := 139) rfl) (by decide) (fun hs36 hb37 => ?_)
      refine X_sh (LX_S hX (k := 141) rfl) (by decide) (fun hs38 hb39 => ?_)
      refine X_callV (ci := 2) (q := (RX2, TX2, 2)) (As := [_, _]) (rest := []) C rfl hs34 q814 q815 q816 q134 q817 ⟨rfl, nm_X2_add⟩ rfl dX0_mixes_53 (m_X2_add (Cx_l C) (d := d - 1) (by omega) s25 142 139 141 hs34 hb35 hs36 hb37 hs38 hb39 h) (by omega) (by decide) (Nat.le_of_ble_eq_true rfl) (fun s41 w42 hE43 hP44 => ?_) (fun s47 E45 q46 hE43 hP44 => ?_)
      rotate_left
      · rcases hP44 with ⟨rfl, h⟩
        exact XT_out C rfl (ha s47 q46 h)
      obtain ⟨r40, rfl, hb48, hs49, h⟩ := hP44
      refine X_tls ?_
      have hl_x1 := Ext_ln hE43 (by rw [hs_x1]; decide) hl_x1
      have hs_x1 := Ext_sh hE43 hs_x1 (by decide)
      have hs33 := Ext_sh hE43 hs33 (by decide)
      refine X_pop C dX0_mixes_56 rfl ?_
      refine X_aload_n C dX0_mixes_57 rfl 0 rfl (isRV_r _) ?_
      refine X_getF (ci := 0) (j := 25) (q := (RX0, TX0, 49)) C rfl (by decide) q285 rfl dX0_mixes_58 (b := 139) (LX_S hX (k := 0) rfl) (LX_F hX (k := 0) (j := 25) rfl) rfl ?_
      refine X_aload_n C dX0_mixes_61 rfl 0 rfl (isRV_r _) ?_
      refine X_getF (ci := 0) (j := 28) (q := (RX0, TX0, 49)) C rfl (by decide) q288 rfl dX0_mixes_62 (b := 142) (LX_S hX (k := 0) rfl) (LX_F hX (k := 0) (j := 28) rfl) rfl ?_
      refine X_sh (LX_S hX (k := 139) rfl) (by decide) (fun hs50 hb51 => ?_)
      refine X_sh (LX_S hX (k := 142) rfl) (by decide) (fun hs52 hb53 => ?_)
      refine X_callV (ci := 2) (q := (RX2, TX2, 2)) (As := [_]) (rest := []) C rfl hs50 q798 q799 q800 q134 q801 ⟨rfl, nm_X2_as⟩ rfl dX0_mixes_65 (m_X2_as (Cx_l C) (d := d - 1) (by omega) s41 139 142 hs50 hb51 hs52 hb53 h) (by omega) (by decide) (Nat.le_of_ble_eq_true rfl) (fun s55 w56 hE57 hP58 => ?_) (fun s61 E59 q60 hE57 hP58 => ?_)
      rotate_left
      · exact False.elim hP58
      obtain ⟨r54, rfl, hb62, hs63, h⟩ := hP58
      refine X_tls ?_
      have hl_x1 := Ext_ln hE57 (by rw [hs_x1]; decide) hl_x1
      have hs_x1 := Ext_sh hE57 hs_x1 (by decide)
      have hs33 := Ext_sh hE57 hs33 (by decide)
      have hs49 := Ext_sh hE57 hs49 (by decide)
      refine X_pop C dX0_mixes_68 rfl ?_
      refine X_iinc (v := (x3 + 1)) C (j := 3) dX0_mixes_69 rfl rfl (lo2 := [(3, _), (0, _), (1, _), (2, _)]) (by decide) rfl ?_
      refine X_goto (tgt := 14) C dX0_mixes_72 (by decide) ?_
      refine X_sub [1, 2, 3, 0] (lo2 := [(0, _), (1, _), (2, _), (3, _)]) rfl ?_
      exact hK14 s55 x1 x2 (x3 + 1) hs_x1 hb_x1 hl_x1 h
def w_X0_mixes_b75 (Φ : St → Nat → Prop) (Φa : St → Prop) (st : St) : Prop := Φ st 139
theorem t_X0_mixes_b75 {θ : Th} {κ : Kx} {Ph : Ph} (hX : LX θ) {d : Nat} (hd : 3 ≤ d) (C : Cx θ κ yX0_mixes cX0_mixes 4 (some (Jvm.ClassFile.FieldType.object "SecretsWorth$Ratio")) [] d) {Φ : St → Nat → Prop} {Φa : St → Prop} (hn : ∀ st r, r < gBIG → sh st r = 3 → Φ st r → Ph.1 st (some (.ref (ad θ r)))) (ha : ∀ st q, Φa st → Ph.2 st "java/lang/ArithmeticException" q) (st : St) (h : w_X0_mixes_b75 Φ Φa st) : X θ κ Ph st 75 [(0, .ref (ad θ 0))] [] := by
  unfold w_X0_mixes_b75 at h
  refine X_aload_n C dX0_mixes_75 rfl 0 rfl (isRV_r _) ?_
  refine X_getF (ci := 0) (j := 25) (q := (RX0, TX0, 49)) C rfl (by decide) q285 rfl dX0_mixes_76 (b := 139) (LX_S hX (k := 0) rfl) (LX_F hX (k := 0) (j := 25) rfl) rfl ?_
  refine X_sh (LX_S hX (k := 139) rfl) (by decide) (fun hs65 hb66 => ?_)
  exact X_aret C rfl (Or.inl ⟨_, rfl⟩) (isRV_r _) dX0_mixes_79 (hn st _ hb66 hs65 h)
def w_X0_mixes (st : St) (p1 : Nat) (p2 : Int32) (Φ : St → Nat → Prop) (Φa : St → Prop) : Prop := w_X2_as st 139 138 (fun (s6 : St) (r5 : Nat) => w_X0_mixes_l14 Φ Φa (fun (s64 : St) => w_X0_mixes_b75 Φ Φa s64) gFU s6 p1 p2 0)
theorem nm_X0_mixes : yX0_mixes.cls ≠ "java/lang/invoke/MethodHandle" ∧ yX0_mixes.cls ≠ "java/lang/invoke/VarHandle" ∧ (parseMethodDescriptor yX0_mixes.desc).map (fun d => d.parameters.length) = some 2 := by decide +kernel
theorem e_X0_mixes : plainFor yX0_mixes = true := plainFor_of_name (by decide +kernel)
theorem m_X0_mixes {θ : Th} {l : Launch} (hl0 : l.stackTraces = false) (hX : LX θ) {d : Nat} (hd : 3 ≤ d) (st : St) (p1 : Nat) (p2 : Int32) (hs_p1 : sh st p1 = 101) (hb_p1 : p1 < gBIG) (hl_p1 : ln st p1 = 3) {Φ : St → Nat → Prop} {Φa : St → Prop} (h : w_X0_mixes st p1 p2 Φ Φa) : Ct θ l yX0_mixes (ws_ yX0_mixes cX0_mixes 4 (some (Jvm.ClassFile.FieldType.object "SecretsWorth$Ratio"))) d [.ref (ad θ 0), .ref (ad θ p1), .int p2] st (pN θ 3 Φ, (exA Φa)) := by
  refine Ct_entry hl0 e_X0_mixes (Nat.le_of_ble_eq_true rfl) (fun κ hκ _ C => ?_)
  have hn : ∀ st r, r < gBIG → sh st r = 3 → Φ st r → ((pN θ 3 Φ, (exA Φa)) : Ph).1 st (some (.ref (ad θ r))) := fun st r q1 q2 q => ⟨r, rfl, q1, q2, q⟩
  have ha : ∀ st q, Φa st → ((pN θ 3 Φ, (exA Φa)) : Ph).2 st "java/lang/ArithmeticException" q := fun st q2 q => ⟨rfl, q⟩
  change X _ _ _ _ _ [(0, .ref (ad θ 0)), (1, .ref (ad θ p1)), (2, .int p2)] _
  unfold w_X0_mixes at h
  refine X_aload_n C dX0_mixes_0 rfl 0 rfl (isRV_r _) ?_
  refine X_getF (ci := 0) (j := 25) (q := (RX0, TX0, 49)) C rfl (by decide) q285 rfl dX0_mixes_1 (b := 139) (LX_S hX (k := 0) rfl) (LX_F hX (k := 0) (j := 25) rfl) rfl ?_
  refine X_aload_n C dX0_mixes_4 rfl 0 rfl (isRV_r _) ?_
  refine X_getF (ci := 0) (j := 24) (q := (RX0, TX0, 49)) C rfl (by decide) q284 rfl dX0_mixes_5 (b := 138) (LX_S hX (k := 0) rfl) (LX_F hX (k := 0) (j := 24) rfl) rfl ?_
  refine X_sh (LX_S hX (k := 139) rfl) (by decide) (fun hs1 hb2 => ?_)
  refine X_sh (LX_S hX (k := 138) rfl) (by decide) (fun hs3 hb4 => ?_)
  refine X_callV (ci := 2) (q := (RX2, TX2, 2)) (As := [_]) (rest := []) C rfl hs1 q798 q799 q800 q134 q801 ⟨rfl, nm_X2_as⟩ rfl dX0_mixes_8 (m_X2_as (Cx_l C) (d := d - 1) (by omega) st 139 138 hs1 hb2 hs3 hb4 h) (by omega) (by decide) (Nat.le_of_ble_eq_true rfl) (fun s6 w7 hE8 hP9 => ?_) (fun s12 E10 q11 hE8 hP9 => ?_)
  rotate_left
  · exact False.elim hP9
  obtain ⟨r5, rfl, hb13, hs14, h⟩ := hP9
  refine X_tls ?_
  have hl_p1 := Ext_ln hE8 (by rw [hs_p1]; decide) hl_p1
  have hs_p1 := Ext_sh hE8 hs_p1 (by decide)
  refine X_pop C dX0_mixes_11 rfl ?_
  refine X_iconst (v := 0) C dX0_mixes_12 rfl ?_
  refine X_istore_n C dX0_mixes_13 rfl (lo2 := [(3, _), (0, _), (1, _), (2, _)]) (by decide) rfl ?_
  refine X_sub [1, 2, 3, 0] (lo2 := [(0, _), (1, _), (2, _), (3, _)]) rfl ?_
  refine t_X0_mixes_l14 hX hd C hn ha ?_ gFU s6 p1 p2 0 hs_p1 hb_p1 hl_p1 h
  · intro s64 h
    exact t_X0_mixes_b75 hX hd C hn ha s64 h

def w_X0_isFarBig (st : St) (Φ : St → Int64 → Prop) : Prop := sN st + 1 ≤ gCAP ∧ sS st + 7 ≤ gCAPS ∧ ∀ s3, s3 = mk st 6 7 → w_X5_init s3 (sN st) 6 (fun (s9 : St) => w_X0_answersFar s9 (sN st) (fun (s17 : St) (r16 : Int64) => Φ s17 r16))
theorem nm_X0_isFarBig : yX0_isFarBig.cls ≠ "java/lang/invoke/MethodHandle" ∧ yX0_isFarBig.cls ≠ "java/lang/invoke/VarHandle" ∧ (parseMethodDescriptor yX0_isFarBig.desc).map (fun d => d.parameters.length) = some 0 := by decide +kernel
theorem e_X0_isFarBig : plainFor yX0_isFarBig = true := plainFor_of_name (by decide +kernel)
theorem m_X0_isFarBig {θ : Th} {l : Launch} (hl0 : l.stackTraces = false) (hX : LX θ) {d : Nat} (hd : 4 ≤ d) (st : St) {Φ : St → Int64 → Prop} (h : w_X0_isFarBig st Φ) : Ct θ l yX0_isFarBig (ws_ yX0_isFarBig cX0_isFarBig 1 (some Jvm.ClassFile.FieldType.long)) d [.ref (ad θ 0)] st (pL Φ, noX) := by
  refine Ct_entry hl0 e_X0_isFarBig (Nat.le_of_ble_eq_true rfl) (fun κ hκ _ C => ?_)
  have hn : ∀ st r, Φ st r → ((pL Φ, noX) : Ph).1 st (some (.long r)) := fun st r q => ⟨r, rfl, q⟩
  change X _ _ _ _ _ [(0, .ref (ad θ 0))] _
  unfold w_X0_isFarBig at h
  refine X_aload_n C dX0_isFarBig_0 rfl 0 rfl (isRV_r _) ?_
  have g1 := h.1
  have h := h.2
  have g2 := h.1
  have h := h.2
  refine X_new (ci := 5) (q := (RX5, TX5, 7)) C rfl q412 q424 q140 g1 g2 dX0_isFarBig_1 (fun hE5 => ?_)
  refine X_nm (fun s3 e4 => ?_)
  have h := h s3 e4
  rw [← e4] at hE5
  have hs6 : sh s3 (sN st) = 6 := by rw [e4]; exact sh_mk
  have hb7 := nb_N g1
  refine X_dup C dX0_isFarBig_4 rfl ?_
  refine X_bipush (v := 6) C dX0_isFarBig_5 rfl ?_
  refine X_callI (As := [_]) (rest := [_, _]) C q479 q480 q140 q481 rfl nm_X5_init rfl dX0_isFarBig_7 (m_X5_init (Cx_l C) hX (d := d - 1) (by omega) s3 (sN st) 6 hs6 hb7 h) (by omega) (by decide) (Nat.le_of_ble_eq_true rfl) (fun s9 w10 hE11 hP12 => ?_) (fun s15 E13 q14 hE11 hP12 => ?_)
  rotate_left
  · exact False.elim hP12
  obtain ⟨rfl, h⟩ := hP12
  refine X_tln ?_
  have hs6 := Ext_sh hE11 hs6 (by decide)
  refine X_callVS (ci := 0) (q := (RX0, TX0, 49)) (As := [_]) (rest := []) C rfl (LX_S hX (k := 0) rfl) q745 q747 qs14 q132 q748 ⟨rfl, nm_X0_answersFar⟩ rfl dX0_isFarBig_10 (m_X0_answersFar (Cx_l C) hX (d := d - 1) (by omega) s9 (sN st) hs6 hb7 h) (by omega) (by decide) (Nat.le_of_ble_eq_true rfl) (fun s17 w18 hE19 hP20 => ?_) (fun s23 E21 q22 hE19 hP20 => ?_)
  rotate_left
  · exact False.elim hP20
  obtain ⟨r16, rfl, h⟩ := hP20
  refine X_tls ?_
  have hs6 := Ext_sh hE19 hs6 (by decide)
  exact X_lret C rfl dX0_isFarBig_13 (hn s17 _ h)

def w_X0_mix_b137 (Φ : St → Int64 → Prop) (st : St) (x1 : Int32) (x2 : Int32) (x3 : Int32) (x4 : Int32) (x5 : Int32) (x6 : Int32) (z0 : Int32) : Prop := w_X0_need st z0 3 (fun (s55 : St) => ∀ s74, s74 = putI s55 136 0 x2 → ∀ s76, s76 = putI s74 136 1 x3 → ∀ s78, s78 = putI s76 136 2 x4 → w_X0_splits s78 x1 136 x6 (fun (s84 : St) (r83 : Int32) => w_X0_need s84 r83 3 (fun (s101 : St) => w_X0_allWorths s101 (fun (s121 : St) => w_X0_mixes s121 136 x6 (fun (s153 : St) (r152 : Nat) => w_X2_part s153 r152 x5 (fun (r171 : Int64) => Φ s153 r171)) (fun (s154 : St) => w_X0_isFarBig s154 (fun (s156 : St) (r155 : Int64) => Φ s156 r155))) (fun (s122 : St) (a123 : Nat) => w_X0_answersFar s122 a123 (fun (s127 : St) (r126 : Int64) => Φ s127 r126)) (fun (s134 : St) => w_X0_isFarBig s134 (fun (s136 : St) (r135 : Int64) => Φ s136 r135))) (fun (s102 : St) (a103 : Nat) => w_X0_answersFar s102 a103 (fun (s107 : St) (r106 : Int64) => Φ s107 r106))) (fun (s85 : St) => w_X0_isFarBig s85 (fun (s87 : St) (r86 : Int64) => Φ s87 r86))) (fun (s56 : St) (a57 : Nat) => w_X0_answersFar s56 a57 (fun (s61 : St) (r60 : Int64) => Φ s61 r60))
theorem t_X0_mix_b137 {θ : Th} {κ : Kx} {Ph : Ph} (hX : LX θ) {d : Nat} (hd : 7 ≤ d) (C : Cx θ κ yX0_mix cX0_mix 7 (some Jvm.ClassFile.FieldType.long) [(0, 197, 198, 377), (0, 197, 205, 1)] d) {Φ : St → Int64 → Prop} (hn : ∀ st r, Φ st r → Ph.1 st (some (.long r))) (st : St) (x1 : Int32) (x2 : Int32) (x3 : Int32) (x4 : Int32) (x5 : Int32) (x6 : Int32) (z0 : Int32) (h : w_X0_mix_b137 Φ st x1 x2 x3 x4 x5 x6 z0) : X θ κ Ph st 137 [(0, .ref (ad θ 0)), (1, .int x1), (2, .int x2), (3, .int x3), (4, .int x4), (5, .int x5), (6, .int x6)] [.int z0] := by
  unfold w_X0_mix_b137 at h
  refine X_iconst (v := 3) C dX0_mix_137 rfl ?_
  refine X_callS (As := [_, _]) (rest := []) C q421 q422 q132 q423 nm_X0_need rfl dX0_mix_138 (m_X0_need (Cx_l C) hX (d := d - 1) (by omega) st z0 3 h) (by omega) (by decide) (Nat.le_of_ble_eq_true rfl) (fun s55 w68 hE69 hP70 => ?_) (fun s73 E71 q72 hE69 hP70 => ?_)
  rotate_left
  · rcases hP70 with ⟨rfl, a_, rfl, hb_, hs_, h⟩
    refine XT_catch C [⟨0, 197, 198, 377⟩] ⟨0, 197, 205, 1⟩ [] rfl (List.forall_mem_cons.mpr ⟨Or.inr ⟨by decide, "java/lang/ArithmeticException", q762, by decide +kernel⟩, (fun _ h => absurd h List.not_mem_nil)⟩) (by decide) (by decide) q412 q425 ?_
    refine X_astore C dX0_mix_205 (isRV_r _) (lo2 := [(6, _), (0, _), (1, _), (2, _), (3, _), (4, _), (5, _)]) (by decide) rfl ?_
    refine X_aload_n C dX0_mix_207 rfl 1 rfl (isRV_r _) ?_
    refine X_aload C dX0_mix_208 0 rfl (isRV_r _) ?_
    refine X_callVS (ci := 0) (q := (RX0, TX0, 49)) (As := [_]) (rest := []) C rfl (LX_S hX (k := 0) rfl) q745 q747 qs14 q132 q748 ⟨rfl, nm_X0_answersFar⟩ rfl dX0_mix_210 (m_X0_answersFar (Cx_l C) hX (d := d - 1) (by omega) s73 a_ hs_ hb_ h) (by omega) (by decide) (Nat.le_of_ble_eq_true rfl) (fun s61 w62 hE63 hP64 => ?_) (fun s67 E65 q66 hE63 hP64 => ?_)
    rotate_left
    · exact False.elim hP64
    obtain ⟨r60, rfl, h⟩ := hP64
    refine X_tls ?_
    have hs_ := Ext_sh hE63 hs_ (by decide)
    exact X_lret C rfl dX0_mix_213 (hn s61 _ h)
  obtain ⟨rfl, h⟩ := hP70
  refine X_tln ?_
  refine X_aload_n C dX0_mix_141 rfl 0 rfl (isRV_r _) ?_
  refine X_getF (ci := 0) (j := 21) (q := (RX0, TX0, 49)) C rfl (by decide) q281 rfl dX0_mix_142 (b := 136) (LX_S hX (k := 0) rfl) (LX_F hX (k := 0) (j := 21) rfl) rfl ?_
  refine X_iconst (v := 0) C dX0_mix_145 rfl ?_
  refine X_iload_n C dX0_mix_146 rfl 2 rfl ?_
  refine X_iastS C (LX_S hX (k := 136) rfl) (LX_L hX (k := 136) rfl) (vp_dec rfl) rfl dX0_mix_147 ?_
  refine X_nm (fun s74 e75 => ?_)
  have h := h s74 e75
  refine X_aload_n C dX0_mix_148 rfl 0 rfl (isRV_r _) ?_
  refine X_getF (ci := 0) (j := 21) (q := (RX0, TX0, 49)) C rfl (by decide) q281 rfl dX0_mix_149 (b := 136) (LX_S hX (k := 0) rfl) (LX_F hX (k := 0) (j := 21) rfl) rfl ?_
  refine X_iconst (v := 1) C dX0_mix_152 rfl ?_
  refine X_iload_n C dX0_mix_153 rfl 3 rfl ?_
  refine X_iastS C (LX_S hX (k := 136) rfl) (LX_L hX (k := 136) rfl) (vp_dec rfl) rfl dX0_mix_154 ?_
  refine X_nm (fun s76 e77 => ?_)
  have h := h s76 e77
  refine X_aload_n C dX0_mix_155 rfl 0 rfl (isRV_r _) ?_
  refine X_getF (ci := 0) (j := 21) (q := (RX0, TX0, 49)) C rfl (by decide) q281 rfl dX0_mix_156 (b := 136) (LX_S hX (k := 0) rfl) (LX_F hX (k := 0) (j := 21) rfl) rfl ?_
  refine X_iconst (v := 2) C dX0_mix_159 rfl ?_
  refine X_iload C dX0_mix_160 4 rfl ?_
  refine X_iastS C (LX_S hX (k := 136) rfl) (LX_L hX (k := 136) rfl) (vp_dec rfl) rfl dX0_mix_162 ?_
  refine X_nm (fun s78 e79 => ?_)
  have h := h s78 e79
  refine X_aload_n C dX0_mix_163 rfl 0 rfl (isRV_r _) ?_
  refine X_iload_n C dX0_mix_164 rfl 1 rfl ?_
  refine X_aload_n C dX0_mix_165 rfl 0 rfl (isRV_r _) ?_
  refine X_getF (ci := 0) (j := 21) (q := (RX0, TX0, 49)) C rfl (by decide) q281 rfl dX0_mix_166 (b := 136) (LX_S hX (k := 0) rfl) (LX_F hX (k := 0) (j := 21) rfl) rfl ?_
  refine X_iload C dX0_mix_169 6 rfl ?_
  refine X_shl (LX_S hX (k := 136) rfl) (by decide) (LX_L hX (k := 136) rfl) (fun hs80 hl82 hb81 => ?_)
  refine X_callVS (ci := 0) (q := (RX0, TX0, 49)) (As := [_, _, _]) (rest := []) C rfl (LX_S hX (k := 0) rfl) q767 q769 qs17 q132 q770 ⟨rfl, nm_X0_splits⟩ rfl dX0_mix_171 (m_X0_splits (Cx_l C) hX (d := d - 1) (by omega) s78 x1 136 x6 hs80 hb81 hl82 h) (by omega) (by decide) (Nat.le_of_ble_eq_true rfl) (fun s84 w94 hE95 hP96 => ?_) (fun s99 E97 q98 hE95 hP96 => ?_)
  rotate_left
  · rcases hP96 with ⟨rfl, h⟩
    refine XT_catch C [] ⟨0, 197, 198, 377⟩ [⟨0, 197, 205, 1⟩] rfl (fun _ h => absurd h List.not_mem_nil) (by decide) (by decide) q762 q724 ?_
    refine X_astore C dX0_mix_198 (isRV_r _) (lo2 := [(6, _), (0, _), (1, _), (2, _), (3, _), (4, _), (5, _)]) (by decide) rfl ?_
    refine X_aload_n C dX0_mix_200 rfl 1 rfl (isRV_r _) ?_
    refine X_callVS (ci := 0) (q := (RX0, TX0, 49)) (As := []) (rest := []) C rfl (LX_S hX (k := 0) rfl) q821 q823 qs23 q132 q824 ⟨rfl, nm_X0_isFarBig⟩ rfl dX0_mix_201 (m_X0_isFarBig (Cx_l C) hX (d := d - 1) (by omega) s99 h) (by omega) (by decide) (Nat.le_of_ble_eq_true rfl) (fun s87 w88 hE89 hP90 => ?_) (fun s93 E91 q92 hE89 hP90 => ?_)
    rotate_left
    · exact False.elim hP90
    obtain ⟨r86, rfl, h⟩ := hP90
    refine X_tls ?_
    exact X_lret C rfl dX0_mix_204 (hn s87 _ h)
  obtain ⟨r83, rfl, h⟩ := hP96
  refine X_tls ?_
  refine X_iconst (v := 3) C dX0_mix_174 rfl ?_
  refine X_callS (As := [_, _]) (rest := []) C q421 q422 q132 q423 nm_X0_need rfl dX0_mix_175 (m_X0_need (Cx_l C) hX (d := d - 1) (by omega) s84 r83 3 h) (by omega) (by decide) (Nat.le_of_ble_eq_true rfl) (fun s101 w114 hE115 hP116 => ?_) (fun s119 E117 q118 hE115 hP116 => ?_)
  rotate_left
  · rcases hP116 with ⟨rfl, a_, rfl, hb_, hs_, h⟩
    refine XT_catch C [⟨0, 197, 198, 377⟩] ⟨0, 197, 205, 1⟩ [] rfl (List.forall_mem_cons.mpr ⟨Or.inr ⟨by decide, "java/lang/ArithmeticException", q762, by decide +kernel⟩, (fun _ h => absurd h List.not_mem_nil)⟩) (by decide) (by decide) q412 q425 ?_
    refine X_astore C dX0_mix_205 (isRV_r _) (lo2 := [(6, _), (0, _), (1, _), (2, _), (3, _), (4, _), (5, _)]) (by decide) rfl ?_
    refine X_aload_n C dX0_mix_207 rfl 1 rfl (isRV_r _) ?_
    refine X_aload C dX0_mix_208 0 rfl (isRV_r _) ?_
    refine X_callVS (ci := 0) (q := (RX0, TX0, 49)) (As := [_]) (rest := []) C rfl (LX_S hX (k := 0) rfl) q745 q747 qs14 q132 q748 ⟨rfl, nm_X0_answersFar⟩ rfl dX0_mix_210 (m_X0_answersFar (Cx_l C) hX (d := d - 1) (by omega) s119 a_ hs_ hb_ h) (by omega) (by decide) (Nat.le_of_ble_eq_true rfl) (fun s107 w108 hE109 hP110 => ?_) (fun s113 E111 q112 hE109 hP110 => ?_)
    rotate_left
    · exact False.elim hP110
    obtain ⟨r106, rfl, h⟩ := hP110
    refine X_tls ?_
    have hs_ := Ext_sh hE109 hs_ (by decide)
    exact X_lret C rfl dX0_mix_213 (hn s107 _ h)
  obtain ⟨rfl, h⟩ := hP116
  refine X_tln ?_
  refine X_aload_n C dX0_mix_178 rfl 0 rfl (isRV_r _) ?_
  refine X_callVS (ci := 0) (q := (RX0, TX0, 49)) (As := []) (rest := []) C rfl (LX_S hX (k := 0) rfl) q790 q792 qs21 q132 q793 ⟨rfl, nm_X0_allWorths⟩ rfl dX0_mix_179 (m_X0_allWorths (Cx_l C) hX (d := d - 1) (by omega) s101 h) (by omega) (by decide) (Nat.le_of_ble_eq_true rfl) (fun s121 w143 hE144 hP145 => ?_) (fun s148 E146 q147 hE144 hP145 => ?_)
  rotate_left
  · rcases hP145 with ⟨rfl, a_, rfl, hb_, hs_, h⟩ | ⟨rfl, h⟩
    · refine XT_catch C [⟨0, 197, 198, 377⟩] ⟨0, 197, 205, 1⟩ [] rfl (List.forall_mem_cons.mpr ⟨Or.inr ⟨by decide, "java/lang/ArithmeticException", q762, by decide +kernel⟩, (fun _ h => absurd h List.not_mem_nil)⟩) (by decide) (by decide) q412 q425 ?_
      refine X_astore C dX0_mix_205 (isRV_r _) (lo2 := [(6, _), (0, _), (1, _), (2, _), (3, _), (4, _), (5, _)]) (by decide) rfl ?_
      refine X_aload_n C dX0_mix_207 rfl 1 rfl (isRV_r _) ?_
      refine X_aload C dX0_mix_208 0 rfl (isRV_r _) ?_
      refine X_callVS (ci := 0) (q := (RX0, TX0, 49)) (As := [_]) (rest := []) C rfl (LX_S hX (k := 0) rfl) q745 q747 qs14 q132 q748 ⟨rfl, nm_X0_answersFar⟩ rfl dX0_mix_210 (m_X0_answersFar (Cx_l C) hX (d := d - 1) (by omega) s148 a_ hs_ hb_ h) (by omega) (by decide) (Nat.le_of_ble_eq_true rfl) (fun s127 w128 hE129 hP130 => ?_) (fun s133 E131 q132 hE129 hP130 => ?_)
      rotate_left
      · exact False.elim hP130
      obtain ⟨r126, rfl, h⟩ := hP130
      refine X_tls ?_
      have hs_ := Ext_sh hE129 hs_ (by decide)
      exact X_lret C rfl dX0_mix_213 (hn s127 _ h)
    · refine XT_catch C [] ⟨0, 197, 198, 377⟩ [⟨0, 197, 205, 1⟩] rfl (fun _ h => absurd h List.not_mem_nil) (by decide) (by decide) q762 q724 ?_
      refine X_astore C dX0_mix_198 (isRV_r _) (lo2 := [(6, _), (0, _), (1, _), (2, _), (3, _), (4, _), (5, _)]) (by decide) rfl ?_
      refine X_aload_n C dX0_mix_200 rfl 1 rfl (isRV_r _) ?_
      refine X_callVS (ci := 0) (q := (RX0, TX0, 49)) (As := []) (rest := []) C rfl (LX_S hX (k := 0) rfl) q821 q823 qs23 q132 q824 ⟨rfl, nm_X0_isFarBig⟩ rfl dX0_mix_201 (m_X0_isFarBig (Cx_l C) hX (d := d - 1) (by omega) s148 h) (by omega) (by decide) (Nat.le_of_ble_eq_true rfl) (fun s136 w137 hE138 hP139 => ?_) (fun s142 E140 q141 hE138 hP139 => ?_)
      rotate_left
      · exact False.elim hP139
      obtain ⟨r135, rfl, h⟩ := hP139
      refine X_tls ?_
      exact X_lret C rfl dX0_mix_204 (hn s136 _ h)
  obtain ⟨rfl, h⟩ := hP145
  refine X_tln ?_
  refine X_aload_n C dX0_mix_182 rfl 0 rfl (isRV_r _) ?_
  refine X_aload_n C dX0_mix_183 rfl 0 rfl (isRV_r _) ?_
  refine X_getF (ci := 0) (j := 21) (q := (RX0, TX0, 49)) C rfl (by decide) q281 rfl dX0_mix_184 (b := 136) (LX_S hX (k := 0) rfl) (LX_F hX (k := 0) (j := 21) rfl) rfl ?_
  refine X_iload C dX0_mix_187 6 rfl ?_
  refine X_shl (LX_S hX (k := 136) rfl) (by decide) (LX_L hX (k := 136) rfl) (fun hs149 hl151 hb150 => ?_)
  refine X_callVS (ci := 0) (q := (RX0, TX0, 49)) (As := [_, _]) (rest := []) C rfl (LX_S hX (k := 0) rfl) q794 q796 qs22 q132 q797 ⟨rfl, nm_X0_mixes⟩ rfl dX0_mix_189 (m_X0_mixes (Cx_l C) hX (d := d - 1) (by omega) s121 136 x6 hs149 hb150 hl151 h) (by omega) (by decide) (Nat.le_of_ble_eq_true rfl) (fun s153 w163 hE164 hP165 => ?_) (fun s168 E166 q167 hE164 hP165 => ?_)
  rotate_left
  · rcases hP165 with ⟨rfl, h⟩
    refine XT_catch C [] ⟨0, 197, 198, 377⟩ [⟨0, 197, 205, 1⟩] rfl (fun _ h => absurd h List.not_mem_nil) (by decide) (by decide) q762 q724 ?_
    refine X_astore C dX0_mix_198 (isRV_r _) (lo2 := [(6, _), (0, _), (1, _), (2, _), (3, _), (4, _), (5, _)]) (by decide) rfl ?_
    refine X_aload_n C dX0_mix_200 rfl 1 rfl (isRV_r _) ?_
    refine X_callVS (ci := 0) (q := (RX0, TX0, 49)) (As := []) (rest := []) C rfl (LX_S hX (k := 0) rfl) q821 q823 qs23 q132 q824 ⟨rfl, nm_X0_isFarBig⟩ rfl dX0_mix_201 (m_X0_isFarBig (Cx_l C) hX (d := d - 1) (by omega) s168 h) (by omega) (by decide) (Nat.le_of_ble_eq_true rfl) (fun s156 w157 hE158 hP159 => ?_) (fun s162 E160 q161 hE158 hP159 => ?_)
    rotate_left
    · exact False.elim hP159
    obtain ⟨r155, rfl, h⟩ := hP159
    refine X_tls ?_
    exact X_lret C rfl dX0_mix_204 (hn s156 _ h)
  obtain ⟨r152, rfl, hb169, hs170, h⟩ := hP165
  refine X_tls ?_
  refine X_iload C dX0_mix_192 5 rfl ?_
  refine X_callV (ci := 2) (q := (RX2, TX2, 2)) (As := [_]) (rest := []) C rfl hs170 q741 q742 q743 q134 q744 ⟨rfl, nm_X2_part⟩ rfl dX0_mix_194 (m_X2_part (Cx_l C) (d := d - 1) (by omega) s153 r152 x5 hs170 hb169 h) (by omega) (by decide) (Nat.le_of_ble_eq_true rfl) (fun s177 w172 hE173 hP174 => ?_) (fun s178 E175 q176 hE173 hP174 => ?_)
  rotate_left
  · exact False.elim hP174
  obtain ⟨r171, rfl, rfl, h⟩ := hP174
  refine X_tls ?_
  exact X_lret C rfl dX0_mix_197 (hn s153 _ h)
def w_X0_mix_b136 (Φ : St → Int64 → Prop) (st : St) (x1 : Int32) (x2 : Int32) (x3 : Int32) (x4 : Int32) (x5 : Int32) (x6 : Int32) : Prop := w_X0_mix_b137 Φ st x1 x2 x3 x4 x5 x6 0
theorem t_X0_mix_b136 {θ : Th} {κ : Kx} {Ph : Ph} (hX : LX θ) {d : Nat} (hd : 7 ≤ d) (C : Cx θ κ yX0_mix cX0_mix 7 (some Jvm.ClassFile.FieldType.long) [(0, 197, 198, 377), (0, 197, 205, 1)] d) {Φ : St → Int64 → Prop} (hn : ∀ st r, Φ st r → Ph.1 st (some (.long r))) (st : St) (x1 : Int32) (x2 : Int32) (x3 : Int32) (x4 : Int32) (x5 : Int32) (x6 : Int32) (h : w_X0_mix_b136 Φ st x1 x2 x3 x4 x5 x6) : X θ κ Ph st 136 [(0, .ref (ad θ 0)), (1, .int x1), (2, .int x2), (3, .int x3), (4, .int x4), (5, .int x5), (6, .int x6)] [] := by
  unfold w_X0_mix_b136 at h
  refine X_iconst (v := 0) C dX0_mix_136 rfl ?_
  exact t_X0_mix_b137 hX hd C hn st x1 x2 x3 x4 x5 x6 0 h
def w_X0_mix_b132 (Φ : St → Int64 → Prop) (st : St) (x1 : Int32) (x2 : Int32) (x3 : Int32) (x4 : Int32) (x5 : Int32) (x6 : Int32) : Prop := w_X0_mix_b137 Φ st x1 x2 x3 x4 x5 x6 1
theorem t_X0_mix_b132 {θ : Th} {κ : Kx} {Ph : Ph} (hX : LX θ) {d : Nat} (hd : 7 ≤ d) (C : Cx θ κ yX0_mix cX0_mix 7 (some Jvm.ClassFile.FieldType.long) [(0, 197, 198, 377), (0, 197, 205, 1)] d) {Φ : St → Int64 → Prop} (hn : ∀ st r, Φ st r → Ph.1 st (some (.long r))) (st : St) (x1 : Int32) (x2 : Int32) (x3 : Int32) (x4 : Int32) (x5 : Int32) (x6 : Int32) (h : w_X0_mix_b132 Φ st x1 x2 x3 x4 x5 x6) : X θ κ Ph st 132 [(0, .ref (ad θ 0)), (1, .int x1), (2, .int x2), (3, .int x3), (4, .int x4), (5, .int x5), (6, .int x6)] [] := by
  unfold w_X0_mix_b132 at h
  refine X_iconst (v := 1) C dX0_mix_132 rfl ?_
  refine X_goto (tgt := 137) C dX0_mix_133 (by decide) ?_
  exact t_X0_mix_b137 hX hd C hn st x1 x2 x3 x4 x5 x6 1 h
def w_X0_mix_b120 (Φ : St → Int64 → Prop) (st : St) (x1 : Int32) (x2 : Int32) (x3 : Int32) (x4 : Int32) (x5 : Int32) (x6 : Int32) : Prop := ((x6 < 3) → w_X0_mix_b132 Φ st x1 x2 x3 x4 x5 x6) ∧ ((¬ x6 < 3) → ((x4 ≤ x3) → w_X0_mix_b136 Φ st x1 x2 x3 x4 x5 x6) ∧ ((¬ x4 ≤ x3) → w_X0_mix_b132 Φ st x1 x2 x3 x4 x5 x6))
theorem t_X0_mix_b120 {θ : Th} {κ : Kx} {Ph : Ph} (hX : LX θ) {d : Nat} (hd : 7 ≤ d) (C : Cx θ κ yX0_mix cX0_mix 7 (some Jvm.ClassFile.FieldType.long) [(0, 197, 198, 377), (0, 197, 205, 1)] d) {Φ : St → Int64 → Prop} (hn : ∀ st r, Φ st r → Ph.1 st (some (.long r))) (st : St) (x1 : Int32) (x2 : Int32) (x3 : Int32) (x4 : Int32) (x5 : Int32) (x6 : Int32) (h : w_X0_mix_b120 Φ st x1 x2 x3 x4 x5 x6) : X θ κ Ph st 120 [(0, .ref (ad θ 0)), (1, .int x1), (2, .int x2), (3, .int x3), (4, .int x4), (5, .int x5), (6, .int x6)] [] := by
  unfold w_X0_mix_b120 at h
  refine X_iload C dX0_mix_120 6 rfl ?_
  refine X_iconst (v := 3) C dX0_mix_122 rfl ?_
  refine X_icmp_lt (tgt := 132) C dX0_mix_123 (by decide) (fun c180 => ?_) (fun c180 => ?_)
  · have h := h.1 c180
    exact t_X0_mix_b132 hX hd C hn st x1 x2 x3 x4 x5 x6 h
  · have h := h.2 c180
    refine X_iload_n C dX0_mix_126 rfl 3 rfl ?_
    refine X_iload C dX0_mix_127 4 rfl ?_
    refine X_icmp_ge (tgt := 136) C dX0_mix_129 (by decide) (fun c181 => ?_) (fun c181 => ?_)
    · have h := h.1 c181
      exact t_X0_mix_b136 hX hd C hn st x1 x2 x3 x4 x5 x6 h
    · have h := h.2 c181
      exact t_X0_mix_b132 hX hd C hn st x1 x2 x3 x4 x5 x6 h
def w_X0_mix_b93 (Φ : St → Int64 → Prop) (st : St) (x1 : Int32) (x2 : Int32) (x3 : Int32) (x4 : Int32) (x5 : Int32) (x6 : Int32) (z0 : Int32) : Prop := w_X0_need st z0 3 (fun (s34 : St) => (((sI s34 2 0) < x6) → w_X0_mix_b136 Φ s34 x1 x2 x3 x4 x5 x6) ∧ ((¬ (sI s34 2 0) < x6) → ((x6 < 2) → w_X0_mix_b120 Φ s34 x1 x2 x3 x4 x5 x6) ∧ ((¬ x6 < 2) → ((x3 ≤ x2) → w_X0_mix_b136 Φ s34 x1 x2 x3 x4 x5 x6) ∧ ((¬ x3 ≤ x2) → w_X0_mix_b120 Φ s34 x1 x2 x3 x4 x5 x6)))) (fun (s35 : St) (a36 : Nat) => w_X0_answersFar s35 a36 (fun (s40 : St) (r39 : Int64) => Φ s40 r39))
theorem t_X0_mix_b93 {θ : Th} {κ : Kx} {Ph : Ph} (hX : LX θ) {d : Nat} (hd : 7 ≤ d) (C : Cx θ κ yX0_mix cX0_mix 7 (some Jvm.ClassFile.FieldType.long) [(0, 197, 198, 377), (0, 197, 205, 1)] d) {Φ : St → Int64 → Prop} (hn : ∀ st r, Φ st r → Ph.1 st (some (.long r))) (st : St) (x1 : Int32) (x2 : Int32) (x3 : Int32) (x4 : Int32) (x5 : Int32) (x6 : Int32) (z0 : Int32) (h : w_X0_mix_b93 Φ st x1 x2 x3 x4 x5 x6 z0) : X θ κ Ph st 93 [(0, .ref (ad θ 0)), (1, .int x1), (2, .int x2), (3, .int x3), (4, .int x4), (5, .int x5), (6, .int x6)] [.int z0] := by
  unfold w_X0_mix_b93 at h
  refine X_iconst (v := 3) C dX0_mix_93 rfl ?_
  refine X_callS (As := [_, _]) (rest := []) C q421 q422 q132 q423 nm_X0_need rfl dX0_mix_94 (m_X0_need (Cx_l C) hX (d := d - 1) (by omega) st z0 3 h) (by omega) (by decide) (Nat.le_of_ble_eq_true rfl) (fun s34 w47 hE48 hP49 => ?_) (fun s52 E50 q51 hE48 hP49 => ?_)
  rotate_left
  · rcases hP49 with ⟨rfl, a_, rfl, hb_, hs_, h⟩
    refine XT_catch C [⟨0, 197, 198, 377⟩] ⟨0, 197, 205, 1⟩ [] rfl (List.forall_mem_cons.mpr ⟨Or.inr ⟨by decide, "java/lang/ArithmeticException", q762, by decide +kernel⟩, (fun _ h => absurd h List.not_mem_nil)⟩) (by decide) (by decide) q412 q425 ?_
    refine X_astore C dX0_mix_205 (isRV_r _) (lo2 := [(6, _), (0, _), (1, _), (2, _), (3, _), (4, _), (5, _)]) (by decide) rfl ?_
    refine X_aload_n C dX0_mix_207 rfl 1 rfl (isRV_r _) ?_
    refine X_aload C dX0_mix_208 0 rfl (isRV_r _) ?_
    refine X_callVS (ci := 0) (q := (RX0, TX0, 49)) (As := [_]) (rest := []) C rfl (LX_S hX (k := 0) rfl) q745 q747 qs14 q132 q748 ⟨rfl, nm_X0_answersFar⟩ rfl dX0_mix_210 (m_X0_answersFar (Cx_l C) hX (d := d - 1) (by omega) s52 a_ hs_ hb_ h) (by omega) (by decide) (Nat.le_of_ble_eq_true rfl) (fun s40 w41 hE42 hP43 => ?_) (fun s46 E44 q45 hE42 hP43 => ?_)
    rotate_left
    · exact False.elim hP43
    obtain ⟨r39, rfl, h⟩ := hP43
    refine X_tls ?_
    have hs_ := Ext_sh hE42 hs_ (by decide)
    exact X_lret C rfl dX0_mix_213 (hn s40 _ h)
  obtain ⟨rfl, h⟩ := hP49
  refine X_tln ?_
  refine X_iload C dX0_mix_97 6 rfl ?_
  refine X_aload_n C dX0_mix_99 rfl 0 rfl (isRV_r _) ?_
  refine X_getF (ci := 0) (j := 1) (q := (RX0, TX0, 49)) C rfl (by decide) q261 rfl dX0_mix_100 (b := 2) (LX_S hX (k := 0) rfl) (LX_F hX (k := 0) (j := 1) rfl) rfl ?_
  refine X_getNS (ci := 1) (j := 0) (q := (RX1, TX1, 10)) C rfl (by decide) q189 rfl dX0_mix_103 (LH_0 (LX_H2 hX)) (v := .int (sI s34 2 0)) rfl ?_
  refine X_icmp_gt (tgt := 136) C dX0_mix_106 (by decide) (fun c53 => ?_) (fun c53 => ?_)
  · have h := h.1 c53
    exact t_X0_mix_b136 hX hd C hn s34 x1 x2 x3 x4 x5 x6 h
  · have h := h.2 c53
    refine X_iload C dX0_mix_109 6 rfl ?_
    refine X_iconst (v := 2) C dX0_mix_111 rfl ?_
    refine X_icmp_lt (tgt := 120) C dX0_mix_112 (by decide) (fun c179 => ?_) (fun c179 => ?_)
    · have h := h.1 c179
      exact t_X0_mix_b120 hX hd C hn s34 x1 x2 x3 x4 x5 x6 h
    · have h := h.2 c179
      refine X_iload_n C dX0_mix_115 rfl 2 rfl ?_
      refine X_iload_n C dX0_mix_116 rfl 3 rfl ?_
      refine X_icmp_ge (tgt := 136) C dX0_mix_117 (by decide) (fun c182 => ?_) (fun c182 => ?_)
      · have h := h.1 c182
        exact t_X0_mix_b136 hX hd C hn s34 x1 x2 x3 x4 x5 x6 h
      · have h := h.2 c182
        exact t_X0_mix_b120 hX hd C hn s34 x1 x2 x3 x4 x5 x6 h
def w_X0_mix_b88 (Φ : St → Int64 → Prop) (st : St) (x1 : Int32) (x2 : Int32) (x3 : Int32) (x4 : Int32) (x5 : Int32) (x6 : Int32) : Prop := w_X0_mix_b93 Φ st x1 x2 x3 x4 x5 x6 1
theorem t_X0_mix_b88 {θ : Th} {κ : Kx} {Ph : Ph} (hX : LX θ) {d : Nat} (hd : 7 ≤ d) (C : Cx θ κ yX0_mix cX0_mix 7 (some Jvm.ClassFile.FieldType.long) [(0, 197, 198, 377), (0, 197, 205, 1)] d) {Φ : St → Int64 → Prop} (hn : ∀ st r, Φ st r → Ph.1 st (some (.long r))) (st : St) (x1 : Int32) (x2 : Int32) (x3 : Int32) (x4 : Int32) (x5 : Int32) (x6 : Int32) (h : w_X0_mix_b88 Φ st x1 x2 x3 x4 x5 x6) : X θ κ Ph st 88 [(0, .ref (ad θ 0)), (1, .int x1), (2, .int x2), (3, .int x3), (4, .int x4), (5, .int x5), (6, .int x6)] [] := by
  unfold w_X0_mix_b88 at h
  refine X_iconst (v := 1) C dX0_mix_88 rfl ?_
  refine X_goto (tgt := 93) C dX0_mix_89 (by decide) ?_
  exact t_X0_mix_b93 hX hd C hn st x1 x2 x3 x4 x5 x6 1 h
def w_X0_mix_b75 (Φ : St → Int64 → Prop) (st : St) (x1 : Int32) (x2 : Int32) (x3 : Int32) (x4 : Int32) (x5 : Int32) (z0 : Int32) : Prop := ((x3 ≠ (-1)) → w_X0_mix_b88 Φ st x1 x2 x3 x4 x5 z0) ∧ ((x3 = (-1)) → ((x4 ≠ (-1)) → w_X0_mix_b93 Φ st x1 x2 x3 x4 x5 z0 0) ∧ ((x4 = (-1)) → w_X0_mix_b88 Φ st x1 x2 x3 x4 x5 z0))
theorem t_X0_mix_b75 {θ : Th} {κ : Kx} {Ph : Ph} (hX : LX θ) {d : Nat} (hd : 7 ≤ d) (C : Cx θ κ yX0_mix cX0_mix 7 (some Jvm.ClassFile.FieldType.long) [(0, 197, 198, 377), (0, 197, 205, 1)] d) {Φ : St → Int64 → Prop} (hn : ∀ st r, Φ st r → Ph.1 st (some (.long r))) (st : St) (x1 : Int32) (x2 : Int32) (x3 : Int32) (x4 : Int32) (x5 : Int32) (z0 : Int32) (h : w_X0_mix_b75 Φ st x1 x2 x3 x4 x5 z0) : X θ κ Ph st 75 [(0, .ref (ad θ 0)), (1, .int x1), (2, .int x2), (3, .int x3), (4, .int x4), (5, .int x5)] [.int z0] := by
  unfold w_X0_mix_b75 at h
  refine X_istore C dX0_mix_75 (lo2 := [(6, _), (0, _), (1, _), (2, _), (3, _), (4, _), (5, _)]) (by decide) rfl ?_
  refine X_iload_n C dX0_mix_77 rfl 4 rfl ?_
  refine X_iconst (v := (-1)) C dX0_mix_78 rfl ?_
  refine X_icmp_ne (tgt := 88) C dX0_mix_79 (by decide) (fun c32 => ?_) (fun c32 => ?_)
  · have h := h.1 c32
    refine X_sub [1, 2, 3, 4, 5, 6, 0] (lo2 := [(0, _), (1, _), (2, _), (3, _), (4, _), (5, _), (6, _)]) rfl ?_
    exact t_X0_mix_b88 hX hd C hn st x1 x2 x3 x4 x5 z0 h
  · have h := h.2 c32
    refine X_iload C dX0_mix_82 5 rfl ?_
    refine X_iconst (v := (-1)) C dX0_mix_84 rfl ?_
    refine X_icmp_ne (tgt := 92) C dX0_mix_85 (by decide) (fun c183 => ?_) (fun c183 => ?_)
    · have h := h.1 c183
      refine X_iconst (v := 0) C dX0_mix_92 rfl ?_
      refine X_sub [1, 2, 3, 4, 5, 6, 0] (lo2 := [(0, _), (1, _), (2, _), (3, _), (4, _), (5, _), (6, _)]) rfl ?_
      exact t_X0_mix_b93 hX hd C hn st x1 x2 x3 x4 x5 z0 0 h
    · have h := h.2 c183
      refine X_sub [1, 2, 3, 4, 5, 6, 0] (lo2 := [(0, _), (1, _), (2, _), (3, _), (4, _), (5, _), (6, _)]) rfl ?_
      exact t_X0_mix_b88 hX hd C hn st x1 x2 x3 x4 x5 z0 h
def w_X0_mix_b52 (Φ : St → Int64 → Prop) (st : St) (x1 : Int32) (x2 : Int32) (x3 : Int32) (x4 : Int32) (x5 : Int32) (z0 : Int32) : Prop := w_X0_must st z0 (fun (s11 : St) => ((x3 ≠ (-1)) → ((x4 ≠ (-1)) → w_X0_mix_b75 Φ s11 x1 x2 x3 x4 x5 3) ∧ ((x4 = (-1)) → w_X0_mix_b75 Φ s11 x1 x2 x3 x4 x5 2)) ∧ ((x3 = (-1)) → w_X0_mix_b75 Φ s11 x1 x2 x3 x4 x5 1)) (fun (s12 : St) (a13 : Nat) => w_X0_answersFar s12 a13 (fun (s17 : St) (r16 : Int64) => Φ s17 r16))
theorem t_X0_mix_b52 {θ : Th} {κ : Kx} {Ph : Ph} (hX : LX θ) {d : Nat} (hd : 7 ≤ d) (C : Cx θ κ yX0_mix cX0_mix 7 (some Jvm.ClassFile.FieldType.long) [(0, 197, 198, 377), (0, 197, 205, 1)] d) {Φ : St → Int64 → Prop} (hn : ∀ st r, Φ st r → Ph.1 st (some (.long r))) (st : St) (x1 : Int32) (x2 : Int32) (x3 : Int32) (x4 : Int32) (x5 : Int32) (z0 : Int32) (h : w_X0_mix_b52 Φ st x1 x2 x3 x4 x5 z0) : X θ κ Ph st 52 [(0, .ref (ad θ 0)), (1, .int x1), (2, .int x2), (3, .int x3), (4, .int x4), (5, .int x5)] [.int z0] := by
  unfold w_X0_mix_b52 at h
  refine X_callS (As := [_]) (rest := []) C q418 q419 q132 q420 nm_X0_must rfl dX0_mix_52 (m_X0_must (Cx_l C) hX (d := d - 1) (by omega) st z0 h) (by omega) (by decide) (Nat.le_of_ble_eq_true rfl) (fun s11 w24 hE25 hP26 => ?_) (fun s29 E27 q28 hE25 hP26 => ?_)
  rotate_left
  · rcases hP26 with ⟨rfl, a_, rfl, hb_, hs_, h⟩
    refine XT_catch C [⟨0, 197, 198, 377⟩] ⟨0, 197, 205, 1⟩ [] rfl (List.forall_mem_cons.mpr ⟨Or.inr ⟨by decide, "java/lang/ArithmeticException", q762, by decide +kernel⟩, (fun _ h => absurd h List.not_mem_nil)⟩) (by decide) (by decide) q412 q425 ?_
    refine X_astore C dX0_mix_205 (isRV_r _) (lo2 := [(6, _), (0, _), (1, _), (2, _), (3, _), (4, _), (5, _)]) (by decide) rfl ?_
    refine X_aload_n C dX0_mix_207 rfl 1 rfl (isRV_r _) ?_
    refine X_aload C dX0_mix_208 0 rfl (isRV_r _) ?_
    refine X_callVS (ci := 0) (q := (RX0, TX0, 49)) (As := [_]) (rest := []) C rfl (LX_S hX (k := 0) rfl) q745 q747 qs14 q132 q748 ⟨rfl, nm_X0_answersFar⟩ rfl dX0_mix_210 (m_X0_answersFar (Cx_l C) hX (d := d - 1) (by omega) s29 a_ hs_ hb_ h) (by omega) (by decide) (Nat.le_of_ble_eq_true rfl) (fun s17 w18 hE19 hP20 => ?_) (fun s23 E21 q22 hE19 hP20 => ?_)
    rotate_left
    · exact False.elim hP20
    obtain ⟨r16, rfl, h⟩ := hP20
    refine X_tls ?_
    have hs_ := Ext_sh hE19 hs_ (by decide)
    exact X_lret C rfl dX0_mix_213 (hn s17 _ h)
  obtain ⟨rfl, h⟩ := hP26
  refine X_tln ?_
  refine X_iload_n C dX0_mix_55 rfl 3 rfl ?_
  refine X_iconst (v := (-1)) C dX0_mix_56 rfl ?_
  refine X_icmp_ne (tgt := 64) C dX0_mix_57 (by decide) (fun c30 => ?_) (fun c30 => ?_)
  · have h := h.1 c30
    refine X_iload C dX0_mix_64 4 rfl ?_
    refine X_iconst (v := (-1)) C dX0_mix_66 rfl ?_
    refine X_icmp_ne (tgt := 74) C dX0_mix_67 (by decide) (fun c31 => ?_) (fun c31 => ?_)
    · have h := h.1 c31
      refine X_iconst (v := 3) C dX0_mix_74 rfl ?_
      exact t_X0_mix_b75 hX hd C hn s11 x1 x2 x3 x4 x5 3 h
    · have h := h.2 c31
      refine X_iconst (v := 2) C dX0_mix_70 rfl ?_
      refine X_goto (tgt := 75) C dX0_mix_71 (by decide) ?_
      exact t_X0_mix_b75 hX hd C hn s11 x1 x2 x3 x4 x5 2 h
  · have h := h.2 c30
    refine X_iconst (v := 1) C dX0_mix_60 rfl ?_
    refine X_goto (tgt := 75) C dX0_mix_61 (by decide) ?_
    exact t_X0_mix_b75 hX hd C hn s11 x1 x2 x3 x4 x5 1 h
def w_X0_mix_b51 (Φ : St → Int64 → Prop) (st : St) (x1 : Int32) (x2 : Int32) (x3 : Int32) (x4 : Int32) (x5 : Int32) : Prop := w_X0_mix_b52 Φ st x1 x2 x3 x4 x5 0
theorem t_X0_mix_b51 {θ : Th} {κ : Kx} {Ph : Ph} (hX : LX θ) {d : Nat} (hd : 7 ≤ d) (C : Cx θ κ yX0_mix cX0_mix 7 (some Jvm.ClassFile.FieldType.long) [(0, 197, 198, 377), (0, 197, 205, 1)] d) {Φ : St → Int64 → Prop} (hn : ∀ st r, Φ st r → Ph.1 st (some (.long r))) (st : St) (x1 : Int32) (x2 : Int32) (x3 : Int32) (x4 : Int32) (x5 : Int32) (h : w_X0_mix_b51 Φ st x1 x2 x3 x4 x5) : X θ κ Ph st 51 [(0, .ref (ad θ 0)), (1, .int x1), (2, .int x2), (3, .int x3), (4, .int x4), (5, .int x5)] [] := by
  unfold w_X0_mix_b51 at h
  refine X_iconst (v := 0) C dX0_mix_51 rfl ?_
  exact t_X0_mix_b52 hX hd C hn st x1 x2 x3 x4 x5 0 h
def w_X0_mix (st : St) (p1 : Int32) (p2 : Int32) (p3 : Int32) (p4 : Int32) (p5 : Int32) (Φ : St → Int64 → Prop) : Prop := w_X1_isPoint 2 st p1 (fun (r1 : Int32) => ((r1 = 0) → w_X0_mix_b51 Φ st p1 p2 p3 p4 p5) ∧ ((¬ r1 = 0) → w_X1_isPoint 2 st p2 (fun (r184 : Int32) => ((r184 = 0) → w_X0_mix_b51 Φ st p1 p2 p3 p4 p5) ∧ ((¬ r184 = 0) → w_X0_isToldPoint st p3 (fun (r193 : Int32) => ((r193 = 0) → w_X0_mix_b51 Φ st p1 p2 p3 p4 p5) ∧ ((¬ r193 = 0) → w_X0_isToldPoint st p4 (fun (r202 : Int32) => ((r202 = 0) → w_X0_mix_b51 Φ st p1 p2 p3 p4 p5) ∧ ((¬ r202 = 0) → w_X0_isPart p5 (fun (r211 : Int32) => ((r211 = 0) → w_X0_mix_b51 Φ st p1 p2 p3 p4 p5) ∧ ((¬ r211 = 0) → w_X0_mix_b52 Φ st p1 p2 p3 p4 p5 1))))))))))
theorem nm_X0_mix : yX0_mix.cls ≠ "java/lang/invoke/MethodHandle" ∧ yX0_mix.cls ≠ "java/lang/invoke/VarHandle" ∧ (parseMethodDescriptor yX0_mix.desc).map (fun d => d.parameters.length) = some 5 := by decide +kernel
theorem e_X0_mix : plainFor yX0_mix = true := plainFor_of_name (by decide +kernel)
theorem m_X0_mix {θ : Th} {l : Launch} (hl0 : l.stackTraces = false) (hX : LX θ) {d : Nat} (hd : 7 ≤ d) (st : St) (p1 : Int32) (p2 : Int32) (p3 : Int32) (p4 : Int32) (p5 : Int32) {Φ : St → Int64 → Prop} (h : w_X0_mix st p1 p2 p3 p4 p5 Φ) : Ct θ l yX0_mix (wsW_ yX0_mix cX0_mix 7 (some Jvm.ClassFile.FieldType.long) [(0, 197, 198, 377), (0, 197, 205, 1)]) d [.ref (ad θ 0), .int p1, .int p2, .int p3, .int p4, .int p5] st (pL Φ, noX) := by
  refine Ct_entryW hl0 e_X0_mix (Nat.le_of_ble_eq_true rfl) (fun κ hκ _ C => ?_)
  have hn : ∀ st r, Φ st r → ((pL Φ, noX) : Ph).1 st (some (.long r)) := fun st r q => ⟨r, rfl, q⟩
  change X _ _ _ _ _ [(0, .ref (ad θ 0)), (1, .int p1), (2, .int p2), (3, .int p3), (4, .int p4), (5, .int p5)] _
  unfold w_X0_mix at h
  refine X_aload_n C dX0_mix_0 rfl 0 rfl (isRV_r _) ?_
  refine X_getF (ci := 0) (j := 1) (q := (RX0, TX0, 49)) C rfl (by decide) q261 rfl dX0_mix_1 (b := 2) (LX_S hX (k := 0) rfl) (LX_F hX (k := 0) (j := 1) rfl) rfl ?_
  refine X_iload_n C dX0_mix_4 rfl 1 rfl ?_
  refine X_callVS (ci := 1) (q := (RX1, TX1, 10)) (As := [_]) (rest := []) C rfl (LH_0 (LX_H2 hX)) q619 q620 q621 q133 q622 ⟨rfl, nm_X1_isPoint⟩ rfl dX0_mix_5 (m_X1_isPoint (Cx_l C) (LX_H2 hX) (d := d - 1) (by omega) st p1 h) (by omega) (by decide) (Nat.le_of_ble_eq_true rfl) (fun s7 w2 hE3 hP4 => ?_) (fun s8 E5 q6 hE3 hP4 => ?_)
  rotate_left
  · exact False.elim hP4
  obtain ⟨r1, rfl, rfl, h⟩ := hP4
  refine X_tls ?_
  refine X_if_eq (tgt := 51) C dX0_mix_8 (by decide) (fun c9 => ?_) (fun c9 => ?_)
  · have h := h.1 c9
    exact t_X0_mix_b51 hX hd C hn st p1 p2 p3 p4 p5 h
  · have h := h.2 c9
    refine X_aload_n C dX0_mix_11 rfl 0 rfl (isRV_r _) ?_
    refine X_getF (ci := 0) (j := 1) (q := (RX0, TX0, 49)) C rfl (by decide) q261 rfl dX0_mix_12 (b := 2) (LX_S hX (k := 0) rfl) (LX_F hX (k := 0) (j := 1) rfl) rfl ?_
    refine X_iload_n C dX0_mix_15 rfl 2 rfl ?_
    refine X_callVS (ci := 1) (q := (RX1, TX1, 10)) (As := [_]) (rest := []) C rfl (LH_0 (LX_H2 hX)) q619 q620 q621 q133 q622 ⟨rfl, nm_X1_isPoint⟩ rfl dX0_mix_16 (m_X1_isPoint (Cx_l C) (LX_H2 hX) (d := d - 1) (by omega) st p2 h) (by omega) (by decide) (Nat.le_of_ble_eq_true rfl) (fun s190 w185 hE186 hP187 => ?_) (fun s191 E188 q189 hE186 hP187 => ?_)
    rotate_left
    · exact False.elim hP187
    obtain ⟨r184, rfl, rfl, h⟩ := hP187
    refine X_tls ?_
    refine X_if_eq (tgt := 51) C dX0_mix_19 (by decide) (fun c192 => ?_) (fun c192 => ?_)
    · have h := h.1 c192
      exact t_X0_mix_b51 hX hd C hn st p1 p2 p3 p4 p5 h
    · have h := h.2 c192
      refine X_aload_n C dX0_mix_22 rfl 0 rfl (isRV_r _) ?_
      refine X_iload_n C dX0_mix_23 rfl 3 rfl ?_
      refine X_callVS (ci := 0) (q := (RX0, TX0, 49)) (As := [_]) (rest := []) C rfl (LX_S hX (k := 0) rfl) q763 q765 qs16 q132 q766 ⟨rfl, nm_X0_isToldPoint⟩ rfl dX0_mix_24 (m_X0_isToldPoint (Cx_l C) hX (d := d - 1) (by omega) st p3 h) (by omega) (by decide) (Nat.le_of_ble_eq_true rfl) (fun s199 w194 hE195 hP196 => ?_) (fun s200 E197 q198 hE195 hP196 => ?_)
      rotate_left
      · exact False.elim hP196
      obtain ⟨r193, rfl, rfl, h⟩ := hP196
      refine X_tls ?_
      refine X_if_eq (tgt := 51) C dX0_mix_27 (by decide) (fun c201 => ?_) (fun c201 => ?_)
      · have h := h.1 c201
        exact t_X0_mix_b51 hX hd C hn st p1 p2 p3 p4 p5 h
      · have h := h.2 c201
        refine X_aload_n C dX0_mix_30 rfl 0 rfl (isRV_r _) ?_
        refine X_iload C dX0_mix_31 4 rfl ?_
        refine X_callVS (ci := 0) (q := (RX0, TX0, 49)) (As := [_]) (rest := []) C rfl (LX_S hX (k := 0) rfl) q763 q765 qs16 q132 q766 ⟨rfl, nm_X0_isToldPoint⟩ rfl dX0_mix_33 (m_X0_isToldPoint (Cx_l C) hX (d := d - 1) (by omega) st p4 h) (by omega) (by decide) (Nat.le_of_ble_eq_true rfl) (fun s208 w203 hE204 hP205 => ?_) (fun s209 E206 q207 hE204 hP205 => ?_)
        rotate_left
        · exact False.elim hP205
        obtain ⟨r202, rfl, rfl, h⟩ := hP205
        refine X_tls ?_
        refine X_if_eq (tgt := 51) C dX0_mix_36 (by decide) (fun c210 => ?_) (fun c210 => ?_)
        · have h := h.1 c210
          exact t_X0_mix_b51 hX hd C hn st p1 p2 p3 p4 p5 h
        · have h := h.2 c210
          refine X_iload C dX0_mix_39 5 rfl ?_
          refine X_callS (As := [_]) (rest := []) C q658 q659 q132 q660 nm_X0_isPart rfl dX0_mix_41 (m_X0_isPart (Cx_l C) (d := d - 1) (by omega) st p5 h) (by omega) (by decide) (Nat.le_of_ble_eq_true rfl) (fun s217 w212 hE213 hP214 => ?_) (fun s218 E215 q216 hE213 hP214 => ?_)
          rotate_left
          · exact False.elim hP214
          obtain ⟨r211, rfl, rfl, h⟩ := hP214
          refine X_tls ?_
          refine X_if_eq (tgt := 51) C dX0_mix_44 (by decide) (fun c219 => ?_) (fun c219 => ?_)
          · have h := h.1 c219
            exact t_X0_mix_b51 hX hd C hn st p1 p2 p3 p4 p5 h
          · have h := h.2 c219
            refine X_iconst (v := 1) C dX0_mix_47 rfl ?_
            refine X_goto (tgt := 52) C dX0_mix_48 (by decide) ?_
            exact t_X0_mix_b52 hX hd C hn st p1 p2 p3 p4 p5 1 h

def w_X0_firstSet_l2 (Φ : St → Int32 → Prop) (E20 : St → Int32 → Prop) : Nat → St → Int32 → Int32 → Prop
  | 0, _, _, _ => False
  | n + 1, st, x1, x2 => ((x1 ≤ x2) → E20 st x1) ∧ ((¬ x1 ≤ x2) → vp_in x2 3 ∧ ∀ s3, s3 = putI st 136 (x2.toNatClampNeg) x2 → w_X0_firstSet_l2 Φ E20 n s3 x1 (x2 + 1))
theorem t_X0_firstSet_l2 {θ : Th} {κ : Kx} {Ph : Ph} (hX : LX θ) {d : Nat} (hd : 0 ≤ d) (C : Cx θ κ yX0_firstSet cX0_firstSet 3 (some Jvm.ClassFile.FieldType.boolean) [] d) {Φ : St → Int32 → Prop} (hn : ∀ st r, Φ st r → Ph.1 st (some (.int r))) {E20 : St → Int32 → Prop} (hE20 : ∀ (st : St) (x1 : Int32), E20 st x1 → X θ κ Ph st 20 [(0, .ref (ad θ 0)), (1, .int x1)] []) : ∀ (n : Nat) (st : St) (x1 : Int32) (x2 : Int32), w_X0_firstSet_l2 Φ E20 n st x1 x2 → X θ κ Ph st 2 [(0, .ref (ad θ 0)), (1, .int x1), (2, .int x2)] [] := by
  intro n
  induction n with
  | zero => intro st x1 x2 h; exact h.elim
  | succ n hK2 =>
    intro st x1 x2 h
    rw [w_X0_firstSet_l2] at h
    refine X_iload_n C dX0_firstSet_2 rfl 2 rfl ?_
    refine X_iload_n C dX0_firstSet_3 rfl 1 rfl ?_
    refine X_icmp_ge (tgt := 20) C dX0_firstSet_4 (by decide) (fun c1 => ?_) (fun c1 => ?_)
    · have h := h.1 c1
      refine X_sub [0, 1] (lo2 := [(0, _), (1, _)]) rfl ?_
      exact hE20 st x1 h
    · have h := h.2 c1
      refine X_aload_n C dX0_firstSet_7 rfl 0 rfl (isRV_r _) ?_
      refine X_getF (ci := 0) (j := 21) (q := (RX0, TX0, 49)) C rfl (by decide) q281 rfl dX0_firstSet_8 (b := 136) (LX_S hX (k := 0) rfl) (LX_F hX (k := 0) (j := 21) rfl) rfl ?_
      refine X_iload_n C dX0_firstSet_11 rfl 2 rfl ?_
      refine X_iload_n C dX0_firstSet_12 rfl 2 rfl ?_
      have g2 := h.1
      have h := h.2
      refine X_iastS C (LX_S hX (k := 136) rfl) (LX_L hX (k := 136) rfl) g2 rfl dX0_firstSet_13 ?_
      refine X_nm (fun s3 e4 => ?_)
      have h := h s3 e4
      refine X_iinc (v := (x2 + 1)) C (j := 2) dX0_firstSet_14 rfl rfl (lo2 := [(2, _), (0, _), (1, _)]) (by decide) rfl ?_
      refine X_goto (tgt := 2) C dX0_firstSet_17 (by decide) ?_
      refine X_sub [1, 2, 0] (lo2 := [(0, _), (1, _), (2, _)]) rfl ?_
      exact hK2 s3 x1 (x2 + 1) h
def w_X0_firstSet_b20 (Φ : St → Int32 → Prop) (st : St) (x1 : Int32) : Prop := (((sI st 2 9) < x1) → Φ st 0) ∧ ((¬ (sI st 2 9) < x1) → Φ st 1)
theorem t_X0_firstSet_b20 {θ : Th} {κ : Kx} {Ph : Ph} (hX : LX θ) {d : Nat} (hd : 0 ≤ d) (C : Cx θ κ yX0_firstSet cX0_firstSet 3 (some Jvm.ClassFile.FieldType.boolean) [] d) {Φ : St → Int32 → Prop} (hn : ∀ st r, Φ st r → Ph.1 st (some (.int r))) (st : St) (x1 : Int32) (h : w_X0_firstSet_b20 Φ st x1) : X θ κ Ph st 20 [(0, .ref (ad θ 0)), (1, .int x1)] [] := by
  unfold w_X0_firstSet_b20 at h
  refine X_iload_n C dX0_firstSet_20 rfl 1 rfl ?_
  refine X_aload_n C dX0_firstSet_21 rfl 0 rfl (isRV_r _) ?_
  refine X_getF (ci := 0) (j := 1) (q := (RX0, TX0, 49)) C rfl (by decide) q261 rfl dX0_firstSet_22 (b := 2) (LX_S hX (k := 0) rfl) (LX_F hX (k := 0) (j := 1) rfl) rfl ?_
  refine X_getNS (ci := 1) (j := 9) (q := (RX1, TX1, 10)) C rfl (by decide) q207 rfl dX0_firstSet_25 (LH_0 (LX_H2 hX)) (v := .int (sI st 2 9)) rfl ?_
  refine X_icmp_gt (tgt := 35) C dX0_firstSet_28 (by decide) (fun c6 => ?_) (fun c6 => ?_)
  · have h := h.1 c6
    refine X_iconst (v := 0) C dX0_firstSet_35 rfl ?_
    exact X_zret C rfl rfl dX0_firstSet_36 (hn st _ h)
  · have h := h.2 c6
    refine X_iconst (v := 1) C dX0_firstSet_31 rfl ?_
    refine X_goto (tgt := 36) C dX0_firstSet_32 (by decide) ?_
    exact X_zret C rfl rfl dX0_firstSet_36 (hn st _ h)
def w_X0_firstSet (st : St) (p1 : Int32) (Φ : St → Int32 → Prop) : Prop := w_X0_firstSet_l2 Φ (fun (s5 : St) (x1 : Int32) => w_X0_firstSet_b20 Φ s5 x1) gFU st p1 0
theorem nm_X0_firstSet : yX0_firstSet.cls ≠ "java/lang/invoke/MethodHandle" ∧ yX0_firstSet.cls ≠ "java/lang/invoke/VarHandle" ∧ (parseMethodDescriptor yX0_firstSet.desc).map (fun d => d.parameters.length) = some 1 := by decide +kernel
theorem e_X0_firstSet : plainFor yX0_firstSet = true := plainFor_of_name (by decide +kernel)
theorem m_X0_firstSet {θ : Th} {l : Launch} (hl0 : l.stackTraces = false) (hX : LX θ) {d : Nat} (hd : 0 ≤ d) (st : St) (p1 : Int32) {Φ : St → Int32 → Prop} (h : w_X0_firstSet st p1 Φ) : Ct θ l yX0_firstSet (ws_ yX0_firstSet cX0_firstSet 3 (some Jvm.ClassFile.FieldType.boolean)) d [.ref (ad θ 0), .int p1] st (pI Φ, noX) := by
  refine Ct_entry hl0 e_X0_firstSet (Nat.le_of_ble_eq_true rfl) (fun κ hκ _ C => ?_)
  have hn : ∀ st r, Φ st r → ((pI Φ, noX) : Ph).1 st (some (.int r)) := fun st r q => ⟨r, rfl, q⟩
  change X _ _ _ _ _ [(0, .ref (ad θ 0)), (1, .int p1)] _
  unfold w_X0_firstSet at h
  refine X_iconst (v := 0) C dX0_firstSet_0 rfl ?_
  refine X_istore_n C dX0_firstSet_1 rfl (lo2 := [(2, _), (0, _), (1, _)]) (by decide) rfl ?_
  refine X_sub [1, 2, 0] (lo2 := [(0, _), (1, _), (2, _)]) rfl ?_
  refine t_X0_firstSet_l2 hX hd C hn ?_ gFU st p1 0 h
  · intro s5 x1 h
    exact t_X0_firstSet_b20 hX hd C hn s5 x1 h

def w_X0_keepsBest_l19 (Φ : St → Prop) (E58 : St → Prop) : Nat → St → Int32 → Int32 → Prop
  | 0, _, _, _ => False
  | n + 1, st, x1, x2 => ((x1 ≤ x2) → E58 st) ∧ ((¬ x1 ≤ x2) → vp_in x2 3 ∧ ∀ s19, s19 = putI st 137 (x2.toNatClampNeg) (sI st 136 x2.toNatClampNeg) → w_X2_as s19 (165 + 2 * x2.toNatClampNeg) (164 + 2 * x2.toNatClampNeg) (fun (s26 : St) (r25 : Nat) => w_X0_keepsBest_l19 Φ E58 n s26 x1 (x2 + 1)))
theorem t_X0_keepsBest_l19 {θ : Th} {κ : Kx} {Ph : Ph} (hX : LX θ) {d : Nat} (hd : 1 ≤ d) (C : Cx θ κ yX0_keepsBest cX0_keepsBest 3 (none : Option Jvm.ClassFile.FieldType) [] d) {Φ : St → Prop} (hn : ∀ st, Φ st → Ph.1 st none) {E58 : St → Prop} (hE58 : ∀ (st : St), E58 st → X θ κ Ph st 58 [] []) : ∀ (n : Nat) (st : St) (x1 : Int32) (x2 : Int32), w_X0_keepsBest_l19 Φ E58 n st x1 x2 → X θ κ Ph st 19 [(0, .ref (ad θ 0)), (1, .int x1), (2, .int x2)] [] := by
  intro n
  induction n with
  | zero => intro st x1 x2 h; exact h.elim
  | succ n hK19 =>
    intro st x1 x2 h
    rw [w_X0_keepsBest_l19] at h
    refine X_iload_n C dX0_keepsBest_19 rfl 2 rfl ?_
    refine X_iload_n C dX0_keepsBest_20 rfl 1 rfl ?_
    refine X_icmp_ge (tgt := 58) C dX0_keepsBest_21 (by decide) (fun c17 => ?_) (fun c17 => ?_)
    · have h := h.1 c17
      refine X_sub [] (lo2 := []) rfl ?_
      exact hE58 st h
    · have h := h.2 c17
      refine X_aload_n C dX0_keepsBest_24 rfl 0 rfl (isRV_r _) ?_
      refine X_getF (ci := 0) (j := 22) (q := (RX0, TX0, 49)) C rfl (by decide) q282 rfl dX0_keepsBest_25 (b := 137) (LX_S hX (k := 0) rfl) (LX_F hX (k := 0) (j := 22) rfl) rfl ?_
      refine X_iload_n C dX0_keepsBest_28 rfl 2 rfl ?_
      refine X_aload_n C dX0_keepsBest_29 rfl 0 rfl (isRV_r _) ?_
      refine X_getF (ci := 0) (j := 21) (q := (RX0, TX0, 49)) C rfl (by decide) q281 rfl dX0_keepsBest_30 (b := 136) (LX_S hX (k := 0) rfl) (LX_F hX (k := 0) (j := 21) rfl) rfl ?_
      refine X_iload_n C dX0_keepsBest_33 rfl 2 rfl ?_
      have g18 := h.1
      have h := h.2
      refine X_ialdS C (LX_S hX (k := 136) rfl) (LX_L hX (k := 136) rfl) g18 rfl dX0_keepsBest_34 ?_
      refine X_iastS C (LX_S hX (k := 137) rfl) (LX_L hX (k := 137) rfl) g18 rfl dX0_keepsBest_35 ?_
      refine X_nm (fun s19 e20 => ?_)
      have h := h s19 e20
      refine X_aload_n C dX0_keepsBest_36 rfl 0 rfl (isRV_r _) ?_
      refine X_getF (ci := 0) (j := 20) (q := (RX0, TX0, 49)) C rfl (by decide) q280 rfl dX0_keepsBest_37 (b := 135) (LX_S hX (k := 0) rfl) (LX_F hX (k := 0) (j := 20) rfl) rfl ?_
      refine X_iload_n C dX0_keepsBest_40 rfl 2 rfl ?_
      refine X_aaldF C 9 rfl (LX_S hX (k := 135) rfl) (by decide) rfl (LX_L hX (k := 135) rfl) g18 rfl (b := (165 + 2 * x2.toNatClampNeg)) (LXf_bestW hX (i := x2.toNatClampNeg) (in_lt g18)).2 dX0_keepsBest_41 rfl ?_
      refine X_aload_n C dX0_keepsBest_42 rfl 0 rfl (isRV_r _) ?_
      refine X_getF (ci := 0) (j := 19) (q := (RX0, TX0, 49)) C rfl (by decide) q279 rfl dX0_keepsBest_43 (b := 134) (LX_S hX (k := 0) rfl) (LX_F hX (k := 0) (j := 19) rfl) rfl ?_
      refine X_iload_n C dX0_keepsBest_46 rfl 2 rfl ?_
      refine X_aaldF C 9 rfl (LX_S hX (k := 134) rfl) (by decide) rfl (LX_L hX (k := 134) rfl) g18 rfl (b := (164 + 2 * x2.toNatClampNeg)) (LXf_weight hX (i := x2.toNatClampNeg) (in_lt g18)).2 dX0_keepsBest_47 rfl ?_
      refine X_sh (LXf_bestW hX (i := x2.toNatClampNeg) (in_lt g18)).1 (by decide) (fun hs21 hb22 => ?_)
      refine X_sh (LXf_weight hX (i := x2.toNatClampNeg) (in_lt g18)).1 (by decide) (fun hs23 hb24 => ?_)
      refine X_callV (ci := 2) (q := (RX2, TX2, 2)) (As := [_]) (rest := []) C rfl hs21 q798 q799 q800 q134 q801 ⟨rfl, nm_X2_as⟩ rfl dX0_keepsBest_48 (m_X2_as (Cx_l C) (d := d - 1) (by omega) s19 (165 + 2 * x2.toNatClampNeg) (164 + 2 * x2.toNatClampNeg) hs21 hb22 hs23 hb24 h) (by omega) (by decide) (Nat.le_of_ble_eq_true rfl) (fun s26 w27 hE28 hP29 => ?_) (fun s32 E30 q31 hE28 hP29 => ?_)
      rotate_left
      · exact False.elim hP29
      obtain ⟨r25, rfl, hb33, hs34, h⟩ := hP29
      refine X_tls ?_
      refine X_pop C dX0_keepsBest_51 rfl ?_
      refine X_iinc (v := (x2 + 1)) C (j := 2) dX0_keepsBest_52 rfl rfl (lo2 := [(2, _), (0, _), (1, _)]) (by decide) rfl ?_
      refine X_goto (tgt := 19) C dX0_keepsBest_55 (by decide) ?_
      refine X_sub [1, 2, 0] (lo2 := [(0, _), (1, _), (2, _)]) rfl ?_
      exact hK19 s26 x1 (x2 + 1) h
def w_X0_keepsBest_b58 (Φ : St → Prop) (st : St) : Prop := Φ st
theorem t_X0_keepsBest_b58 {θ : Th} {κ : Kx} {Ph : Ph} (hX : LX θ) {d : Nat} (hd : 1 ≤ d) (C : Cx θ κ yX0_keepsBest cX0_keepsBest 3 (none : Option Jvm.ClassFile.FieldType) [] d) {Φ : St → Prop} (hn : ∀ st, Φ st → Ph.1 st none) (st : St) (h : w_X0_keepsBest_b58 Φ st) : X θ κ Ph st 58 [] [] := by
  unfold w_X0_keepsBest_b58 at h
  exact X_vret C rfl dX0_keepsBest_58 (hn st h)
def w_X0_keepsBest (st : St) (p1 : Int32) (Φ : St → Prop) : Prop := ∀ s1, s1 = putI st 0 23 p1 → w_X2_as s1 140 139 (fun (s8 : St) (r7 : Nat) => w_X0_keepsBest_l19 Φ (fun (s35 : St) => w_X0_keepsBest_b58 Φ s35) gFU s8 p1 0)
theorem nm_X0_keepsBest : yX0_keepsBest.cls ≠ "java/lang/invoke/MethodHandle" ∧ yX0_keepsBest.cls ≠ "java/lang/invoke/VarHandle" ∧ (parseMethodDescriptor yX0_keepsBest.desc).map (fun d => d.parameters.length) = some 1 := by decide +kernel
theorem e_X0_keepsBest : plainFor yX0_keepsBest = true := plainFor_of_name (by decide +kernel)
theorem m_X0_keepsBest {θ : Th} {l : Launch} (hl0 : l.stackTraces = false) (hX : LX θ) {d : Nat} (hd : 1 ≤ d) (st : St) (p1 : Int32) {Φ : St → Prop} (h : w_X0_keepsBest st p1 Φ) : Ct θ l yX0_keepsBest (ws_ yX0_keepsBest cX0_keepsBest 3 (none : Option Jvm.ClassFile.FieldType)) d [.ref (ad θ 0), .int p1] st (pV Φ, noX) := by
  refine Ct_entry hl0 e_X0_keepsBest (Nat.le_of_ble_eq_true rfl) (fun κ hκ _ C => ?_)
  have hn : ∀ st, Φ st → ((pV Φ, noX) : Ph).1 st none := fun st q => ⟨rfl, q⟩
  change X _ _ _ _ _ [(0, .ref (ad θ 0)), (1, .int p1)] _
  unfold w_X0_keepsBest at h
  refine X_aload_n C dX0_keepsBest_0 rfl 0 rfl (isRV_r _) ?_
  refine X_iload_n C dX0_keepsBest_1 rfl 1 rfl ?_
  refine X_putSI (ci := 0) (j := 23) (q := (RX0, TX0, 49)) C rfl (by decide) q283 rfl rfl dX0_keepsBest_2 (LX_S hX (k := 0) rfl) rfl rfl rfl ?_
  refine X_nm (fun s1 e2 => ?_)
  have h := h s1 e2
  refine X_aload_n C dX0_keepsBest_5 rfl 0 rfl (isRV_r _) ?_
  refine X_getF (ci := 0) (j := 26) (q := (RX0, TX0, 49)) C rfl (by decide) q286 rfl dX0_keepsBest_6 (b := 140) (LX_S hX (k := 0) rfl) (LX_F hX (k := 0) (j := 26) rfl) rfl ?_
  refine X_aload_n C dX0_keepsBest_9 rfl 0 rfl (isRV_r _) ?_
  refine X_getF (ci := 0) (j := 25) (q := (RX0, TX0, 49)) C rfl (by decide) q285 rfl dX0_keepsBest_10 (b := 139) (LX_S hX (k := 0) rfl) (LX_F hX (k := 0) (j := 25) rfl) rfl ?_
  refine X_sh (LX_S hX (k := 140) rfl) (by decide) (fun hs3 hb4 => ?_)
  refine X_sh (LX_S hX (k := 139) rfl) (by decide) (fun hs5 hb6 => ?_)
  refine X_callV (ci := 2) (q := (RX2, TX2, 2)) (As := [_]) (rest := []) C rfl hs3 q798 q799 q800 q134 q801 ⟨rfl, nm_X2_as⟩ rfl dX0_keepsBest_13 (m_X2_as (Cx_l C) (d := d - 1) (by omega) s1 140 139 hs3 hb4 hs5 hb6 h) (by omega) (by decide) (Nat.le_of_ble_eq_true rfl) (fun s8 w9 hE10 hP11 => ?_) (fun s14 E12 q13 hE10 hP11 => ?_)
  rotate_left
  · exact False.elim hP11
  obtain ⟨r7, rfl, hb15, hs16, h⟩ := hP11
  refine X_tls ?_
  refine X_pop C dX0_keepsBest_16 rfl ?_
  refine X_iconst (v := 0) C dX0_keepsBest_17 rfl ?_
  refine X_istore_n C dX0_keepsBest_18 rfl (lo2 := [(2, _), (0, _), (1, _)]) (by decide) rfl ?_
  refine X_sub [1, 2, 0] (lo2 := [(0, _), (1, _), (2, _)]) rfl ?_
  refine t_X0_keepsBest_l19 hX hd C hn ?_ gFU s8 p1 0 h
  · intro s35 h
    exact t_X0_keepsBest_b58 hX hd C hn s35 h

def w_X0_nextPoints_l4 (Φ : St → Int32 → Prop) (E34 : St → Int32 → Int32 → Prop) : Nat → St → Int32 → Int32 → Prop
  | 0, _, _, _ => False
  | n + 1, st, x1, x2 => ((x2 < 0) → E34 st x1 x2) ∧ ((¬ x2 < 0) → vp_in x2 3 ∧ (((sI st 136 x2.toNatClampNeg) ≠ (((sI st 2 9) - x1) + x2)) → E34 st x1 x2) ∧ (((sI st 136 x2.toNatClampNeg) = (((sI st 2 9) - x1) + x2)) → w_X0_nextPoints_l4 Φ E34 n st x1 (x2 + (-1))))
theorem t_X0_nextPoints_l4 {θ : Th} {κ : Kx} {Ph : Ph} (hX : LX θ) {d : Nat} (hd : 0 ≤ d) (C : Cx θ κ yX0_nextPoints cX0_nextPoints 4 (some Jvm.ClassFile.FieldType.boolean) [] d) {Φ : St → Int32 → Prop} (hn : ∀ st r, Φ st r → Ph.1 st (some (.int r))) {E34 : St → Int32 → Int32 → Prop} (hE34 : ∀ (st : St) (x1 : Int32) (x2 : Int32), E34 st x1 x2 → X θ κ Ph st 34 [(0, .ref (ad θ 0)), (1, .int x1), (2, .int x2)] []) : ∀ (n : Nat) (st : St) (x1 : Int32) (x2 : Int32), w_X0_nextPoints_l4 Φ E34 n st x1 x2 → X θ κ Ph st 4 [(0, .ref (ad θ 0)), (1, .int x1), (2, .int x2)] [] := by
  intro n
  induction n with
  | zero => intro st x1 x2 h; exact h.elim
  | succ n hK4 =>
    intro st x1 x2 h
    rw [w_X0_nextPoints_l4] at h
    refine X_iload_n C dX0_nextPoints_4 rfl 2 rfl ?_
    refine X_if_lt (tgt := 34) C dX0_nextPoints_5 (by decide) (fun c3 => ?_) (fun c3 => ?_)
    · have h := h.1 c3
      exact hE34 st x1 x2 h
    · have h := h.2 c3
      refine X_aload_n C dX0_nextPoints_8 rfl 0 rfl (isRV_r _) ?_
      refine X_getF (ci := 0) (j := 21) (q := (RX0, TX0, 49)) C rfl (by decide) q281 rfl dX0_nextPoints_9 (b := 136) (LX_S hX (k := 0) rfl) (LX_F hX (k := 0) (j := 21) rfl) rfl ?_
      refine X_iload_n C dX0_nextPoints_12 rfl 2 rfl ?_
      have g4 := h.1
      have h := h.2
      refine X_ialdS C (LX_S hX (k := 136) rfl) (LX_L hX (k := 136) rfl) g4 rfl dX0_nextPoints_13 ?_
      refine X_aload_n C dX0_nextPoints_14 rfl 0 rfl (isRV_r _) ?_
      refine X_getF (ci := 0) (j := 1) (q := (RX0, TX0, 49)) C rfl (by decide) q261 rfl dX0_nextPoints_15 (b := 2) (LX_S hX (k := 0) rfl) (LX_F hX (k := 0) (j := 1) rfl) rfl ?_
      refine X_getNS (ci := 1) (j := 9) (q := (RX1, TX1, 10)) C rfl (by decide) q207 rfl dX0_nextPoints_18 (LH_0 (LX_H2 hX)) (v := .int (sI st 2 9)) rfl ?_
      refine X_iload_n C dX0_nextPoints_21 rfl 1 rfl ?_
      refine X_isub C dX0_nextPoints_22 ?_
      refine X_iload_n C dX0_nextPoints_23 rfl 2 rfl ?_
      refine X_iadd C dX0_nextPoints_24 ?_
      refine X_icmp_ne (tgt := 34) C dX0_nextPoints_25 (by decide) (fun c5 => ?_) (fun c5 => ?_)
      · have h := h.1 c5
        exact hE34 st x1 x2 h
      · have h := h.2 c5
        refine X_iinc (v := (x2 + (-1))) C (j := 2) dX0_nextPoints_28 rfl rfl (lo2 := [(2, _), (0, _), (1, _)]) (by decide) rfl ?_
        refine X_goto (tgt := 4) C dX0_nextPoints_31 (by decide) ?_
        refine X_sub [1, 2, 0] (lo2 := [(0, _), (1, _), (2, _)]) rfl ?_
        exact hK4 st x1 (x2 + (-1)) h
def w_X0_nextPoints_l54 (Φ : St → Int32 → Prop) (E81 : St → Prop) : Nat → St → Int32 → Int32 → Prop
  | 0, _, _, _ => False
  | n + 1, st, x1, x3 => ((x1 ≤ x3) → E81 st) ∧ ((¬ x1 ≤ x3) → vp_in (x3 - 1) 3 ∧ vp_in x3 3 ∧ ∀ s16, s16 = putI st 136 (x3.toNatClampNeg) ((sI st 136 (x3 - 1).toNatClampNeg) + 1) → w_X0_nextPoints_l54 Φ E81 n s16 x1 (x3 + 1))
theorem t_X0_nextPoints_l54 {θ : Th} {κ : Kx} {Ph : Ph} (hX : LX θ) {d : Nat} (hd : 0 ≤ d) (C : Cx θ κ yX0_nextPoints cX0_nextPoints 4 (some Jvm.ClassFile.FieldType.boolean) [] d) {Φ : St → Int32 → Prop} (hn : ∀ st r, Φ st r → Ph.1 st (some (.int r))) {E81 : St → Prop} (hE81 : ∀ (st : St), E81 st → X θ κ Ph st 81 [] []) : ∀ (n : Nat) (st : St) (x1 : Int32) (x3 : Int32), w_X0_nextPoints_l54 Φ E81 n st x1 x3 → X θ κ Ph st 54 [(0, .ref (ad θ 0)), (1, .int x1), (3, .int x3)] [] := by
  intro n
  induction n with
  | zero => intro st x1 x3 h; exact h.elim
  | succ n hK54 =>
    intro st x1 x3 h
    rw [w_X0_nextPoints_l54] at h
    refine X_iload_n C dX0_nextPoints_54 rfl 2 rfl ?_
    refine X_iload_n C dX0_nextPoints_55 rfl 1 rfl ?_
    refine X_icmp_ge (tgt := 81) C dX0_nextPoints_56 (by decide) (fun c13 => ?_) (fun c13 => ?_)
    · have h := h.1 c13
      refine X_sub [] (lo2 := []) rfl ?_
      exact hE81 st h
    · have h := h.2 c13
      refine X_aload_n C dX0_nextPoints_59 rfl 0 rfl (isRV_r _) ?_
      refine X_getF (ci := 0) (j := 21) (q := (RX0, TX0, 49)) C rfl (by decide) q281 rfl dX0_nextPoints_60 (b := 136) (LX_S hX (k := 0) rfl) (LX_F hX (k := 0) (j := 21) rfl) rfl ?_
      refine X_iload_n C dX0_nextPoints_63 rfl 2 rfl ?_
      refine X_aload_n C dX0_nextPoints_64 rfl 0 rfl (isRV_r _) ?_
      refine X_getF (ci := 0) (j := 21) (q := (RX0, TX0, 49)) C rfl (by decide) q281 rfl dX0_nextPoints_65 (b := 136) (LX_S hX (k := 0) rfl) (LX_F hX (k := 0) (j := 21) rfl) rfl ?_
      refine X_iload_n C dX0_nextPoints_68 rfl 2 rfl ?_
      refine X_iconst (v := 1) C dX0_nextPoints_69 rfl ?_
      refine X_isub C dX0_nextPoints_70 ?_
      have g14 := h.1
      have h := h.2
      refine X_ialdS C (LX_S hX (k := 136) rfl) (LX_L hX (k := 136) rfl) g14 rfl dX0_nextPoints_71 ?_
      refine X_iconst (v := 1) C dX0_nextPoints_72 rfl ?_
      refine X_iadd C dX0_nextPoints_73 ?_
      have g15 := h.1
      have h := h.2
      refine X_iastS C (LX_S hX (k := 136) rfl) (LX_L hX (k := 136) rfl) g15 rfl dX0_nextPoints_74 ?_
      refine X_nm (fun s16 e17 => ?_)
      have h := h s16 e17
      refine X_iinc (v := (x3 + 1)) C (j := 2) dX0_nextPoints_75 rfl rfl (lo2 := [(3, _), (0, _), (1, _)]) (by decide) rfl ?_
      refine X_goto (tgt := 54) C dX0_nextPoints_78 (by decide) ?_
      refine X_sub [1, 2, 0] (lo2 := [(0, _), (1, _), (3, _)]) rfl ?_
      exact hK54 s16 x1 (x3 + 1) h
def w_X0_nextPoints_b81 (Φ : St → Int32 → Prop) (st : St) : Prop := Φ st 1
theorem t_X0_nextPoints_b81 {θ : Th} {κ : Kx} {Ph : Ph} (hX : LX θ) {d : Nat} (hd : 0 ≤ d) (C : Cx θ κ yX0_nextPoints cX0_nextPoints 4 (some Jvm.ClassFile.FieldType.boolean) [] d) {Φ : St → Int32 → Prop} (hn : ∀ st r, Φ st r → Ph.1 st (some (.int r))) (st : St) (h : w_X0_nextPoints_b81 Φ st) : X θ κ Ph st 81 [] [] := by
  unfold w_X0_nextPoints_b81 at h
  refine X_iconst (v := 1) C dX0_nextPoints_81 rfl ?_
  exact X_zret C rfl rfl dX0_nextPoints_82 (hn st _ h)
def w_X0_nextPoints_b34 (Φ : St → Int32 → Prop) (st : St) (x1 : Int32) (x2 : Int32) : Prop := ((0 ≤ x2) → vp_in x2 3 ∧ ∀ s9, s9 = putI st 136 (x2.toNatClampNeg) ((sI st 136 x2.toNatClampNeg) + 1) → ∀ v11 : Int32, v11 = (x2 + 1) → w_X0_nextPoints_l54 Φ (fun (s18 : St) => w_X0_nextPoints_b81 Φ s18) gFU s9 x1 v11) ∧ ((¬ 0 ≤ x2) → Φ st 0)
theorem t_X0_nextPoints_b34 {θ : Th} {κ : Kx} {Ph : Ph} (hX : LX θ) {d : Nat} (hd : 0 ≤ d) (C : Cx θ κ yX0_nextPoints cX0_nextPoints 4 (some Jvm.ClassFile.FieldType.boolean) [] d) {Φ : St → Int32 → Prop} (hn : ∀ st r, Φ st r → Ph.1 st (some (.int r))) (st : St) (x1 : Int32) (x2 : Int32) (h : w_X0_nextPoints_b34 Φ st x1 x2) : X θ κ Ph st 34 [(0, .ref (ad θ 0)), (1, .int x1), (2, .int x2)] [] := by
  unfold w_X0_nextPoints_b34 at h
  refine X_iload_n C dX0_nextPoints_34 rfl 2 rfl ?_
  refine X_if_ge (tgt := 40) C dX0_nextPoints_35 (by decide) (fun c7 => ?_) (fun c7 => ?_)
  · have h := h.1 c7
    refine X_aload_n C dX0_nextPoints_40 rfl 0 rfl (isRV_r _) ?_
    refine X_getF (ci := 0) (j := 21) (q := (RX0, TX0, 49)) C rfl (by decide) q281 rfl dX0_nextPoints_41 (b := 136) (LX_S hX (k := 0) rfl) (LX_F hX (k := 0) (j := 21) rfl) rfl ?_
    refine X_iload_n C dX0_nextPoints_44 rfl 2 rfl ?_
    refine X_dup2 C dX0_nextPoints_45 rfl rfl ?_
    have g8 := h.1
    have h := h.2
    refine X_ialdS C (LX_S hX (k := 136) rfl) (LX_L hX (k := 136) rfl) g8 rfl dX0_nextPoints_46 ?_
    refine X_iconst (v := 1) C dX0_nextPoints_47 rfl ?_
    refine X_iadd C dX0_nextPoints_48 ?_
    refine X_iastS C (LX_S hX (k := 136) rfl) (LX_L hX (k := 136) rfl) g8 rfl dX0_nextPoints_49 ?_
    refine X_nm (fun s9 e10 => ?_)
    have h := h s9 e10
    refine X_iload_n C dX0_nextPoints_50 rfl 2 rfl ?_
    refine X_iconst (v := 1) C dX0_nextPoints_51 rfl ?_
    refine X_iadd C dX0_nextPoints_52 ?_
    refine X_topi (fun v11 e12 => ?_)
    have h := h v11 e12
    refine X_istore_n C dX0_nextPoints_53 rfl (lo2 := [(3, _), (0, _), (1, _), (2, _)]) (by decide) rfl ?_
    refine X_sub [1, 2, 0] (lo2 := [(0, _), (1, _), (3, _)]) rfl ?_
    refine t_X0_nextPoints_l54 hX hd C hn ?_ gFU s9 x1 v11 h
    · intro s18 h
      exact t_X0_nextPoints_b81 hX hd C hn s18 h
  · have h := h.2 c7
    refine X_iconst (v := 0) C dX0_nextPoints_38 rfl ?_
    exact X_zret C rfl rfl dX0_nextPoints_39 (hn st _ h)
def w_X0_nextPoints (st : St) (p1 : Int32) (Φ : St → Int32 → Prop) : Prop := ∀ v1 : Int32, v1 = (p1 - 1) → w_X0_nextPoints_l4 Φ (fun (s6 : St) (x1 : Int32) (x2 : Int32) => w_X0_nextPoints_b34 Φ s6 x1 x2) gFU st p1 v1
theorem nm_X0_nextPoints : yX0_nextPoints.cls ≠ "java/lang/invoke/MethodHandle" ∧ yX0_nextPoints.cls ≠ "java/lang/invoke/VarHandle" ∧ (parseMethodDescriptor yX0_nextPoints.desc).map (fun d => d.parameters.length) = some 1 := by decide +kernel
theorem e_X0_nextPoints : plainFor yX0_nextPoints = true := plainFor_of_name (by decide +kernel)
theorem m_X0_nextPoints {θ : Th} {l : Launch} (hl0 : l.stackTraces = false) (hX : LX θ) {d : Nat} (hd : 0 ≤ d) (st : St) (p1 : Int32) {Φ : St → Int32 → Prop} (h : w_X0_nextPoints st p1 Φ) : Ct θ l yX0_nextPoints (ws_ yX0_nextPoints cX0_nextPoints 4 (some Jvm.ClassFile.FieldType.boolean)) d [.ref (ad θ 0), .int p1] st (pI Φ, noX) := by
  refine Ct_entry hl0 e_X0_nextPoints (Nat.le_of_ble_eq_true rfl) (fun κ hκ _ C => ?_)
  have hn : ∀ st r, Φ st r → ((pI Φ, noX) : Ph).1 st (some (.int r)) := fun st r q => ⟨r, rfl, q⟩
  change X _ _ _ _ _ [(0, .ref (ad θ 0)), (1, .int p1)] _
  unfold w_X0_nextPoints at h
  refine X_iload_n C dX0_nextPoints_0 rfl 1 rfl ?_
  refine X_iconst (v := 1) C dX0_nextPoints_1 rfl ?_
  refine X_isub C dX0_nextPoints_2 ?_
  refine X_topi (fun v1 e2 => ?_)
  have h := h v1 e2
  refine X_istore_n C dX0_nextPoints_3 rfl (lo2 := [(2, _), (0, _), (1, _)]) (by decide) rfl ?_
  refine X_sub [1, 2, 0] (lo2 := [(0, _), (1, _), (2, _)]) rfl ?_
  refine t_X0_nextPoints_l4 hX hd C hn ?_ gFU st p1 v1 h
  · intro s6 x1 x2 h
    exact t_X0_nextPoints_b34 hX hd C hn s6 x1 x2 h
