set_option maxRecDepth 100000
def w_X0_in (p1 : Int64) (p2 : Int64) (p3 : Int64) (Φ : Int32 → Prop) : Prop := ((p1 < p2) → Φ 0) ∧ ((¬ p1 < p2) → ((p3 < p1) → Φ 0) ∧ ((¬ p3 < p1) → Φ 1))
theorem nm_X0_in : yX0_in.cls ≠ "java/lang/invoke/MethodHandle" ∧ yX0_in.cls ≠ "java/lang/invoke/VarHandle" ∧ (parseMethodDescriptor yX0_in.desc).map (fun d => d.parameters.length) = some 3 := by decide +kernel
theorem e_X0_in : plainFor yX0_in = true := plainFor_of_name (by decide +kernel)
theorem m_X0_in {θ : Th} {l : Launch} (hl0 : l.stackTraces = false) {d : Nat} (hd : 0 ≤ d) (st0 : St) (p1 : Int64) (p2 : Int64) (p3 : Int64) {Φ : Int32 → Prop} (h : w_X0_in p1 p2 p3 Φ) : Ct θ l yX0_in (ws_ yX0_in cX0_in 6 (some Jvm.ClassFile.FieldType.boolean)) d [.long p1, .long p2, .long p3] st0 (rI st0 Φ, noX) := by
  refine Ct_entry hl0 e_X0_in (Nat.le_of_ble_eq_true rfl) (fun κ hκ _ C => ?_)
  have hn : ∀ r, Φ r → ((rI st0 Φ, noX) : Ph).1 st0 (some (.int r)) := fun r q => ⟨r, rfl, rfl, q⟩
  change X _ _ _ _ _ [(0, .long p1), (2, .long p2), (4, .long p3)] _
  unfold w_X0_in at h
  refine X_lload_n C dX0_in_0 rfl 0 rfl ?_
  refine X_lload_n C dX0_in_1 rfl 1 rfl ?_
  refine X_lcmp_lt (tgt := 17) C dX0_in_2 dX0_in_3 (by decide) (fun c1 => ?_) (fun c1 => ?_)
  · have h := h.1 c1
    refine X_iconst (v := 0) C dX0_in_17 rfl ?_
    exact X_zret C rfl rfl dX0_in_18 (hn _ h)
  · have h := h.2 c1
    refine X_lload_n C dX0_in_6 rfl 0 rfl ?_
    refine X_lload C dX0_in_7 2 rfl ?_
    refine X_lcmp_gt (tgt := 17) C dX0_in_9 dX0_in_10 (by decide) (fun c2 => ?_) (fun c2 => ?_)
    · have h := h.1 c2
      refine X_iconst (v := 0) C dX0_in_17 rfl ?_
      exact X_zret C rfl rfl dX0_in_18 (hn _ h)
    · have h := h.2 c2
      refine X_iconst (v := 1) C dX0_in_13 rfl ?_
      refine X_goto (tgt := 18) C dX0_in_14 (by decide) ?_
      exact X_zret C rfl rfl dX0_in_18 (hn _ h)

def w_X0_isPart (p1 : Int32) (Φ : Int32 → Prop) : Prop := w_X0_in p1.toInt64 0 1 (fun (r1 : Int32) => (r1 = 0 ∨ r1 = 1) ∧ Φ r1)
theorem nm_X0_isPart : yX0_isPart.cls ≠ "java/lang/invoke/MethodHandle" ∧ yX0_isPart.cls ≠ "java/lang/invoke/VarHandle" ∧ (parseMethodDescriptor yX0_isPart.desc).map (fun d => d.parameters.length) = some 1 := by decide +kernel
theorem e_X0_isPart : plainFor yX0_isPart = true := plainFor_of_name (by decide +kernel)
theorem m_X0_isPart {θ : Th} {l : Launch} (hl0 : l.stackTraces = false) {d : Nat} (hd : 1 ≤ d) (st0 : St) (p1 : Int32) {Φ : Int32 → Prop} (h : w_X0_isPart p1 Φ) : Ct θ l yX0_isPart (ws_ yX0_isPart cX0_isPart 1 (some Jvm.ClassFile.FieldType.boolean)) d [.int p1] st0 (rI st0 Φ, noX) := by
  refine Ct_entry hl0 e_X0_isPart (Nat.le_of_ble_eq_true rfl) (fun κ hκ _ C => ?_)
  have hn : ∀ r, Φ r → ((rI st0 Φ, noX) : Ph).1 st0 (some (.int r)) := fun r q => ⟨r, rfl, rfl, q⟩
  change X _ _ _ _ _ [(0, .int p1)] _
  unfold w_X0_isPart at h
  refine X_iload_n C dX0_isPart_0 rfl 0 rfl ?_
  refine X_i2l C dX0_isPart_1 ?_
  refine X_lconst (v := 0) C dX0_isPart_2 rfl ?_
  refine X_lconst (v := 1) C dX0_isPart_3 rfl ?_
  refine X_callS (As := [_, _, _]) (rest := []) C q415 q416 q132 q417 nm_X0_in rfl dX0_isPart_4 (m_X0_in (Cx_l C) (d := d - 1) (by omega) st0 p1.toInt64 0 1 h) (by omega) (by decide) (Nat.le_of_ble_eq_true rfl) (fun s7 w2 hE3 hP4 => ?_) (fun s8 E5 q6 hE3 hP4 => ?_)
  rotate_left
  · exact False.elim hP4
  obtain ⟨r1, rfl, rfl, h⟩ := hP4
  refine X_tls ?_
  have g9 := h.1
  have h := h.2
  exact X_zret C rfl (nb_01 g9).1 dX0_isPart_7 (hn _ h)

def w_X0_isPlace (p1 : Int32) (Φ : Int32 → Prop) : Prop := w_X0_in p1.toInt64 0 2 (fun (r1 : Int32) => (r1 = 0 ∨ r1 = 1) ∧ Φ r1)
theorem nm_X0_isPlace : yX0_isPlace.cls ≠ "java/lang/invoke/MethodHandle" ∧ yX0_isPlace.cls ≠ "java/lang/invoke/VarHandle" ∧ (parseMethodDescriptor yX0_isPlace.desc).map (fun d => d.parameters.length) = some 1 := by decide +kernel
theorem e_X0_isPlace : plainFor yX0_isPlace = true := plainFor_of_name (by decide +kernel)
theorem m_X0_isPlace {θ : Th} {l : Launch} (hl0 : l.stackTraces = false) {d : Nat} (hd : 1 ≤ d) (st0 : St) (p1 : Int32) {Φ : Int32 → Prop} (h : w_X0_isPlace p1 Φ) : Ct θ l yX0_isPlace (ws_ yX0_isPlace cX0_isPlace 1 (some Jvm.ClassFile.FieldType.boolean)) d [.int p1] st0 (rI st0 Φ, noX) := by
  refine Ct_entry hl0 e_X0_isPlace (Nat.le_of_ble_eq_true rfl) (fun κ hκ _ C => ?_)
  have hn : ∀ r, Φ r → ((rI st0 Φ, noX) : Ph).1 st0 (some (.int r)) := fun r q => ⟨r, rfl, rfl, q⟩
  change X _ _ _ _ _ [(0, .int p1)] _
  unfold w_X0_isPlace at h
  refine X_iload_n C dX0_isPlace_0 rfl 0 rfl ?_
  refine X_i2l C dX0_isPlace_1 ?_
  refine X_lconst (v := 0) C dX0_isPlace_2 rfl ?_
  refine X_ldc2 C q413 dX0_isPlace_3 ?_
  refine X_callS (As := [_, _, _]) (rest := []) C q415 q416 q132 q417 nm_X0_in rfl dX0_isPlace_6 (m_X0_in (Cx_l C) (d := d - 1) (by omega) st0 p1.toInt64 0 2 h) (by omega) (by decide) (Nat.le_of_ble_eq_true rfl) (fun s7 w2 hE3 hP4 => ?_) (fun s8 E5 q6 hE3 hP4 => ?_)
  rotate_left
  · exact False.elim hP4
  obtain ⟨r1, rfl, rfl, h⟩ := hP4
  refine X_tls ?_
  have g9 := h.1
  have h := h.2
  exact X_zret C rfl (nb_01 g9).1 dX0_isPlace_9 (hn _ h)

def w_X0_isSheet (p1 : Int32) (Φ : Int32 → Prop) : Prop := w_X0_in p1.toInt64 0 4 (fun (r1 : Int32) => (r1 = 0 ∨ r1 = 1) ∧ Φ r1)
theorem nm_X0_isSheet : yX0_isSheet.cls ≠ "java/lang/invoke/MethodHandle" ∧ yX0_isSheet.cls ≠ "java/lang/invoke/VarHandle" ∧ (parseMethodDescriptor yX0_isSheet.desc).map (fun d => d.parameters.length) = some 1 := by decide +kernel
theorem e_X0_isSheet : plainFor yX0_isSheet = true := plainFor_of_name (by decide +kernel)
theorem m_X0_isSheet {θ : Th} {l : Launch} (hl0 : l.stackTraces = false) {d : Nat} (hd : 1 ≤ d) (st0 : St) (p1 : Int32) {Φ : Int32 → Prop} (h : w_X0_isSheet p1 Φ) : Ct θ l yX0_isSheet (ws_ yX0_isSheet cX0_isSheet 1 (some Jvm.ClassFile.FieldType.boolean)) d [.int p1] st0 (rI st0 Φ, noX) := by
  refine Ct_entry hl0 e_X0_isSheet (Nat.le_of_ble_eq_true rfl) (fun κ hκ _ C => ?_)
  have hn : ∀ r, Φ r → ((rI st0 Φ, noX) : Ph).1 st0 (some (.int r)) := fun r q => ⟨r, rfl, rfl, q⟩
  change X _ _ _ _ _ [(0, .int p1)] _
  unfold w_X0_isSheet at h
  refine X_iload_n C dX0_isSheet_0 rfl 0 rfl ?_
  refine X_i2l C dX0_isSheet_1 ?_
  refine X_lconst (v := 0) C dX0_isSheet_2 rfl ?_
  refine X_ldc2 C q521 dX0_isSheet_3 ?_
  refine X_callS (As := [_, _, _]) (rest := []) C q415 q416 q132 q417 nm_X0_in rfl dX0_isSheet_6 (m_X0_in (Cx_l C) (d := d - 1) (by omega) st0 p1.toInt64 0 4 h) (by omega) (by decide) (Nat.le_of_ble_eq_true rfl) (fun s7 w2 hE3 hP4 => ?_) (fun s8 E5 q6 hE3 hP4 => ?_)
  rotate_left
  · exact False.elim hP4
  obtain ⟨r1, rfl, rfl, h⟩ := hP4
  refine X_tls ?_
  have g9 := h.1
  have h := h.2
  exact X_zret C rfl (nb_01 g9).1 dX0_isSheet_9 (hn _ h)

def w_X0_need (st : St) (p1 : Int32) (p2 : Int32) (Φ : St → Prop) (Φw : St → Nat → Prop) : Prop := ((p1 ≠ 0) → Φ st) ∧ ((p1 = 0) → sN st + 1 ≤ gCAP ∧ sS st + 7 ≤ gCAPS ∧ ∀ s4, s4 = mk st 6 7 → w_X5_init s4 (sN st) p2 (fun (s10 : St) => Φw s10 (sN st)))
theorem nm_X0_need : yX0_need.cls ≠ "java/lang/invoke/MethodHandle" ∧ yX0_need.cls ≠ "java/lang/invoke/VarHandle" ∧ (parseMethodDescriptor yX0_need.desc).map (fun d => d.parameters.length) = some 2 := by decide +kernel
theorem e_X0_need : plainFor yX0_need = true := plainFor_of_name (by decide +kernel)
theorem m_X0_need {θ : Th} {l : Launch} (hl0 : l.stackTraces = false) (hX : LX θ) {d : Nat} (hd : 4 ≤ d) (st : St) (p1 : Int32) (p2 : Int32) {Φ : St → Prop} {Φw : St → Nat → Prop} (h : w_X0_need st p1 p2 Φ Φw) : Ct θ l yX0_need (ws_ yX0_need cX0_need 2 (none : Option Jvm.ClassFile.FieldType)) d [.int p1, .int p2] st (pV Φ, (exW θ Φw)) := by
  refine Ct_entry hl0 e_X0_need (Nat.le_of_ble_eq_true rfl) (fun κ hκ _ C => ?_)
  have hn : ∀ st, Φ st → ((pV Φ, (exW θ Φw)) : Ph).1 st none := fun st q => ⟨rfl, q⟩
  have hw : ∀ st a, a < gBIG → sh st a = 6 → Φw st a → ((pV Φ, (exW θ Φw)) : Ph).2 st "SecretsWorth$Wrong" (ad θ a) := fun st a q1 q2 q => ⟨rfl, a, rfl, q1, q2, q⟩
  change X _ _ _ _ _ [(0, .int p1), (1, .int p2)] _
  unfold w_X0_need at h
  refine X_iload_n C dX0_need_0 rfl 0 rfl ?_
  refine X_if_ne (tgt := 13) C dX0_need_1 (by decide) (fun c1 => ?_) (fun c1 => ?_)
  · have h := h.1 c1
    exact X_vret C rfl dX0_need_13 (hn st h)
  · have h := h.2 c1
    have g2 := h.1
    have h := h.2
    have g3 := h.1
    have h := h.2
    refine X_new (ci := 5) (q := (RX5, TX5, 7)) C rfl q412 q424 q140 g2 g3 dX0_need_4 (fun hE6 => ?_)
    refine X_nm (fun s4 e5 => ?_)
    have h := h s4 e5
    rw [← e5] at hE6
    have hs7 : sh s4 (sN st) = 6 := by rw [e5]; exact sh_mk
    have hb8 := nb_N g2
    refine X_dup C dX0_need_7 rfl ?_
    refine X_iload_n C dX0_need_8 rfl 1 rfl ?_
    refine X_callI (As := [_]) (rest := [_]) C q479 q480 q140 q481 rfl nm_X5_init rfl dX0_need_9 (m_X5_init (Cx_l C) hX (d := d - 1) (by omega) s4 (sN st) p2 hs7 hb8 h) (by omega) (by decide) (Nat.le_of_ble_eq_true rfl) (fun s10 w11 hE12 hP13 => ?_) (fun s16 E14 q15 hE12 hP13 => ?_)
    rotate_left
    · exact False.elim hP13
    obtain ⟨rfl, h⟩ := hP13
    refine X_tln ?_
    have hs7 := Ext_sh hE12 hs7 (by decide)
    refine X_athrow C (ci := 5) rfl hs7 dX0_need_12 ?_
    exact XT_out C rfl (hw s10 (sN st) hb8 hs7 h)

def w_X0_must (st : St) (p1 : Int32) (Φ : St → Prop) (Φw : St → Nat → Prop) : Prop := w_X0_need st p1 1 (fun (s2 : St) => Φ s2) Φw
theorem nm_X0_must : yX0_must.cls ≠ "java/lang/invoke/MethodHandle" ∧ yX0_must.cls ≠ "java/lang/invoke/VarHandle" ∧ (parseMethodDescriptor yX0_must.desc).map (fun d => d.parameters.length) = some 1 := by decide +kernel
theorem e_X0_must : plainFor yX0_must = true := plainFor_of_name (by decide +kernel)
theorem m_X0_must {θ : Th} {l : Launch} (hl0 : l.stackTraces = false) (hX : LX θ) {d : Nat} (hd : 5 ≤ d) (st : St) (p1 : Int32) {Φ : St → Prop} {Φw : St → Nat → Prop} (h : w_X0_must st p1 Φ Φw) : Ct θ l yX0_must (ws_ yX0_must cX0_must 1 (none : Option Jvm.ClassFile.FieldType)) d [.int p1] st (pV Φ, (exW θ Φw)) := by
  refine Ct_entry hl0 e_X0_must (Nat.le_of_ble_eq_true rfl) (fun κ hκ _ C => ?_)
  have hn : ∀ st, Φ st → ((pV Φ, (exW θ Φw)) : Ph).1 st none := fun st q => ⟨rfl, q⟩
  have hw : ∀ st a, a < gBIG → sh st a = 6 → Φw st a → ((pV Φ, (exW θ Φw)) : Ph).2 st "SecretsWorth$Wrong" (ad θ a) := fun st a q1 q2 q => ⟨rfl, a, rfl, q1, q2, q⟩
  change X _ _ _ _ _ [(0, .int p1)] _
  unfold w_X0_must at h
  refine X_iload_n C dX0_must_0 rfl 0 rfl ?_
  refine X_iconst (v := 1) C dX0_must_1 rfl ?_
  refine X_callS (As := [_, _]) (rest := []) C q421 q422 q132 q423 nm_X0_need rfl dX0_must_2 (m_X0_need (Cx_l C) hX (d := d - 1) (by omega) st p1 1 h) (by omega) (by decide) (Nat.le_of_ble_eq_true rfl) (fun s2 w3 hE4 hP5 => ?_) (fun s8 E6 q7 hE4 hP5 => ?_)
  rotate_left
  · rcases hP5 with ⟨rfl, a_, rfl, hb_, hs_, h⟩
    exact XT_out C rfl (hw s8 a_ hb_ hs_ h)
  obtain ⟨rfl, h⟩ := hP5
  refine X_tln ?_
  exact X_vret C rfl dX0_must_5 (hn s2 h)

def w_X1_point (o : Nat) (st : St) (p1 : Int32) (p2 : Int32) (p3 : Int32) (Φ : St → Prop) : Prop := vp_in (sI st o 9) 15 ∧ ∀ s2, s2 = putI st (o + (16 + (sI st o 9).toNatClampNeg)) 0 p1 → vp_in (sI s2 o 9) 15 ∧ ∀ s5, s5 = putI s2 (o + (16 + (sI s2 o 9).toNatClampNeg)) 1 p2 → vp_in (sI s5 o 9) 15 ∧ ∀ s8, s8 = putI s5 (o + (16 + (sI s5 o 9).toNatClampNeg)) 2 p3 → ∀ s10, s10 = putI s8 o 9 ((sI s8 o 9) + 1) → Φ s10
theorem nm_X1_point : yX1_point.cls ≠ "java/lang/invoke/MethodHandle" ∧ yX1_point.cls ≠ "java/lang/invoke/VarHandle" ∧ (parseMethodDescriptor yX1_point.desc).map (fun d => d.parameters.length) = some 3 := by decide +kernel
theorem e_X1_point : plainFor yX1_point = true := plainFor_of_name (by decide +kernel)
theorem m_X1_point {θ : Th} {l : Launch} (hl0 : l.stackTraces = false) {o : Nat} (hH : LH θ o) {d : Nat} (hd : 0 ≤ d) (st : St) (p1 : Int32) (p2 : Int32) (p3 : Int32) {Φ : St → Prop} (h : w_X1_point o st p1 p2 p3 Φ) : Ct θ l yX1_point (ws_ yX1_point cX1_point 4 (none : Option Jvm.ClassFile.FieldType)) d [.ref (ad θ o), .int p1, .int p2, .int p3] st (pV Φ, noX) := by
  refine Ct_entry hl0 e_X1_point (Nat.le_of_ble_eq_true rfl) (fun κ hκ _ C => ?_)
  have hn : ∀ st, Φ st → ((pV Φ, noX) : Ph).1 st none := fun st q => ⟨rfl, q⟩
  change X _ _ _ _ _ [(0, .ref (ad θ o)), (1, .int p1), (2, .int p2), (3, .int p3)] _
  unfold w_X1_point at h
  refine X_aload_n C dX1_point_0 rfl 0 rfl (isRV_r _) ?_
  refine X_getF (ci := 1) (j := 8) (q := (RX1, TX1, 10)) C rfl (by decide) q204 rfl dX1_point_1 (b := (o + 15)) (LH_0 hH) (LH_F hH (k := 0) (j := 8) rfl) rfl ?_
  refine X_aload_n C dX1_point_4 rfl 0 rfl (isRV_r _) ?_
  refine X_getS (ci := 1) (j := 9) (q := (RX1, TX1, 10)) C rfl (by decide) q206 rfl dX1_point_5 (LH_0 hH) (v := .int (sI st o 9)) rfl ?_
  have g1 := h.1
  have h := h.2
  refine X_aaldF C 6 rfl (LH_S hH (k := 15) rfl) (by decide) rfl (LH_L hH (k := 15) rfl) g1 rfl (b := (o + (16 + (sI st o 9).toNatClampNeg))) (LHf_give hH (i := (sI st o 9).toNatClampNeg) (in_lt g1)).2.2 dX1_point_8 rfl ?_
  refine X_iconst (v := 0) C dX1_point_9 rfl ?_
  refine X_iload_n C dX1_point_10 rfl 1 rfl ?_
  refine X_iastS C (LHf_give hH (i := (sI st o 9).toNatClampNeg) (in_lt g1)).1 (LHf_give hH (i := (sI st o 9).toNatClampNeg) (in_lt g1)).2.1 (vp_dec rfl) rfl dX1_point_11 ?_
  refine X_nm (fun s2 e3 => ?_)
  have h := h s2 e3
  refine X_aload_n C dX1_point_12 rfl 0 rfl (isRV_r _) ?_
  refine X_getF (ci := 1) (j := 8) (q := (RX1, TX1, 10)) C rfl (by decide) q204 rfl dX1_point_13 (b := (o + 15)) (LH_0 hH) (LH_F hH (k := 0) (j := 8) rfl) rfl ?_
  refine X_aload_n C dX1_point_16 rfl 0 rfl (isRV_r _) ?_
  refine X_getS (ci := 1) (j := 9) (q := (RX1, TX1, 10)) C rfl (by decide) q206 rfl dX1_point_17 (LH_0 hH) (v := .int (sI s2 o 9)) rfl ?_
  have g4 := h.1
  have h := h.2
  refine X_aaldF C 6 rfl (LH_S hH (k := 15) rfl) (by decide) rfl (LH_L hH (k := 15) rfl) g4 rfl (b := (o + (16 + (sI s2 o 9).toNatClampNeg))) (LHf_give hH (i := (sI s2 o 9).toNatClampNeg) (in_lt g4)).2.2 dX1_point_20 rfl ?_
  refine X_iconst (v := 1) C dX1_point_21 rfl ?_
  refine X_iload_n C dX1_point_22 rfl 2 rfl ?_
  refine X_iastS C (LHf_give hH (i := (sI s2 o 9).toNatClampNeg) (in_lt g4)).1 (LHf_give hH (i := (sI s2 o 9).toNatClampNeg) (in_lt g4)).2.1 (vp_dec rfl) rfl dX1_point_23 ?_
  refine X_nm (fun s5 e6 => ?_)
  have h := h s5 e6
  refine X_aload_n C dX1_point_24 rfl 0 rfl (isRV_r _) ?_
  refine X_getF (ci := 1) (j := 8) (q := (RX1, TX1, 10)) C rfl (by decide) q204 rfl dX1_point_25 (b := (o + 15)) (LH_0 hH) (LH_F hH (k := 0) (j := 8) rfl) rfl ?_
  refine X_aload_n C dX1_point_28 rfl 0 rfl (isRV_r _) ?_
  refine X_getS (ci := 1) (j := 9) (q := (RX1, TX1, 10)) C rfl (by decide) q206 rfl dX1_point_29 (LH_0 hH) (v := .int (sI s5 o 9)) rfl ?_
  have g7 := h.1
  have h := h.2
  refine X_aaldF C 6 rfl (LH_S hH (k := 15) rfl) (by decide) rfl (LH_L hH (k := 15) rfl) g7 rfl (b := (o + (16 + (sI s5 o 9).toNatClampNeg))) (LHf_give hH (i := (sI s5 o 9).toNatClampNeg) (in_lt g7)).2.2 dX1_point_32 rfl ?_
  refine X_iconst (v := 2) C dX1_point_33 rfl ?_
  refine X_iload_n C dX1_point_34 rfl 3 rfl ?_
  refine X_iastS C (LHf_give hH (i := (sI s5 o 9).toNatClampNeg) (in_lt g7)).1 (LHf_give hH (i := (sI s5 o 9).toNatClampNeg) (in_lt g7)).2.1 (vp_dec rfl) rfl dX1_point_35 ?_
  refine X_nm (fun s8 e9 => ?_)
  have h := h s8 e9
  refine X_aload_n C dX1_point_36 rfl 0 rfl (isRV_r _) ?_
  refine X_dup C dX1_point_37 rfl ?_
  refine X_getS (ci := 1) (j := 9) (q := (RX1, TX1, 10)) C rfl (by decide) q206 rfl dX1_point_38 (LH_0 hH) (v := .int (sI s8 o 9)) rfl ?_
  refine X_iconst (v := 1) C dX1_point_41 rfl ?_
  refine X_iadd C dX1_point_42 ?_
  refine X_putSI (ci := 1) (j := 9) (q := (RX1, TX1, 10)) C rfl (by decide) q206 rfl rfl dX1_point_43 (LH_0 hH) rfl rfl rfl ?_
  refine X_nm (fun s10 e11 => ?_)
  have h := h s10 e11
  exact X_vret C rfl dX1_point_46 (hn s10 h)

def w_X1_laysPoints_l37 (o : Nat) (Φ : St → Prop) (E75 : St → Int32 → Prop) : Nat → St → Int32 → Int32 → Prop
  | 0, _, _, _ => False
  | n + 1, st, x1, x2 => ((((sI st o 1) - x1) < x2) → E75 st x1) ∧ ((¬ ((sI st o 1) - x1) < x2) → (((sI st o 0) ≠ 3) → E75 st x1) ∧ (((sI st o 0) = 3) → w_X1_point o st x1 x2 (((sI st o 1) - x1) - x2) (fun (s8 : St) => w_X1_laysPoints_l37 o Φ E75 n s8 x1 (x2 + 1))))
theorem t_X1_laysPoints_l37 {θ : Th} {κ : Kx} {Ph : Ph} {o : Nat} (hH : LH θ o) {d : Nat} (hd : 1 ≤ d) (C : Cx θ κ yX1_laysPoints cX1_laysPoints 3 (none : Option Jvm.ClassFile.FieldType) [] d) {Φ : St → Prop} (hn : ∀ st, Φ st → Ph.1 st none) {E75 : St → Int32 → Prop} (hE75 : ∀ (st : St) (x1 : Int32), E75 st x1 → X θ κ Ph st 75 [(0, .ref (ad θ o)), (1, .int x1)] []) : ∀ (n : Nat) (st : St) (x1 : Int32) (x2 : Int32), w_X1_laysPoints_l37 o Φ E75 n st x1 x2 → X θ κ Ph st 37 [(0, .ref (ad θ o)), (1, .int x1), (2, .int x2)] [] := by
  intro n
  induction n with
  | zero => intro st x1 x2 h; exact h.elim
  | succ n hK37 =>
    intro st x1 x2 h
    rw [w_X1_laysPoints_l37] at h
    refine X_iload_n C dX1_laysPoints_37 rfl 2 rfl ?_
    refine X_aload_n C dX1_laysPoints_38 rfl 0 rfl (isRV_r _) ?_
    refine X_getS (ci := 1) (j := 1) (q := (RX1, TX1, 10)) C rfl (by decide) q190 rfl dX1_laysPoints_39 (LH_0 hH) (v := .int (sI st o 1)) rfl ?_
    refine X_iload_n C dX1_laysPoints_42 rfl 1 rfl ?_
    refine X_isub C dX1_laysPoints_43 ?_
    refine X_icmp_gt (tgt := 75) C dX1_laysPoints_44 (by decide) (fun c5 => ?_) (fun c5 => ?_)
    · have h := h.1 c5
      refine X_sub [0, 1] (lo2 := [(0, _), (1, _)]) rfl ?_
      exact hE75 st x1 h
    · have h := h.2 c5
      refine X_aload_n C dX1_laysPoints_47 rfl 0 rfl (isRV_r _) ?_
      refine X_getS (ci := 1) (j := 0) (q := (RX1, TX1, 10)) C rfl (by decide) q188 rfl dX1_laysPoints_48 (LH_0 hH) (v := .int (sI st o 0)) rfl ?_
      refine X_iconst (v := 3) C dX1_laysPoints_51 rfl ?_
      refine X_icmp_ne (tgt := 75) C dX1_laysPoints_52 (by decide) (fun c6 => ?_) (fun c6 => ?_)
      · have h := h.1 c6
        refine X_sub [0, 1] (lo2 := [(0, _), (1, _)]) rfl ?_
        exact hE75 st x1 h
      · have h := h.2 c6
        refine X_aload_n C dX1_laysPoints_55 rfl 0 rfl (isRV_r _) ?_
        refine X_iload_n C dX1_laysPoints_56 rfl 1 rfl ?_
        refine X_iload_n C dX1_laysPoints_57 rfl 2 rfl ?_
        refine X_aload_n C dX1_laysPoints_58 rfl 0 rfl (isRV_r _) ?_
        refine X_getS (ci := 1) (j := 1) (q := (RX1, TX1, 10)) C rfl (by decide) q190 rfl dX1_laysPoints_59 (LH_0 hH) (v := .int (sI st o 1)) rfl ?_
        refine X_iload_n C dX1_laysPoints_62 rfl 1 rfl ?_
        refine X_isub C dX1_laysPoints_63 ?_
        refine X_iload_n C dX1_laysPoints_64 rfl 2 rfl ?_
        refine X_isub C dX1_laysPoints_65 ?_
        refine X_callVS (ci := 1) (q := (RX1, TX1, 10)) (As := [_, _, _]) (rest := []) C rfl (LH_0 hH) q184 q186 qs1 q133 q187 ⟨rfl, nm_X1_point⟩ rfl dX1_laysPoints_66 (m_X1_point (Cx_l C) hH (d := d - 1) (by omega) st x1 x2 (((sI st o 1) - x1) - x2) h) (by omega) (by decide) (Nat.le_of_ble_eq_true rfl) (fun s8 w9 hE10 hP11 => ?_) (fun s14 E12 q13 hE10 hP11 => ?_)
        rotate_left
        · exact False.elim hP11
        obtain ⟨rfl, h⟩ := hP11
        refine X_tln ?_
        refine X_iinc (v := (x2 + 1)) C (j := 2) dX1_laysPoints_69 rfl rfl (lo2 := [(2, _), (0, _), (1, _)]) (by decide) rfl ?_
        refine X_goto (tgt := 37) C dX1_laysPoints_72 (by decide) ?_
        refine X_sub [1, 2, 0] (lo2 := [(0, _), (1, _), (2, _)]) rfl ?_
        exact hK37 s8 x1 (x2 + 1) h
def w_X1_laysPoints_b75 (o : Nat) (Φ : St → Prop) (K7 : St → Int32 → Prop) (st : St) (x1 : Int32) : Prop := K7 st (x1 + 1)
theorem t_X1_laysPoints_b75 {θ : Th} {κ : Kx} {Ph : Ph} {o : Nat} (hH : LH θ o) {d : Nat} (hd : 1 ≤ d) (C : Cx θ κ yX1_laysPoints cX1_laysPoints 3 (none : Option Jvm.ClassFile.FieldType) [] d) {Φ : St → Prop} (hn : ∀ st, Φ st → Ph.1 st none) {K7 : St → Int32 → Prop} (hK7 : ∀ (st : St) (x1 : Int32), K7 st x1 → X θ κ Ph st 7 [(0, .ref (ad θ o)), (1, .int x1)] []) (st : St) (x1 : Int32) (h : w_X1_laysPoints_b75 o Φ K7 st x1) : X θ κ Ph st 75 [(0, .ref (ad θ o)), (1, .int x1)] [] := by
  unfold w_X1_laysPoints_b75 at h
  refine X_iinc (v := (x1 + 1)) C (j := 1) dX1_laysPoints_75 rfl rfl (lo2 := [(1, _), (0, _)]) (by decide) rfl ?_
  refine X_goto (tgt := 7) C dX1_laysPoints_78 (by decide) ?_
  refine X_sub [1, 0] (lo2 := [(0, _), (1, _)]) rfl ?_
  exact hK7 st (x1 + 1) h
def w_X1_laysPoints_b35 (o : Nat) (Φ : St → Prop) (K7 : St → Int32 → Prop) (st : St) (x1 : Int32) : Prop := w_X1_laysPoints_l37 o Φ (fun (s15 : St) (x1 : Int32) => w_X1_laysPoints_b75 o Φ K7 s15 x1) gFU st x1 0
theorem t_X1_laysPoints_b35 {θ : Th} {κ : Kx} {Ph : Ph} {o : Nat} (hH : LH θ o) {d : Nat} (hd : 1 ≤ d) (C : Cx θ κ yX1_laysPoints cX1_laysPoints 3 (none : Option Jvm.ClassFile.FieldType) [] d) {Φ : St → Prop} (hn : ∀ st, Φ st → Ph.1 st none) {K7 : St → Int32 → Prop} (hK7 : ∀ (st : St) (x1 : Int32), K7 st x1 → X θ κ Ph st 7 [(0, .ref (ad θ o)), (1, .int x1)] []) (st : St) (x1 : Int32) (h : w_X1_laysPoints_b35 o Φ K7 st x1) : X θ κ Ph st 35 [(0, .ref (ad θ o)), (1, .int x1)] [] := by
  unfold w_X1_laysPoints_b35 at h
  refine X_iconst (v := 0) C dX1_laysPoints_35 rfl ?_
  refine X_istore_n C dX1_laysPoints_36 rfl (lo2 := [(2, _), (0, _), (1, _)]) (by decide) rfl ?_
  refine X_sub [1, 2, 0] (lo2 := [(0, _), (1, _), (2, _)]) rfl ?_
  refine t_X1_laysPoints_l37 hH hd C hn ?_ gFU st x1 0 h
  · intro s15 x1 h
    exact t_X1_laysPoints_b75 hH hd C hn hK7 s15 x1 h
def w_X1_laysPoints_l7 (o : Nat) (Φ : St → Prop) (E81 : St → Prop) : Nat → St → Int32 → Prop
  | 0, _, _ => False
  | n + 1, st, x1 => (((sI st o 1) < x1) → E81 st) ∧ ((¬ (sI st o 1) < x1) → (((sI st o 0) ≠ 2) → w_X1_laysPoints_b35 o Φ (w_X1_laysPoints_l7 o Φ E81 n) st x1) ∧ (((sI st o 0) = 2) → w_X1_point o st x1 ((sI st o 1) - x1) 0 (fun (s17 : St) => w_X1_laysPoints_b35 o Φ (w_X1_laysPoints_l7 o Φ E81 n) s17 x1)))
theorem t_X1_laysPoints_l7 {θ : Th} {κ : Kx} {Ph : Ph} {o : Nat} (hH : LH θ o) {d : Nat} (hd : 1 ≤ d) (C : Cx θ κ yX1_laysPoints cX1_laysPoints 3 (none : Option Jvm.ClassFile.FieldType) [] d) {Φ : St → Prop} (hn : ∀ st, Φ st → Ph.1 st none) {E81 : St → Prop} (hE81 : ∀ (st : St), E81 st → X θ κ Ph st 81 [(0, .ref (ad θ o))] []) : ∀ (n : Nat) (st : St) (x1 : Int32), w_X1_laysPoints_l7 o Φ E81 n st x1 → X θ κ Ph st 7 [(0, .ref (ad θ o)), (1, .int x1)] [] := by
  intro n
  induction n with
  | zero => intro st x1 h; exact h.elim
  | succ n hK7 =>
    intro st x1 h
    rw [w_X1_laysPoints_l7] at h
    refine X_iload_n C dX1_laysPoints_7 rfl 1 rfl ?_
    refine X_aload_n C dX1_laysPoints_8 rfl 0 rfl (isRV_r _) ?_
    refine X_getS (ci := 1) (j := 1) (q := (RX1, TX1, 10)) C rfl (by decide) q190 rfl dX1_laysPoints_9 (LH_0 hH) (v := .int (sI st o 1)) rfl ?_
    refine X_icmp_gt (tgt := 81) C dX1_laysPoints_12 (by decide) (fun c3 => ?_) (fun c3 => ?_)
    · have h := h.1 c3
      refine X_sub [0] (lo2 := [(0, _)]) rfl ?_
      exact hE81 st h
    · have h := h.2 c3
      refine X_aload_n C dX1_laysPoints_15 rfl 0 rfl (isRV_r _) ?_
      refine X_getS (ci := 1) (j := 0) (q := (RX1, TX1, 10)) C rfl (by decide) q188 rfl dX1_laysPoints_16 (LH_0 hH) (v := .int (sI st o 0)) rfl ?_
      refine X_iconst (v := 2) C dX1_laysPoints_19 rfl ?_
      refine X_icmp_ne (tgt := 35) C dX1_laysPoints_20 (by decide) (fun c4 => ?_) (fun c4 => ?_)
      · have h := h.1 c4
        exact t_X1_laysPoints_b35 hH hd C hn hK7 st x1 h
      · have h := h.2 c4
        refine X_aload_n C dX1_laysPoints_23 rfl 0 rfl (isRV_r _) ?_
        refine X_iload_n C dX1_laysPoints_24 rfl 1 rfl ?_
        refine X_aload_n C dX1_laysPoints_25 rfl 0 rfl (isRV_r _) ?_
        refine X_getS (ci := 1) (j := 1) (q := (RX1, TX1, 10)) C rfl (by decide) q190 rfl dX1_laysPoints_26 (LH_0 hH) (v := .int (sI st o 1)) rfl ?_
        refine X_iload_n C dX1_laysPoints_29 rfl 1 rfl ?_
        refine X_isub C dX1_laysPoints_30 ?_
        refine X_iconst (v := 0) C dX1_laysPoints_31 rfl ?_
        refine X_callVS (ci := 1) (q := (RX1, TX1, 10)) (As := [_, _, _]) (rest := []) C rfl (LH_0 hH) q184 q186 qs1 q133 q187 ⟨rfl, nm_X1_point⟩ rfl dX1_laysPoints_32 (m_X1_point (Cx_l C) hH (d := d - 1) (by omega) st x1 ((sI st o 1) - x1) 0 h) (by omega) (by decide) (Nat.le_of_ble_eq_true rfl) (fun s17 w18 hE19 hP20 => ?_) (fun s23 E21 q22 hE19 hP20 => ?_)
        rotate_left
        · exact False.elim hP20
        obtain ⟨rfl, h⟩ := hP20
        refine X_tln ?_
        exact t_X1_laysPoints_b35 hH hd C hn hK7 s17 x1 h
def w_X1_laysPoints_b81 (o : Nat) (Φ : St → Prop) (st : St) : Prop := ∀ s25, s25 = putI st o 4 0 → ∀ s27, s27 = putR s25 o 7 none → Φ s27
theorem t_X1_laysPoints_b81 {θ : Th} {κ : Kx} {Ph : Ph} {o : Nat} (hH : LH θ o) {d : Nat} (hd : 1 ≤ d) (C : Cx θ κ yX1_laysPoints cX1_laysPoints 3 (none : Option Jvm.ClassFile.FieldType) [] d) {Φ : St → Prop} (hn : ∀ st, Φ st → Ph.1 st none) (st : St) (h : w_X1_laysPoints_b81 o Φ st) : X θ κ Ph st 81 [(0, .ref (ad θ o))] [] := by
  unfold w_X1_laysPoints_b81 at h
  refine X_aload_n C dX1_laysPoints_81 rfl 0 rfl (isRV_r _) ?_
  refine X_iconst (v := 0) C dX1_laysPoints_82 rfl ?_
  refine X_putSI (ci := 1) (j := 4) (q := (RX1, TX1, 10)) C rfl (by decide) q196 rfl rfl dX1_laysPoints_83 (LH_0 hH) rfl rfl rfl ?_
  refine X_nm (fun s25 e26 => ?_)
  have h := h s25 e26
  refine X_aload_n C dX1_laysPoints_86 rfl 0 rfl (isRV_r _) ?_
  refine X_null C dX1_laysPoints_87 ?_
  refine X_putSR (v := none) (ci := 1) (j := 7) (q := (RX1, TX1, 10)) C rfl (by decide) q202 rfl rfl dX1_laysPoints_88 (LH_0 hH) (sv_R (Or.inl ⟨_, rfl⟩) _ _) (LH_N hH (k := 0) (j := 7) rfl) (nr_ref (Or.inl ⟨_, rfl⟩)).1 (nr_ref (Or.inl ⟨_, rfl⟩)).2 ?_
  refine X_nm (fun s27 e28 => ?_)
  have h := h s27 e28
  exact X_vret C rfl dX1_laysPoints_91 (hn s27 h)
def w_X1_laysPoints (o : Nat) (st : St) (Φ : St → Prop) : Prop := ∀ s1, s1 = putI st o 9 0 → w_X1_laysPoints_l7 o Φ (fun (s24 : St) => w_X1_laysPoints_b81 o Φ s24) gFU s1 0
theorem nm_X1_laysPoints : yX1_laysPoints.cls ≠ "java/lang/invoke/MethodHandle" ∧ yX1_laysPoints.cls ≠ "java/lang/invoke/VarHandle" ∧ (parseMethodDescriptor yX1_laysPoints.desc).map (fun d => d.parameters.length) = some 0 := by decide +kernel
theorem e_X1_laysPoints : plainFor yX1_laysPoints = true := plainFor_of_name (by decide +kernel)
theorem m_X1_laysPoints {θ : Th} {l : Launch} (hl0 : l.stackTraces = false) {o : Nat} (hH : LH θ o) {d : Nat} (hd : 1 ≤ d) (st : St) {Φ : St → Prop} (h : w_X1_laysPoints o st Φ) : Ct θ l yX1_laysPoints (ws_ yX1_laysPoints cX1_laysPoints 3 (none : Option Jvm.ClassFile.FieldType)) d [.ref (ad θ o)] st (pV Φ, noX) := by
  refine Ct_entry hl0 e_X1_laysPoints (Nat.le_of_ble_eq_true rfl) (fun κ hκ _ C => ?_)
  have hn : ∀ st, Φ st → ((pV Φ, noX) : Ph).1 st none := fun st q => ⟨rfl, q⟩
  change X _ _ _ _ _ [(0, .ref (ad θ o))] _
  unfold w_X1_laysPoints at h
  refine X_aload_n C dX1_laysPoints_0 rfl 0 rfl (isRV_r _) ?_
  refine X_iconst (v := 0) C dX1_laysPoints_1 rfl ?_
  refine X_putSI (ci := 1) (j := 9) (q := (RX1, TX1, 10)) C rfl (by decide) q206 rfl rfl dX1_laysPoints_2 (LH_0 hH) rfl rfl rfl ?_
  refine X_nm (fun s1 e2 => ?_)
  have h := h s1 e2
  refine X_iconst (v := 0) C dX1_laysPoints_5 rfl ?_
  refine X_istore_n C dX1_laysPoints_6 rfl (lo2 := [(1, _), (0, _)]) (by decide) rfl ?_
  refine X_sub [1, 0] (lo2 := [(0, _), (1, _)]) rfl ?_
  refine t_X1_laysPoints_l7 hH hd C hn ?_ gFU s1 0 h
  · intro s24 h
    exact t_X1_laysPoints_b81 hH hd C hn s24 h

def w_X1_states (o : Nat) (st : St) (p1 : Int32) (Φ : St → Prop) : Prop := ∀ s1, s1 = putI st o 0 p1 → w_X1_laysPoints o s1 (fun (s4 : St) => Φ s4)
theorem nm_X1_states : yX1_states.cls ≠ "java/lang/invoke/MethodHandle" ∧ yX1_states.cls ≠ "java/lang/invoke/VarHandle" ∧ (parseMethodDescriptor yX1_states.desc).map (fun d => d.parameters.length) = some 1 := by decide +kernel
theorem e_X1_states : plainFor yX1_states = true := plainFor_of_name (by decide +kernel)
theorem m_X1_states {θ : Th} {l : Launch} (hl0 : l.stackTraces = false) {o : Nat} (hH : LH θ o) {d : Nat} (hd : 2 ≤ d) (st : St) (p1 : Int32) {Φ : St → Prop} (h : w_X1_states o st p1 Φ) : Ct θ l yX1_states (ws_ yX1_states cX1_states 2 (none : Option Jvm.ClassFile.FieldType)) d [.ref (ad θ o), .int p1] st (pV Φ, noX) := by
  refine Ct_entry hl0 e_X1_states (Nat.le_of_ble_eq_true rfl) (fun κ hκ _ C => ?_)
  have hn : ∀ st, Φ st → ((pV Φ, noX) : Ph).1 st none := fun st q => ⟨rfl, q⟩
  change X _ _ _ _ _ [(0, .ref (ad θ o)), (1, .int p1)] _
  unfold w_X1_states at h
  refine X_aload_n C dX1_states_0 rfl 0 rfl (isRV_r _) ?_
  refine X_iload_n C dX1_states_1 rfl 1 rfl ?_
  refine X_putSI (ci := 1) (j := 0) (q := (RX1, TX1, 10)) C rfl (by decide) q188 rfl rfl dX1_states_2 (LH_0 hH) rfl rfl rfl ?_
  refine X_nm (fun s1 e2 => ?_)
  have h := h s1 e2
  refine X_aload_n C dX1_states_5 rfl 0 rfl (isRV_r _) ?_
  refine X_callVS (ci := 1) (q := (RX1, TX1, 10)) (As := []) (rest := []) C rfl (LH_0 hH) q180 q182 qs0 q133 q183 ⟨rfl, nm_X1_laysPoints⟩ rfl dX1_states_6 (m_X1_laysPoints (Cx_l C) hH (d := d - 1) (by omega) s1 h) (by omega) (by decide) (Nat.le_of_ble_eq_true rfl) (fun s4 w5 hE6 hP7 => ?_) (fun s10 E8 q9 hE6 hP7 => ?_)
  rotate_left
  · exact False.elim hP7
  obtain ⟨rfl, h⟩ := hP7
  refine X_tln ?_
  exact X_vret C rfl dX1_states_9 (hn s4 h)

def w_X1_parts (o : Nat) (st : St) (p1 : Int32) (Φ : St → Prop) : Prop := ∀ s1, s1 = putI st o 1 p1 → w_X1_laysPoints o s1 (fun (s4 : St) => Φ s4)
theorem nm_X1_parts : yX1_parts.cls ≠ "java/lang/invoke/MethodHandle" ∧ yX1_parts.cls ≠ "java/lang/invoke/VarHandle" ∧ (parseMethodDescriptor yX1_parts.desc).map (fun d => d.parameters.length) = some 1 := by decide +kernel
theorem e_X1_parts : plainFor yX1_parts = true := plainFor_of_name (by decide +kernel)
theorem m_X1_parts {θ : Th} {l : Launch} (hl0 : l.stackTraces = false) {o : Nat} (hH : LH θ o) {d : Nat} (hd : 2 ≤ d) (st : St) (p1 : Int32) {Φ : St → Prop} (h : w_X1_parts o st p1 Φ) : Ct θ l yX1_parts (ws_ yX1_parts cX1_parts 2 (none : Option Jvm.ClassFile.FieldType)) d [.ref (ad θ o), .int p1] st (pV Φ, noX) := by
  refine Ct_entry hl0 e_X1_parts (Nat.le_of_ble_eq_true rfl) (fun κ hκ _ C => ?_)
  have hn : ∀ st, Φ st → ((pV Φ, noX) : Ph).1 st none := fun st q => ⟨rfl, q⟩
  change X _ _ _ _ _ [(0, .ref (ad θ o)), (1, .int p1)] _
  unfold w_X1_parts at h
  refine X_aload_n C dX1_parts_0 rfl 0 rfl (isRV_r _) ?_
  refine X_iload_n C dX1_parts_1 rfl 1 rfl ?_
  refine X_putSI (ci := 1) (j := 1) (q := (RX1, TX1, 10)) C rfl (by decide) q190 rfl rfl dX1_parts_2 (LH_0 hH) rfl rfl rfl ?_
  refine X_nm (fun s1 e2 => ?_)
  have h := h s1 e2
  refine X_aload_n C dX1_parts_5 rfl 0 rfl (isRV_r _) ?_
  refine X_callVS (ci := 1) (q := (RX1, TX1, 10)) (As := []) (rest := []) C rfl (LH_0 hH) q180 q182 qs0 q133 q183 ⟨rfl, nm_X1_laysPoints⟩ rfl dX1_parts_6 (m_X1_laysPoints (Cx_l C) hH (d := d - 1) (by omega) s1 h) (by omega) (by decide) (Nat.le_of_ble_eq_true rfl) (fun s4 w5 hE6 hP7 => ?_) (fun s10 E8 q9 hE6 hP7 => ?_)
  rotate_left
  · exact False.elim hP7
  obtain ⟨rfl, h⟩ := hP7
  refine X_tln ?_
  exact X_vret C rfl dX1_parts_9 (hn s4 h)

def w_X1_isPoint (o : Nat) (st0 : St) (p1 : Int32) (Φ : Int32 → Prop) : Prop := w_X0_in p1.toInt64 0 ((sI st0 o 9) - 1).toInt64 (fun (r1 : Int32) => (r1 = 0 ∨ r1 = 1) ∧ Φ r1)
theorem nm_X1_isPoint : yX1_isPoint.cls ≠ "java/lang/invoke/MethodHandle" ∧ yX1_isPoint.cls ≠ "java/lang/invoke/VarHandle" ∧ (parseMethodDescriptor yX1_isPoint.desc).map (fun d => d.parameters.length) = some 1 := by decide +kernel
theorem e_X1_isPoint : plainFor yX1_isPoint = true := plainFor_of_name (by decide +kernel)
theorem m_X1_isPoint {θ : Th} {l : Launch} (hl0 : l.stackTraces = false) {o : Nat} (hH : LH θ o) {d : Nat} (hd : 1 ≤ d) (st0 : St) (p1 : Int32) {Φ : Int32 → Prop} (h : w_X1_isPoint o st0 p1 Φ) : Ct θ l yX1_isPoint (ws_ yX1_isPoint cX1_isPoint 2 (some Jvm.ClassFile.FieldType.boolean)) d [.ref (ad θ o), .int p1] st0 (rI st0 Φ, noX) := by
  refine Ct_entry hl0 e_X1_isPoint (Nat.le_of_ble_eq_true rfl) (fun κ hκ _ C => ?_)
  have hn : ∀ r, Φ r → ((rI st0 Φ, noX) : Ph).1 st0 (some (.int r)) := fun r q => ⟨r, rfl, rfl, q⟩
  change X _ _ _ _ _ [(0, .ref (ad θ o)), (1, .int p1)] _
  unfold w_X1_isPoint at h
  refine X_iload_n C dX1_isPoint_0 rfl 1 rfl ?_
  refine X_i2l C dX1_isPoint_1 ?_
  refine X_lconst (v := 0) C dX1_isPoint_2 rfl ?_
  refine X_aload_n C dX1_isPoint_3 rfl 0 rfl (isRV_r _) ?_
  refine X_getS (ci := 1) (j := 9) (q := (RX1, TX1, 10)) C rfl (by decide) q206 rfl dX1_isPoint_4 (LH_0 hH) (v := .int (sI st0 o 9)) rfl ?_
  refine X_iconst (v := 1) C dX1_isPoint_7 rfl ?_
  refine X_isub C dX1_isPoint_8 ?_
  refine X_i2l C dX1_isPoint_9 ?_
  refine X_callSN (As := [_, _, _]) (rest := []) C q623 q416 q132 q417 nm_X0_in rfl dX1_isPoint_10 (m_X0_in (Cx_l C) (d := d - 1) (by omega) st0 p1.toInt64 0 ((sI st0 o 9) - 1).toInt64 h) (by omega) (by decide) (Nat.le_of_ble_eq_true rfl) (fun s7 w2 hE3 hP4 => ?_) (fun s8 E5 q6 hE3 hP4 => ?_)
  rotate_left
  · exact False.elim hP4
  obtain ⟨r1, rfl, rfl, h⟩ := hP4
  refine X_tls ?_
  have g9 := h.1
  have h := h.2
  exact X_zret C rfl (nb_01 g9).1 dX1_isPoint_13 (hn _ h)

def w_X1_isState (o : Nat) (st0 : St) (p1 : Int32) (Φ : Int32 → Prop) : Prop := w_X0_in p1.toInt64 0 ((sI st0 o 0) - 1).toInt64 (fun (r1 : Int32) => (r1 = 0 ∨ r1 = 1) ∧ Φ r1)
theorem nm_X1_isState : yX1_isState.cls ≠ "java/lang/invoke/MethodHandle" ∧ yX1_isState.cls ≠ "java/lang/invoke/VarHandle" ∧ (parseMethodDescriptor yX1_isState.desc).map (fun d => d.parameters.length) = some 1 := by decide +kernel
theorem e_X1_isState : plainFor yX1_isState = true := plainFor_of_name (by decide +kernel)
theorem m_X1_isState {θ : Th} {l : Launch} (hl0 : l.stackTraces = false) {o : Nat} (hH : LH θ o) {d : Nat} (hd : 1 ≤ d) (st0 : St) (p1 : Int32) {Φ : Int32 → Prop} (h : w_X1_isState o st0 p1 Φ) : Ct θ l yX1_isState (ws_ yX1_isState cX1_isState 2 (some Jvm.ClassFile.FieldType.boolean)) d [.ref (ad θ o), .int p1] st0 (rI st0 Φ, noX) := by
  refine Ct_entry hl0 e_X1_isState (Nat.le_of_ble_eq_true rfl) (fun κ hκ _ C => ?_)
  have hn : ∀ r, Φ r → ((rI st0 Φ, noX) : Ph).1 st0 (some (.int r)) := fun r q => ⟨r, rfl, rfl, q⟩
  change X _ _ _ _ _ [(0, .ref (ad θ o)), (1, .int p1)] _
  unfold w_X1_isState at h
  refine X_iload_n C dX1_isState_0 rfl 1 rfl ?_
  refine X_i2l C dX1_isState_1 ?_
  refine X_lconst (v := 0) C dX1_isState_2 rfl ?_
  refine X_aload_n C dX1_isState_3 rfl 0 rfl (isRV_r _) ?_
  refine X_getS (ci := 1) (j := 0) (q := (RX1, TX1, 10)) C rfl (by decide) q188 rfl dX1_isState_4 (LH_0 hH) (v := .int (sI st0 o 0)) rfl ?_
  refine X_iconst (v := 1) C dX1_isState_7 rfl ?_
  refine X_isub C dX1_isState_8 ?_
  refine X_i2l C dX1_isState_9 ?_
  refine X_callSN (As := [_, _, _]) (rest := []) C q623 q416 q132 q417 nm_X0_in rfl dX1_isState_10 (m_X0_in (Cx_l C) (d := d - 1) (by omega) st0 p1.toInt64 0 ((sI st0 o 0) - 1).toInt64 h) (by omega) (by decide) (Nat.le_of_ble_eq_true rfl) (fun s7 w2 hE3 hP4 => ?_) (fun s8 E5 q6 hE3 hP4 => ?_)
  rotate_left
  · exact False.elim hP4
  obtain ⟨r1, rfl, rfl, h⟩ := hP4
  refine X_tls ?_
  have g9 := h.1
  have h := h.2
  exact X_zret C rfl (nb_01 g9).1 dX1_isState_13 (hn _ h)

def w_X1_isRow (o : Nat) (st0 : St) (p1 : Int32) (Φ : Int32 → Prop) : Prop := w_X0_in p1.toInt64 0 ((sI st0 o 2) - 1).toInt64 (fun (r1 : Int32) => (r1 = 0 ∨ r1 = 1) ∧ Φ r1)
theorem nm_X1_isRow : yX1_isRow.cls ≠ "java/lang/invoke/MethodHandle" ∧ yX1_isRow.cls ≠ "java/lang/invoke/VarHandle" ∧ (parseMethodDescriptor yX1_isRow.desc).map (fun d => d.parameters.length) = some 1 := by decide +kernel
theorem e_X1_isRow : plainFor yX1_isRow = true := plainFor_of_name (by decide +kernel)
theorem m_X1_isRow {θ : Th} {l : Launch} (hl0 : l.stackTraces = false) {o : Nat} (hH : LH θ o) {d : Nat} (hd : 1 ≤ d) (st0 : St) (p1 : Int32) {Φ : Int32 → Prop} (h : w_X1_isRow o st0 p1 Φ) : Ct θ l yX1_isRow (ws_ yX1_isRow cX1_isRow 2 (some Jvm.ClassFile.FieldType.boolean)) d [.ref (ad θ o), .int p1] st0 (rI st0 Φ, noX) := by
  refine Ct_entry hl0 e_X1_isRow (Nat.le_of_ble_eq_true rfl) (fun κ hκ _ C => ?_)
  have hn : ∀ r, Φ r → ((rI st0 Φ, noX) : Ph).1 st0 (some (.int r)) := fun r q => ⟨r, rfl, rfl, q⟩
  change X _ _ _ _ _ [(0, .ref (ad θ o)), (1, .int p1)] _
  unfold w_X1_isRow at h
  refine X_iload_n C dX1_isRow_0 rfl 1 rfl ?_
  refine X_i2l C dX1_isRow_1 ?_
  refine X_lconst (v := 0) C dX1_isRow_2 rfl ?_
  refine X_aload_n C dX1_isRow_3 rfl 0 rfl (isRV_r _) ?_
  refine X_getS (ci := 1) (j := 2) (q := (RX1, TX1, 10)) C rfl (by decide) q192 rfl dX1_isRow_4 (LH_0 hH) (v := .int (sI st0 o 2)) rfl ?_
  refine X_iconst (v := 1) C dX1_isRow_7 rfl ?_
  refine X_isub C dX1_isRow_8 ?_
  refine X_i2l C dX1_isRow_9 ?_
  refine X_callSN (As := [_, _, _]) (rest := []) C q623 q416 q132 q417 nm_X0_in rfl dX1_isRow_10 (m_X0_in (Cx_l C) (d := d - 1) (by omega) st0 p1.toInt64 0 ((sI st0 o 2) - 1).toInt64 h) (by omega) (by decide) (Nat.le_of_ble_eq_true rfl) (fun s7 w2 hE3 hP4 => ?_) (fun s8 E5 q6 hE3 hP4 => ?_)
  rotate_left
  · exact False.elim hP4
  obtain ⟨r1, rfl, rfl, h⟩ := hP4
  refine X_tls ?_
  have g9 := h.1
  have h := h.2
  exact X_zret C rfl (nb_01 g9).1 dX1_isRow_13 (hn _ h)

def w_X1_isColumn (o : Nat) (st0 : St) (p1 : Int32) (Φ : Int32 → Prop) : Prop := w_X0_in p1.toInt64 0 ((sI st0 o 3) - 1).toInt64 (fun (r1 : Int32) => (r1 = 0 ∨ r1 = 1) ∧ Φ r1)
theorem nm_X1_isColumn : yX1_isColumn.cls ≠ "java/lang/invoke/MethodHandle" ∧ yX1_isColumn.cls ≠ "java/lang/invoke/VarHandle" ∧ (parseMethodDescriptor yX1_isColumn.desc).map (fun d => d.parameters.length) = some 1 := by decide +kernel
theorem e_X1_isColumn : plainFor yX1_isColumn = true := plainFor_of_name (by decide +kernel)
theorem m_X1_isColumn {θ : Th} {l : Launch} (hl0 : l.stackTraces = false) {o : Nat} (hH : LH θ o) {d : Nat} (hd : 1 ≤ d) (st0 : St) (p1 : Int32) {Φ : Int32 → Prop} (h : w_X1_isColumn o st0 p1 Φ) : Ct θ l yX1_isColumn (ws_ yX1_isColumn cX1_isColumn 2 (some Jvm.ClassFile.FieldType.boolean)) d [.ref (ad θ o), .int p1] st0 (rI st0 Φ, noX) := by
  refine Ct_entry hl0 e_X1_isColumn (Nat.le_of_ble_eq_true rfl) (fun κ hκ _ C => ?_)
  have hn : ∀ r, Φ r → ((rI st0 Φ, noX) : Ph).1 st0 (some (.int r)) := fun r q => ⟨r, rfl, rfl, q⟩
  change X _ _ _ _ _ [(0, .ref (ad θ o)), (1, .int p1)] _
  unfold w_X1_isColumn at h
  refine X_iload_n C dX1_isColumn_0 rfl 1 rfl ?_
  refine X_i2l C dX1_isColumn_1 ?_
  refine X_lconst (v := 0) C dX1_isColumn_2 rfl ?_
  refine X_aload_n C dX1_isColumn_3 rfl 0 rfl (isRV_r _) ?_
  refine X_getS (ci := 1) (j := 3) (q := (RX1, TX1, 10)) C rfl (by decide) q194 rfl dX1_isColumn_4 (LH_0 hH) (v := .int (sI st0 o 3)) rfl ?_
  refine X_iconst (v := 1) C dX1_isColumn_7 rfl ?_
  refine X_isub C dX1_isColumn_8 ?_
  refine X_i2l C dX1_isColumn_9 ?_
  refine X_callSN (As := [_, _, _]) (rest := []) C q623 q416 q132 q417 nm_X0_in rfl dX1_isColumn_10 (m_X0_in (Cx_l C) (d := d - 1) (by omega) st0 p1.toInt64 0 ((sI st0 o 3) - 1).toInt64 h) (by omega) (by decide) (Nat.le_of_ble_eq_true rfl) (fun s7 w2 hE3 hP4 => ?_) (fun s8 E5 q6 hE3 hP4 => ?_)
  rotate_left
  · exact False.elim hP4
  obtain ⟨r1, rfl, rfl, h⟩ := hP4
  refine X_tls ?_
  have g9 := h.1
  have h := h.2
  exact X_zret C rfl (nb_01 g9).1 dX1_isColumn_13 (hn _ h)

def w_X1_average_l6 (o : Nat) (Φ : Int32 → Prop) (E47 : St → Int32 → Prop) : Nat → St → Int32 → Int32 → Int32 → Int32 → Int32 → Prop
  | 0, _, _, _, _, _, _ => False
  | n + 1, st0, x1, x2, x3, x4, x5 => (((sI st0 o 0) ≤ x5) → E47 st0 x4) ∧ ((¬ (sI st0 o 0) ≤ x5) → vp_in x1 15 ∧ vp_in x5 3 ∧ vp_in x2 3 ∧ vp_in x3 3 ∧ ∀ v6 : Int32, v6 = (x4 + ((sI st0 (o + (16 + x1.toNatClampNeg)) x5.toNatClampNeg) * (sI st0 (o + (3 + 4 * x5.toNatClampNeg + x2.toNatClampNeg)) x3.toNatClampNeg))) → w_X1_average_l6 o Φ E47 n st0 x1 x2 x3 v6 (x5 + 1))
theorem t_X1_average_l6 {θ : Th} {κ : Kx} {Ph : Ph} {o : Nat} (hH : LH θ o) {st0 : St} {d : Nat} (hd : 0 ≤ d) (C : Cx θ κ yX1_average cX1_average 6 (some Jvm.ClassFile.FieldType.int) [] d) {Φ : Int32 → Prop} (hn : ∀ r, Φ r → Ph.1 st0 (some (.int r))) {E47 : St → Int32 → Prop} (hE47 : ∀ (x4 : Int32), E47 st0 x4 → X θ κ Ph st0 47 [(4, .int x4)] []) : ∀ (n : Nat) (x1 : Int32) (x2 : Int32) (x3 : Int32) (x4 : Int32) (x5 : Int32), w_X1_average_l6 o Φ E47 n st0 x1 x2 x3 x4 x5 → X θ κ Ph st0 6 [(0, .ref (ad θ o)), (1, .int x1), (2, .int x2), (3, .int x3), (4, .int x4), (5, .int x5)] [] := by
  intro n
  induction n with
  | zero => intro x1 x2 x3 x4 x5 h; exact h.elim
  | succ n hK6 =>
    intro x1 x2 x3 x4 x5 h
    rw [w_X1_average_l6] at h
    refine X_iload C dX1_average_6 5 rfl ?_
    refine X_aload_n C dX1_average_8 rfl 0 rfl (isRV_r _) ?_
    refine X_getS (ci := 1) (j := 0) (q := (RX1, TX1, 10)) C rfl (by decide) q188 rfl dX1_average_9 (LH_0 hH) (v := .int (sI st0 o 0)) rfl ?_
    refine X_icmp_ge (tgt := 47) C dX1_average_12 (by decide) (fun c1 => ?_) (fun c1 => ?_)
    · have h := h.1 c1
      refine X_sub [4] (lo2 := [(4, _)]) rfl ?_
      exact hE47 x4 h
    · have h := h.2 c1
      refine X_iload C dX1_average_15 4 rfl ?_
      refine X_aload_n C dX1_average_17 rfl 0 rfl (isRV_r _) ?_
      refine X_getF (ci := 1) (j := 8) (q := (RX1, TX1, 10)) C rfl (by decide) q204 rfl dX1_average_18 (b := (o + 15)) (LH_0 hH) (LH_F hH (k := 0) (j := 8) rfl) rfl ?_
      refine X_iload_n C dX1_average_21 rfl 1 rfl ?_
      have g2 := h.1
      have h := h.2
      refine X_aaldF C 6 rfl (LH_S hH (k := 15) rfl) (by decide) rfl (LH_L hH (k := 15) rfl) g2 rfl (b := (o + (16 + x1.toNatClampNeg))) (LHf_give hH (i := x1.toNatClampNeg) (in_lt g2)).2.2 dX1_average_22 rfl ?_
      refine X_iload C dX1_average_23 5 rfl ?_
      have g3 := h.1
      have h := h.2
      refine X_ialdS C (LHf_give hH (i := x1.toNatClampNeg) (in_lt g2)).1 (LHf_give hH (i := x1.toNatClampNeg) (in_lt g2)).2.1 g3 rfl dX1_average_25 ?_
      refine X_aload_n C dX1_average_26 rfl 0 rfl (isRV_r _) ?_
      refine X_getF (ci := 1) (j := 5) (q := (RX1, TX1, 10)) C rfl (by decide) q198 rfl dX1_average_27 (b := (o + 1)) (LH_0 hH) (LH_F hH (k := 0) (j := 5) rfl) rfl ?_
      refine X_iload C dX1_average_30 5 rfl ?_
      refine X_aaldF C 7 rfl (LH_S hH (k := 1) rfl) (by decide) rfl (LH_L hH (k := 1) rfl) g3 rfl (b := (o + (2 + 4 * x5.toNatClampNeg))) (LHf_sub hH (i := x5.toNatClampNeg) (in_lt g3)).2.2 dX1_average_32 rfl ?_
      refine X_iload_n C dX1_average_33 rfl 2 rfl ?_
      have g4 := h.1
      have h := h.2
      refine X_aaldF C 6 rfl (LHf_sub hH (i := x5.toNatClampNeg) (in_lt g3)).1 (by decide) rfl (LHf_sub hH (i := x5.toNatClampNeg) (in_lt g3)).2.1 g4 rfl (b := (o + (3 + 4 * x5.toNatClampNeg + x2.toNatClampNeg))) (LHf_game hH (i := x5.toNatClampNeg) (j := x2.toNatClampNeg) (in_lt g3) (in_lt g4)).2.2 dX1_average_34 rfl ?_
      refine X_iload_n C dX1_average_35 rfl 3 rfl ?_
      have g5 := h.1
      have h := h.2
      refine X_ialdS C (LHf_game hH (i := x5.toNatClampNeg) (j := x2.toNatClampNeg) (in_lt g3) (in_lt g4)).1 (LHf_game hH (i := x5.toNatClampNeg) (j := x2.toNatClampNeg) (in_lt g3) (in_lt g4)).2.1 g5 rfl dX1_average_36 ?_
      refine X_imul C dX1_average_37 ?_
      refine X_iadd C dX1_average_38 ?_
      refine X_topi (fun v6 e7 => ?_)
      have h := h v6 e7
      refine X_istore C dX1_average_39 (lo2 := [(4, _), (0, _), (1, _), (2, _), (3, _), (5, _)]) (by decide) rfl ?_
      refine X_iinc (v := (x5 + 1)) C (j := 5) dX1_average_41 rfl rfl (lo2 := [(5, _), (4, _), (0, _), (1, _), (2, _), (3, _)]) (by decide) rfl ?_
      refine X_goto (tgt := 6) C dX1_average_44 (by decide) ?_
      refine X_sub [2, 3, 4, 5, 1, 0] (lo2 := [(0, _), (1, _), (2, _), (3, _), (4, _), (5, _)]) rfl ?_
      exact hK6 x1 x2 x3 v6 (x5 + 1) h
def w_X1_average_b47 (o : Nat) (Φ : Int32 → Prop) (st0 : St) (x4 : Int32) : Prop := Φ x4
theorem t_X1_average_b47 {θ : Th} {κ : Kx} {Ph : Ph} {o : Nat} (hH : LH θ o) {st0 : St} {d : Nat} (hd : 0 ≤ d) (C : Cx θ κ yX1_average cX1_average 6 (some Jvm.ClassFile.FieldType.int) [] d) {Φ : Int32 → Prop} (hn : ∀ r, Φ r → Ph.1 st0 (some (.int r))) (x4 : Int32) (h : w_X1_average_b47 o Φ st0 x4) : X θ κ Ph st0 47 [(4, .int x4)] [] := by
  unfold w_X1_average_b47 at h
  refine X_iload C dX1_average_47 0 rfl ?_
  exact X_iret C rfl dX1_average_49 (hn _ h)
def w_X1_average (o : Nat) (st0 : St) (p1 : Int32) (p2 : Int32) (p3 : Int32) (Φ : Int32 → Prop) : Prop := w_X1_average_l6 o Φ (fun (_ : St) (x4 : Int32) => w_X1_average_b47 o Φ st0 x4) gFU st0 p1 p2 p3 0 0
theorem nm_X1_average : yX1_average.cls ≠ "java/lang/invoke/MethodHandle" ∧ yX1_average.cls ≠ "java/lang/invoke/VarHandle" ∧ (parseMethodDescriptor yX1_average.desc).map (fun d => d.parameters.length) = some 3 := by decide +kernel
theorem e_X1_average : plainFor yX1_average = true := plainFor_of_name (by decide +kernel)
theorem m_X1_average {θ : Th} {l : Launch} (hl0 : l.stackTraces = false) {o : Nat} (hH : LH θ o) {d : Nat} (hd : 0 ≤ d) (st0 : St) (p1 : Int32) (p2 : Int32) (p3 : Int32) {Φ : Int32 → Prop} (h : w_X1_average o st0 p1 p2 p3 Φ) : Ct θ l yX1_average (ws_ yX1_average cX1_average 6 (some Jvm.ClassFile.FieldType.int)) d [.ref (ad θ o), .int p1, .int p2, .int p3] st0 (rI st0 Φ, noX) := by
  refine Ct_entry hl0 e_X1_average (Nat.le_of_ble_eq_true rfl) (fun κ hκ _ C => ?_)
  have hn : ∀ r, Φ r → ((rI st0 Φ, noX) : Ph).1 st0 (some (.int r)) := fun r q => ⟨r, rfl, rfl, q⟩
  change X _ _ _ _ _ [(0, .ref (ad θ o)), (1, .int p1), (2, .int p2), (3, .int p3)] _
  unfold w_X1_average at h
  refine X_iconst (v := 0) C dX1_average_0 rfl ?_
  refine X_istore C dX1_average_1 (lo2 := [(4, _), (0, _), (1, _), (2, _), (3, _)]) (by decide) rfl ?_
  refine X_iconst (v := 0) C dX1_average_3 rfl ?_
  refine X_istore C dX1_average_4 (lo2 := [(5, _), (4, _), (0, _), (1, _), (2, _), (3, _)]) (by decide) rfl ?_
  refine X_sub [2, 3, 4, 5, 1, 0] (lo2 := [(0, _), (1, _), (2, _), (3, _), (4, _), (5, _)]) rfl ?_
  refine t_X1_average_l6 hH hd C hn ?_ gFU p1 p2 p3 0 0 h
  · intro x4 h
    exact t_X1_average_b47 hH hd C hn x4 h

def w_X1_vertex_l2 (o : Nat) (Φ : Int32 → Prop) (E23 : St → Int32 → Prop) : Nat → St → Int32 → Int32 → Prop
  | 0, _, _, _ => False
  | n + 1, st0, x1, x2 => vp_in x2 15 ∧ vp_in x1 3 ∧ (((sI st0 o 1) ≤ (sI st0 (o + (16 + x2.toNatClampNeg)) x1.toNatClampNeg)) → E23 st0 x2) ∧ ((¬ (sI st0 o 1) ≤ (sI st0 (o + (16 + x2.toNatClampNeg)) x1.toNatClampNeg)) → w_X1_vertex_l2 o Φ E23 n st0 x1 (x2 + 1))
theorem t_X1_vertex_l2 {θ : Th} {κ : Kx} {Ph : Ph} {o : Nat} (hH : LH θ o) {st0 : St} {d : Nat} (hd : 0 ≤ d) (C : Cx θ κ yX1_vertex cX1_vertex 3 (some Jvm.ClassFile.FieldType.int) [] d) {Φ : Int32 → Prop} (hn : ∀ r, Φ r → Ph.1 st0 (some (.int r))) {E23 : St → Int32 → Prop} (hE23 : ∀ (x2 : Int32), E23 st0 x2 → X θ κ Ph st0 23 [(2, .int x2)] []) : ∀ (n : Nat) (x1 : Int32) (x2 : Int32), w_X1_vertex_l2 o Φ E23 n st0 x1 x2 → X θ κ Ph st0 2 [(0, .ref (ad θ o)), (1, .int x1), (2, .int x2)] [] := by
  intro n
  induction n with
  | zero => intro x1 x2 h; exact h.elim
  | succ n hK2 =>
    intro x1 x2 h
    rw [w_X1_vertex_l2] at h
    refine X_aload_n C dX1_vertex_2 rfl 0 rfl (isRV_r _) ?_
    refine X_getF (ci := 1) (j := 8) (q := (RX1, TX1, 10)) C rfl (by decide) q204 rfl dX1_vertex_3 (b := (o + 15)) (LH_0 hH) (LH_F hH (k := 0) (j := 8) rfl) rfl ?_
    refine X_iload_n C dX1_vertex_6 rfl 2 rfl ?_
    have g1 := h.1
    have h := h.2
    refine X_aaldF C 6 rfl (LH_S hH (k := 15) rfl) (by decide) rfl (LH_L hH (k := 15) rfl) g1 rfl (b := (o + (16 + x2.toNatClampNeg))) (LHf_give hH (i := x2.toNatClampNeg) (in_lt g1)).2.2 dX1_vertex_7 rfl ?_
    refine X_iload_n C dX1_vertex_8 rfl 1 rfl ?_
    have g2 := h.1
    have h := h.2
    refine X_ialdS C (LHf_give hH (i := x2.toNatClampNeg) (in_lt g1)).1 (LHf_give hH (i := x2.toNatClampNeg) (in_lt g1)).2.1 g2 rfl dX1_vertex_9 ?_
    refine X_aload_n C dX1_vertex_10 rfl 0 rfl (isRV_r _) ?_
    refine X_getS (ci := 1) (j := 1) (q := (RX1, TX1, 10)) C rfl (by decide) q190 rfl dX1_vertex_11 (LH_0 hH) (v := .int (sI st0 o 1)) rfl ?_
    refine X_icmp_ge (tgt := 23) C dX1_vertex_14 (by decide) (fun c3 => ?_) (fun c3 => ?_)
    · have h := h.1 c3
      refine X_sub [2] (lo2 := [(2, _)]) rfl ?_
      exact hE23 x2 h
    · have h := h.2 c3
      refine X_iinc (v := (x2 + 1)) C (j := 2) dX1_vertex_17 rfl rfl (lo2 := [(2, _), (0, _), (1, _)]) (by decide) rfl ?_
      refine X_goto (tgt := 2) C dX1_vertex_20 (by decide) ?_
      refine X_sub [1, 2, 0] (lo2 := [(0, _), (1, _), (2, _)]) rfl ?_
      exact hK2 x1 (x2 + 1) h
def w_X1_vertex_b23 (o : Nat) (Φ : Int32 → Prop) (st0 : St) (x2 : Int32) : Prop := Φ x2
theorem t_X1_vertex_b23 {θ : Th} {κ : Kx} {Ph : Ph} {o : Nat} (hH : LH θ o) {st0 : St} {d : Nat} (hd : 0 ≤ d) (C : Cx θ κ yX1_vertex cX1_vertex 3 (some Jvm.ClassFile.FieldType.int) [] d) {Φ : Int32 → Prop} (hn : ∀ r, Φ r → Ph.1 st0 (some (.int r))) (x2 : Int32) (h : w_X1_vertex_b23 o Φ st0 x2) : X θ κ Ph st0 23 [(2, .int x2)] [] := by
  unfold w_X1_vertex_b23 at h
  refine X_iload_n C dX1_vertex_23 rfl 0 rfl ?_
  exact X_iret C rfl dX1_vertex_24 (hn _ h)
def w_X1_vertex (o : Nat) (st0 : St) (p1 : Int32) (Φ : Int32 → Prop) : Prop := w_X1_vertex_l2 o Φ (fun (_ : St) (x2 : Int32) => w_X1_vertex_b23 o Φ st0 x2) gFU st0 p1 0
theorem nm_X1_vertex : yX1_vertex.cls ≠ "java/lang/invoke/MethodHandle" ∧ yX1_vertex.cls ≠ "java/lang/invoke/VarHandle" ∧ (parseMethodDescriptor yX1_vertex.desc).map (fun d => d.parameters.length) = some 1 := by decide +kernel
theorem e_X1_vertex : plainFor yX1_vertex = true := plainFor_of_name (by decide +kernel)
theorem m_X1_vertex {θ : Th} {l : Launch} (hl0 : l.stackTraces = false) {o : Nat} (hH : LH θ o) {d : Nat} (hd : 0 ≤ d) (st0 : St) (p1 : Int32) {Φ : Int32 → Prop} (h : w_X1_vertex o st0 p1 Φ) : Ct θ l yX1_vertex (ws_ yX1_vertex cX1_vertex 3 (some Jvm.ClassFile.FieldType.int)) d [.ref (ad θ o), .int p1] st0 (rI st0 Φ, noX) := by
  refine Ct_entry hl0 e_X1_vertex (Nat.le_of_ble_eq_true rfl) (fun κ hκ _ C => ?_)
  have hn : ∀ r, Φ r → ((rI st0 Φ, noX) : Ph).1 st0 (some (.int r)) := fun r q => ⟨r, rfl, rfl, q⟩
  change X _ _ _ _ _ [(0, .ref (ad θ o)), (1, .int p1)] _
  unfold w_X1_vertex at h
  refine X_iconst (v := 0) C dX1_vertex_0 rfl ?_
  refine X_istore_n C dX1_vertex_1 rfl (lo2 := [(2, _), (0, _), (1, _)]) (by decide) rfl ?_
  refine X_sub [1, 2, 0] (lo2 := [(0, _), (1, _), (2, _)]) rfl ?_
  refine t_X1_vertex_l2 hH hd C hn ?_ gFU p1 0 h
  · intro x2 h
    exact t_X1_vertex_b23 hH hd C hn x2 h

def w_X3_init (st : St) (a0 : Nat) (Φ : St → Prop) : Prop := Φ st
theorem nm_X3_init : yX3_init.cls ≠ "java/lang/invoke/MethodHandle" ∧ yX3_init.cls ≠ "java/lang/invoke/VarHandle" ∧ (parseMethodDescriptor yX3_init.desc).map (fun d => d.parameters.length) = some 0 := by decide +kernel
theorem e_X3_init : plainFor yX3_init = true := plainFor_of_name (by decide +kernel)
theorem m_X3_init {θ : Th} {l : Launch} (hl0 : l.stackTraces = false) (hX : LX θ) {d : Nat} (hd : 0 ≤ d) (st : St) (a0 : Nat) (hs_a0 : sh st a0 = 4) (hb_a0 : a0 < gBIG) {Φ : St → Prop} (h : w_X3_init st a0 Φ) : Ct θ l yX3_init (ws_ yX3_init cX3_init 1 (none : Option Jvm.ClassFile.FieldType)) d [.ref (ad θ a0)] st (pV Φ, noX) := by
  refine Ct_entry hl0 e_X3_init (Nat.le_of_ble_eq_true rfl) (fun κ hκ _ C => ?_)
  have hn : ∀ st, Φ st → ((pV Φ, noX) : Ph).1 st none := fun st q => ⟨rfl, q⟩
  change X _ _ _ _ _ [(0, .ref (ad θ a0))] _
  unfold w_X3_init at h
  refine X_aload_n C dX3_init_0 rfl 0 rfl (isRV_r _) ?_
  refine X_objInit C ⟨_, rfl⟩ q254 q168 q169 (Nat.le_of_ble_eq_true rfl) dX3_init_1 ?_
  exact X_vret C rfl dX3_init_4 (hn st h)

def w_X3_becomes_b26 (Φ : St → Prop) (st : St) (z0 : Option Nat) (z1 : Nat) : Prop := ∀ s3, s3 = putR st z1 0 z0 → Φ s3
theorem t_X3_becomes_b26 {θ : Th} {κ : Kx} {Ph : Ph} (hX : LX θ) {d : Nat} (hd : 0 ≤ d) (C : Cx θ κ yX3_becomes cX3_becomes 3 (none : Option Jvm.ClassFile.FieldType) [] d) {Φ : St → Prop} (hn : ∀ st, Φ st → Ph.1 st none) (st : St) (z0 : Option Nat) (z1 : Nat) (hs_z1 : sh st z1 = 4) (hb_z1 : z1 < gBIG) (h : w_X3_becomes_b26 Φ st z0 z1) : X θ κ Ph st 26 [] [rv θ z0, .ref (ad θ z1)] := by
  unfold w_X3_becomes_b26 at h
  refine X_putRG (v := z0) (ci := 3) (j := 0) (q := (RX3, TX3, 1)) C hX rfl (by decide) q255 rfl rfl dX3_becomes_26 hb_z1 hs_z1 (by decide +kernel) (Or.inl ⟨_, rfl⟩) ?_
  refine X_nm (fun s3 e4 => ?_)
  have h := h s3 e4
  have hs_z1 : sh s3 z1 = 4 := by rw [e4]; exact hs_z1
  exact X_vret C rfl dX3_becomes_29 (hn s3 h)
def w_X3_becomes (st : St) (a0 : Nat) (p1 : Int32) (p2 : Int32) (Φ : St → Prop) : Prop := ((p1 ≠ 16) → ((p1 ≠ 64) → w_X3_becomes_b26 Φ st none a0) ∧ ((p1 = 64) → ¬ p2 < 0 ∧ p2.toNatClampNeg * 8 ≤ 536870912 ∧ sN st + 1 ≤ gCAP ∧ sS st + p2.toNatClampNeg ≤ gCAPS ∧ ∀ s9, s9 = mk st 102 (p2.toNatClampNeg) → w_X3_becomes_b26 Φ s9 (some (sN st)) a0)) ∧ ((p1 = 16) → ¬ p2 < 0 ∧ p2.toNatClampNeg * 8 ≤ 536870912 ∧ sN st + 1 ≤ gCAP ∧ sS st + p2.toNatClampNeg ≤ gCAPS ∧ ∀ s19, s19 = mk st 106 (p2.toNatClampNeg) → w_X3_becomes_b26 Φ s19 (some (sN st)) a0)
theorem nm_X3_becomes : yX3_becomes.cls ≠ "java/lang/invoke/MethodHandle" ∧ yX3_becomes.cls ≠ "java/lang/invoke/VarHandle" ∧ (parseMethodDescriptor yX3_becomes.desc).map (fun d => d.parameters.length) = some 2 := by decide +kernel
theorem e_X3_becomes : plainFor yX3_becomes = true := plainFor_of_name (by decide +kernel)
theorem m_X3_becomes {θ : Th} {l : Launch} (hl0 : l.stackTraces = false) (hX : LX θ) {d : Nat} (hd : 0 ≤ d) (st : St) (a0 : Nat) (p1 : Int32) (p2 : Int32) (hs_a0 : sh st a0 = 4) (hb_a0 : a0 < gBIG) {Φ : St → Prop} (h : w_X3_becomes st a0 p1 p2 Φ) : Ct θ l yX3_becomes (ws_ yX3_becomes cX3_becomes 3 (none : Option Jvm.ClassFile.FieldType)) d [.ref (ad θ a0), .int p1, .int p2] st (pV Φ, noX) := by
  refine Ct_entry hl0 e_X3_becomes (Nat.le_of_ble_eq_true rfl) (fun κ hκ _ C => ?_)
  have hn : ∀ st, Φ st → ((pV Φ, noX) : Ph).1 st none := fun st q => ⟨rfl, q⟩
  change X _ _ _ _ _ [(0, .ref (ad θ a0)), (1, .int p1), (2, .int p2)] _
  unfold w_X3_becomes at h
  refine X_aload_n C dX3_becomes_0 rfl 0 rfl (isRV_r _) ?_
  refine X_iload_n C dX3_becomes_1 rfl 1 rfl ?_
  refine X_bipush (v := 16) C dX3_becomes_2 rfl ?_
  refine X_icmp_ne (tgt := 13) C dX3_becomes_4 (by decide) (fun c1 => ?_) (fun c1 => ?_)
  · have h := h.1 c1
    refine X_iload_n C dX3_becomes_13 rfl 1 rfl ?_
    refine X_bipush (v := 64) C dX3_becomes_14 rfl ?_
    refine X_icmp_ne (tgt := 25) C dX3_becomes_16 (by decide) (fun c2 => ?_) (fun c2 => ?_)
    · have h := h.1 c2
      refine X_null C dX3_becomes_25 ?_
      refine X_sub [] (lo2 := []) rfl ?_
      exact t_X3_becomes_b26 hX hd C hn st none a0 hs_a0 hb_a0 h
    · have h := h.2 c2
      refine X_iload_n C dX3_becomes_19 rfl 2 rfl ?_
      have g5 := h.1
      have h := h.2
      have g6 := h.1
      have h := h.2
      have g7 := h.1
      have h := h.2
      have g8 := h.1
      have h := h.2
      refine X_newarray (t := 102) (aty := .long) C 1 rfl (by decide) rfl q246 (fun _ _ h => h) g5 rfl g6 (by decide) g7 g8 dX3_becomes_20 (fun hE11 => ?_)
      refine X_nm (fun s9 e10 => ?_)
      have h := h s9 e10
      rw [← e10] at hE11
      have hs_a0 := Ext_sh hE11 hs_a0 (by decide)
      have hs12 : sh s9 (sN st) = 102 := by rw [e10]; exact sh_mk
      have hl14 : ln s9 (sN st) = p2.toNatClampNeg := by rw [e10]; exact ln_mk
      have hb13 := nb_N g7
      refine X_goto (tgt := 26) C dX3_becomes_22 (by decide) ?_
      refine X_sub [] (lo2 := []) rfl ?_
      exact t_X3_becomes_b26 hX hd C hn s9 (some (sN st)) a0 hs_a0 hb_a0 h
  · have h := h.2 c1
    refine X_iload_n C dX3_becomes_7 rfl 2 rfl ?_
    have g15 := h.1
    have h := h.2
    have g16 := h.1
    have h := h.2
    have g17 := h.1
    have h := h.2
    have g18 := h.1
    have h := h.2
    refine X_newarray (t := 106) (aty := .short) C 5 rfl (by decide) rfl q1725 (fun _ _ h => h) g15 rfl g16 (by decide) g17 g18 dX3_becomes_8 (fun hE21 => ?_)
    refine X_nm (fun s19 e20 => ?_)
    have h := h s19 e20
    rw [← e20] at hE21
    have hs_a0 := Ext_sh hE21 hs_a0 (by decide)
    have hs22 : sh s19 (sN st) = 106 := by rw [e20]; exact sh_mk
    have hl24 : ln s19 (sN st) = p2.toNatClampNeg := by rw [e20]; exact ln_mk
    have hb23 := nb_N g17
    refine X_goto (tgt := 26) C dX3_becomes_10 (by decide) ?_
    refine X_sub [] (lo2 := []) rfl ?_
    exact t_X3_becomes_b26 hX hd C hn s19 (some (sN st)) a0 hs_a0 hb_a0 h
