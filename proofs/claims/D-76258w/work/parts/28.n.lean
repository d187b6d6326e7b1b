set_option maxRecDepth 100000
theorem nm_X9_init : yX9_init.cls ≠ "java/lang/invoke/MethodHandle" ∧ yX9_init.cls ≠ "java/lang/invoke/VarHandle" ∧ (parseMethodDescriptor yX9_init.desc).map (fun d => d.parameters.length) = some 4 := by decide +kernel
def w_X9_init (st : St) (a0 : Nat) (p1 : Nat) (p2 : Int32) (p3 : Int32) (p4 : Option Nat) (Φ : St → Prop) : Prop := ∀ s1, s1 = putI st a0 0 (sI st p1 0) → ∀ s3, s3 = putI s1 a0 1 (sI s1 p1 1) → ∀ s5, s5 = putI s3 a0 2 (sI s3 p1 2) → ∀ s7, s7 = putI s5 a0 3 p2 → ∀ s9, s9 = putI s7 a0 4 p3 → ∀ s11, s11 = putR s9 a0 5 p4 → Φ s11
theorem e_X9_init : plainFor yX9_init = true := plainFor_of_name (by decide +kernel)
theorem m_X9_init {θ : Th} {l : Launch} (hl0 : l.stackTraces = false) (hX : LX θ) {d : Nat} (hd : 0 ≤ d) (st : St) (a0 : Nat) (p1 : Nat) (p2 : Int32) (p3 : Int32) (p4 : Option Nat) (hs_a0 : sh st a0 = 9) (hb_a0 : a0 < gBIG) (hs_p1 : sh st p1 = 101) (hb_p1 : p1 < gBIG) (hl_p1 : ln st p1 = 3) {Φ : St → Prop} (h : w_X9_init st a0 p1 p2 p3 p4 Φ) : Ct θ l yX9_init (ws_ yX9_init cX9_init 5 (none : Option Jvm.ClassFile.FieldType)) d [.ref (ad θ a0), .ref (ad θ p1), .int p2, .int p3, rv θ p4] st (pV Φ, noX) := by
  refine Ct_entry hl0 e_X9_init (by rcases p4 with _ | p4 <;> exact Nat.le_of_ble_eq_true rfl) (fun κ hκ _ C => ?_)
  have hn : ∀ st, Φ st → ((pV Φ, noX) : Ph).1 st none := fun st q => ⟨rfl, q⟩
  have hlo : lv_args 0 [.ref (ad θ a0), .ref (ad θ p1), .int p2, .int p3, rv θ p4] = [(0, .ref (ad θ a0)), (1, .ref (ad θ p1)), (2, .int p2), (3, .int p3), (4, rv θ p4)] := by rcases p4 with _ | p4 <;> rfl
  rw [hlo]
  unfold w_X9_init at h
  refine X_aload_n C dX9_init_0 rfl 0 rfl (isRV_r _) ?_
  refine X_objInit C ⟨_, rfl⟩ q1651 q168 q169 (Nat.le_of_ble_eq_true rfl) dX9_init_1 ?_
  refine X_aload_n C dX9_init_4 rfl 0 rfl (isRV_r _) ?_
  refine X_aload_n C dX9_init_5 rfl 1 rfl (isRV_r _) ?_
  refine X_iconst (v := 0) C dX9_init_6 rfl ?_
  refine X_ialdD C hs_p1 hl_p1 (vp_dec rfl) rfl dX9_init_7 ?_
  refine X_putFI (ci := 8) (j := 0) (q := (RX9, TX9, 6)) C rfl rfl (by decide) q1652 rfl rfl rfl dX9_init_8 hb_a0 hs_a0 rfl rfl rfl ?_
  refine X_nm (fun s1 e2 => ?_)
  have h := h s1 e2
  have hs_a0 : sh s1 a0 = 9 := by rw [e2]; exact hs_a0
  have hs_p1 : sh s1 p1 = 101 := by rw [e2]; exact hs_p1
  have hl_p1 : ln s1 p1 = 3 := by rw [e2]; exact hl_p1
  refine X_aload_n C dX9_init_11 rfl 0 rfl (isRV_r _) ?_
  refine X_aload_n C dX9_init_12 rfl 1 rfl (isRV_r _) ?_
  refine X_iconst (v := 1) C dX9_init_13 rfl ?_
  refine X_ialdD C hs_p1 hl_p1 (vp_dec rfl) rfl dX9_init_14 ?_
  refine X_putFI (ci := 8) (j := 1) (q := (RX9, TX9, 6)) C rfl rfl (by decide) q1654 rfl rfl rfl dX9_init_15 hb_a0 hs_a0 rfl rfl rfl ?_
  refine X_nm (fun s3 e4 => ?_)
  have h := h s3 e4
  have hs_a0 : sh s3 a0 = 9 := by rw [e4]; exact hs_a0
  have hs_p1 : sh s3 p1 = 101 := by rw [e4]; exact hs_p1
  have hl_p1 : ln s3 p1 = 3 := by rw [e4]; exact hl_p1
  refine X_aload_n C dX9_init_18 rfl 0 rfl (isRV_r _) ?_
  refine X_aload_n C dX9_init_19 rfl 1 rfl (isRV_r _) ?_
  refine X_iconst (v := 2) C dX9_init_20 rfl ?_
  refine X_ialdD C hs_p1 hl_p1 (vp_dec rfl) rfl dX9_init_21 ?_
  refine X_putFI (ci := 8) (j := 2) (q := (RX9, TX9, 6)) C rfl rfl (by decide) q1656 rfl rfl rfl dX9_init_22 hb_a0 hs_a0 rfl rfl rfl ?_
  refine X_nm (fun s5 e6 => ?_)
  have h := h s5 e6
  have hs_a0 : sh s5 a0 = 9 := by rw [e6]; exact hs_a0
  have hs_p1 : sh s5 p1 = 101 := by rw [e6]; exact hs_p1
  have hl_p1 : ln s5 p1 = 3 := by rw [e6]; exact hl_p1
  refine X_aload_n C dX9_init_25 rfl 0 rfl (isRV_r _) ?_
  refine X_iload_n C dX9_init_26 rfl 2 rfl ?_
  refine X_putFI (ci := 8) (j := 3) (q := (RX9, TX9, 6)) C rfl rfl (by decide) q1658 rfl rfl rfl dX9_init_27 hb_a0 hs_a0 rfl rfl rfl ?_
  refine X_nm (fun s7 e8 => ?_)
  have h := h s7 e8
  have hs_a0 : sh s7 a0 = 9 := by rw [e8]; exact hs_a0
  have hs_p1 : sh s7 p1 = 101 := by rw [e8]; exact hs_p1
  have hl_p1 : ln s7 p1 = 3 := by rw [e8]; exact hl_p1
  refine X_aload_n C dX9_init_30 rfl 0 rfl (isRV_r _) ?_
  refine X_iload_n C dX9_init_31 rfl 3 rfl ?_
  refine X_putFI (ci := 8) (j := 4) (q := (RX9, TX9, 6)) C rfl rfl (by decide) q1660 rfl rfl rfl dX9_init_32 hb_a0 hs_a0 rfl rfl rfl ?_
  refine X_nm (fun s9 e10 => ?_)
  have h := h s9 e10
  have hs_a0 : sh s9 a0 = 9 := by rw [e10]; exact hs_a0
  have hs_p1 : sh s9 p1 = 101 := by rw [e10]; exact hs_p1
  have hl_p1 : ln s9 p1 = 3 := by rw [e10]; exact hl_p1
  refine X_aload_n C dX9_init_35 rfl 0 rfl (isRV_r _) ?_
  refine X_aload C dX9_init_36 4 rfl (isRV_v _ _) ?_
  refine X_putFR (v := p4) (ci := 8) (j := 5) (q := (RX9, TX9, 6)) C hX rfl rfl (by decide) q1662 rfl rfl rfl dX9_init_38 hb_a0 hs_a0 (by decide) (Or.inl ⟨_, rfl⟩) ?_
  refine X_nm (fun s11 e12 => ?_)
  have h := h s11 e12
  have hs_a0 : sh s11 a0 = 9 := by rw [e12]; exact hs_a0
  have hs_p1 : sh s11 p1 = 101 := by rw [e12]; exact hs_p1
  have hl_p1 : ln s11 p1 = 3 := by rw [e12]; exact hl_p1
  exact X_vret C rfl dX9_init_41 (hn s11 h)

theorem nm_X7_init : yX7_init.cls ≠ "java/lang/invoke/MethodHandle" ∧ yX7_init.cls ≠ "java/lang/invoke/VarHandle" ∧ (parseMethodDescriptor yX7_init.desc).map (fun d => d.parameters.length) = some 1 := by decide +kernel
def w_X7_init (st : St) (a0 : Nat) (p1 : Int32) (Φ : St → Prop) : Prop := sN st + 1 ≤ gCAP ∧ sS st + 3 ≤ gCAPS ∧ ∀ s3, s3 = mk st 116 3 → ∀ s9, s9 = putR s3 a0 2 (some (sN st)) → ∀ s11, s11 = putI s9 a0 0 p1 → Φ s11
theorem e_X7_init : plainFor yX7_init = true := plainFor_of_name (by decide +kernel)
theorem m_X7_init {θ : Th} {l : Launch} (hl0 : l.stackTraces = false) (hX : LX θ) {d : Nat} (hd : 0 ≤ d) (st : St) (a0 : Nat) (p1 : Int32) (hs_a0 : sh st a0 = 8) (hb_a0 : a0 < gBIG) {Φ : St → Prop} (h : w_X7_init st a0 p1 Φ) : Ct θ l yX7_init (ws_ yX7_init cX7_init 2 (none : Option Jvm.ClassFile.FieldType)) d [.ref (ad θ a0), .int p1] st (pV Φ, noX) := by
  refine Ct_entry hl0 e_X7_init (Nat.le_of_ble_eq_true rfl) (fun κ hκ _ C => ?_)
  have hn : ∀ st, Φ st → ((pV Φ, noX) : Ph).1 st none := fun st q => ⟨rfl, q⟩
  change X _ _ _ _ _ [(0, .ref (ad θ a0)), (1, .int p1)] _
  unfold w_X7_init at h
  refine X_aload_n C dX7_init_0 rfl 0 rfl (isRV_r _) ?_
  refine X_objInit C ⟨_, rfl⟩ q1262 q168 q169 (Nat.le_of_ble_eq_true rfl) dX7_init_1 ?_
  refine X_aload_n C dX7_init_4 rfl 0 rfl (isRV_r _) ?_
  refine X_iconst (v := 3) C dX7_init_5 rfl ?_
  have g1 := h.1
  have h := h.2
  have g2 := h.1
  have h := h.2
  refine X_anewarray (t := 116) C 11 rfl (by decide) (Cn := "SecretsWorth$Node") rfl q1263 (by decide) (by decide) rfl (by decide) g1 g2 dX7_init_6 (fun hE5 => ?_)
  refine X_nm (fun s3 e4 => ?_)
  have h := h s3 e4
  rw [← e4] at hE5
  have hs_a0 := Ext_sh hE5 hs_a0 (by decide)
  have hs6 : sh s3 (sN st) = 116 := by rw [e4]; exact sh_mk
  have hl8 : ln s3 (sN st) = 3 := by rw [e4]; exact ln_mk
  have hb7 := nb_N g1
  refine X_putFR (v := (some (sN st))) (ci := 7) (j := 2) (q := (RX7, TX7, 4)) C hX rfl rfl (by decide) q1269 rfl rfl rfl dX7_init_9 hb_a0 hs_a0 (by decide) (Or.inr ⟨_, rfl⟩) ?_
  refine X_nm (fun s9 e10 => ?_)
  have h := h s9 e10
  have hs_a0 : sh s9 a0 = 8 := by rw [e10]; exact hs_a0
  have hs6 : sh s9 (sN st) = 116 := by rw [e10]; exact hs6
  have hl8 : ln s9 (sN st) = 3 := by rw [e10]; exact hl8
  refine X_aload_n C dX7_init_12 rfl 0 rfl (isRV_r _) ?_
  refine X_iload_n C dX7_init_13 rfl 1 rfl ?_
  refine X_putFI (ci := 7) (j := 0) (q := (RX7, TX7, 4)) C rfl rfl (by decide) q1265 rfl rfl rfl dX7_init_14 hb_a0 hs_a0 rfl rfl rfl ?_
  refine X_nm (fun s11 e12 => ?_)
  have h := h s11 e12
  have hs_a0 : sh s11 a0 = 8 := by rw [e12]; exact hs_a0
  have hs6 : sh s11 (sN st) = 116 := by rw [e12]; exact hs6
  have hl8 : ln s11 (sN st) = 3 := by rw [e12]; exact hl8
  exact X_vret C rfl dX7_init_17 (hn s11 h)

theorem nm_X7_add : yX7_add.cls ≠ "java/lang/invoke/MethodHandle" ∧ yX7_add.cls ≠ "java/lang/invoke/VarHandle" ∧ (parseMethodDescriptor yX7_add.desc).map (fun d => d.parameters.length) = some 1 := by decide +kernel
def w_X7_add (st : St) (a0 : Nat) (p1 : Nat) (Φ : St → Prop) : Prop := ∃ r1, (sR st a0 2) = some r1 ∧ r1 < gBIG ∧ sh st r1 = 116 ∧ vp_in (sI st a0 3) (ln st r1) ∧ ∀ s6, s6 = putR st r1 ((sI st a0 3).toNatClampNeg) (some p1) → ∀ s8, s8 = putI s6 a0 3 ((sI s6 a0 3) + 1) → Φ s8
theorem e_X7_add : plainFor yX7_add = true := plainFor_of_name (by decide +kernel)
theorem m_X7_add {θ : Th} {l : Launch} (hl0 : l.stackTraces = false) (hX : LX θ) {d : Nat} (hd : 0 ≤ d) (st : St) (a0 : Nat) (p1 : Nat) (hs_a0 : sh st a0 = 8) (hb_a0 : a0 < gBIG) (hs_p1 : sh st p1 = 8) (hb_p1 : p1 < gBIG) {Φ : St → Prop} (h : w_X7_add st a0 p1 Φ) : Ct θ l yX7_add (ws_ yX7_add cX7_add 2 (none : Option Jvm.ClassFile.FieldType)) d [.ref (ad θ a0), .ref (ad θ p1)] st (pV Φ, noX) := by
  refine Ct_entry hl0 e_X7_add (Nat.le_of_ble_eq_true rfl) (fun κ hκ _ C => ?_)
  have hn : ∀ st, Φ st → ((pV Φ, noX) : Ph).1 st none := fun st q => ⟨rfl, q⟩
  change X _ _ _ _ _ [(0, .ref (ad θ a0)), (1, .ref (ad θ p1))] _
  unfold w_X7_add at h
  refine X_aload_n C dX7_add_0 rfl 0 rfl (isRV_r _) ?_
  refine X_get (ci := 7) (j := 2) (q := (RX7, TX7, 4)) C rfl (by decide) q1269 rfl dX7_add_1 hs_a0 (v := rv θ (sR st a0 2)) rfl ?_
  obtain ⟨r1, q2, hb4, hs3, h⟩ := h
  rw [q2]
  refine X_tor ?_
  refine X_aload_n C dX7_add_4 rfl 0 rfl (isRV_r _) ?_
  refine X_get (ci := 7) (j := 3) (q := (RX7, TX7, 4)) C rfl (by decide) q1271 rfl dX7_add_5 hs_a0 (v := .int (sI st a0 3)) rfl ?_
  refine X_aload_n C dX7_add_8 rfl 1 rfl (isRV_r _) ?_
  have g5 := h.1
  have h := h.2
  refine X_aastD C hX hb4 hs3 rfl g5 rfl hs_p1 dX7_add_9 ?_
  refine X_nm (fun s6 e7 => ?_)
  have h := h s6 e7
  have hs_a0 : sh s6 a0 = 8 := by rw [e7]; exact hs_a0
  have hs_p1 : sh s6 p1 = 8 := by rw [e7]; exact hs_p1
  have hs3 : sh s6 r1 = 116 := by rw [e7]; exact hs3
  refine X_aload_n C dX7_add_10 rfl 0 rfl (isRV_r _) ?_
  refine X_dup C dX7_add_11 rfl ?_
  refine X_get (ci := 7) (j := 3) (q := (RX7, TX7, 4)) C rfl (by decide) q1271 rfl dX7_add_12 hs_a0 (v := .int (sI s6 a0 3)) rfl ?_
  refine X_iconst (v := 1) C dX7_add_15 rfl ?_
  refine X_iadd C dX7_add_16 ?_
  refine X_putI (ci := 7) (j := 3) (q := (RX7, TX7, 4)) C rfl (by decide) q1271 rfl rfl dX7_add_17 hb_a0 hs_a0 rfl rfl rfl ?_
  refine X_nm (fun s8 e9 => ?_)
  have h := h s8 e9
  have hs_a0 : sh s8 a0 = 8 := by rw [e9]; exact hs_a0
  have hs_p1 : sh s8 p1 = 8 := by rw [e9]; exact hs_p1
  have hs3 : sh s8 r1 = 116 := by rw [e9]; exact hs3
  exact X_vret C rfl dX7_add_20 (hn s8 h)

theorem nm_X3_get : yX3_get.cls ≠ "java/lang/invoke/MethodHandle" ∧ yX3_get.cls ≠ "java/lang/invoke/VarHandle" ∧ (parseMethodDescriptor yX3_get.desc).map (fun d => d.parameters.length) = some 1 := by decide +kernel
def w_X3_get (st : St) (a0 : Nat) (p1 : Int32) (Φ : St → Int64 → Prop) (Φw : St → Nat → Prop) : Prop := ((sR st a0 0) = none ∨ ∃ r1, (sR st a0 0) = some r1 ∧ r1 < gBIG ∧ (sh st r1 = 106 ∨ sh st r1 = 102)) ∧ ((sR st a0 0) = none → sN st + 1 ≤ gCAP ∧ sS st + 8 ≤ gCAPS ∧ ∀ a7 b8, a7 ≤ 1 → b8 ≤ 8 → ∀ s10, s10 = jk st a7 b8 → sN s10 + 1 ≤ gCAP ∧ sS s10 + 7 ≤ gCAPS ∧ ∀ s14, s14 = mk s10 6 7 → w_X5_init s14 (sN s10) 8 (fun (s20 : St) => Φw s20 (sN s10))) ∧ (∀ r1, (sR st a0 0) = some r1 → r1 < gBIG → sh st r1 = 106 → (vp_in p1 (ln st r1) → Φ st (sI st r1 (p1).toNatClampNeg).toInt64) ∧ (¬ vp_in p1 (ln st r1) → ln st r1 < 2 ^ 31 ∧ sN st + 3 ≤ gCAP ∧ sS st + 222 ≤ gCAPS ∧ ∀ a32 b33, a32 ≤ 3 → b33 ≤ 222 → ∀ s35, s35 = jk st a32 b33 → sN s35 + 1 ≤ gCAP ∧ sS s35 + 7 ≤ gCAPS ∧ ∀ s39, s39 = mk s35 6 7 → w_X5_init s39 (sN s35) 8 (fun (s45 : St) => Φw s45 (sN s35)))) ∧ (∀ r1, (sR st a0 0) = some r1 → r1 < gBIG → sh st r1 = 102 → (vp_in p1 (ln st r1) → Φ st (sL st r1 (p1).toNatClampNeg)) ∧ (¬ vp_in p1 (ln st r1) → ln st r1 < 2 ^ 31 ∧ sN st + 3 ≤ gCAP ∧ sS st + 222 ≤ gCAPS ∧ ∀ a57 b58, a57 ≤ 3 → b58 ≤ 222 → ∀ s60, s60 = jk st a57 b58 → sN s60 + 1 ≤ gCAP ∧ sS s60 + 7 ≤ gCAPS ∧ ∀ s64, s64 = mk s60 6 7 → w_X5_init s64 (sN s60) 8 (fun (s70 : St) => Φw s70 (sN s60))))
theorem e_X3_get : plainFor yX3_get = true := plainFor_of_name (by decide +kernel)
theorem m_X3_get {θ : Th} {l : Launch} (hl0 : l.stackTraces = false) (hX : LX θ) {d : Nat} (hd : 4 ≤ d) (st : St) (a0 : Nat) (p1 : Int32) (hs_a0 : sh st a0 = 4) (hb_a0 : a0 < gBIG) {Φ : St → Int64 → Prop} {Φw : St → Nat → Prop} (h : w_X3_get st a0 p1 Φ Φw) : Ct θ l yX3_get (wsW_ yX3_get cX3_get 3 (some Jvm.ClassFile.FieldType.long) [(0, 32, 33, 19), (0, 32, 44, 26)]) d [.ref (ad θ a0), .int p1] st (pL Φ, (exW θ Φw)) := by
  refine Ct_entryW hl0 e_X3_get (Nat.le_of_ble_eq_true rfl) (fun κ hκ _ C => ?_)
  have hn : ∀ st r, Φ st r → ((pL Φ, (exW θ Φw)) : Ph).1 st (some (.long r)) := fun st r q => ⟨r, rfl, q⟩
  have hw : ∀ st a, a < gBIG → sh st a = 6 → Φw st a → ((pL Φ, (exW θ Φw)) : Ph).2 st "SecretsWorth$Wrong" (ad θ a) := fun st a q1 q2 q => ⟨rfl, a, rfl, q1, q2, q⟩
  change X _ _ _ _ _ [(0, .ref (ad θ a0)), (1, .int p1)] _
  unfold w_X3_get at h
  refine X_aload_n C dX3_get_0 rfl 0 rfl (isRV_r _) ?_
  refine X_get (ci := 3) (j := 0) (q := (RX3, TX3, 1)) C rfl (by decide) q255 rfl dX3_get_1 hs_a0 (v := rv θ (sR st a0 0)) rfl ?_
  obtain ⟨hg_, h0_, h1_, h2_⟩ := h
  rcases hg_ with q2 | ⟨r1, q2, hb3, hs4 | hs4⟩
  · have h := h0_ q2
    rw [q2]
    refine X_ton ?_
    refine X_instN C dX3_get_4 ?_
    refine X_if_eq (tgt := 23) C dX3_get_7 (by decide) (fun c27 => ?_) (fun c27 => ?_)
    · refine X_aload_n C dX3_get_23 rfl 0 rfl (isRV_r _) ?_
      refine X_get (ci := 3) (j := 0) (q := (RX3, TX3, 1)) C rfl (by decide) q255 rfl dX3_get_24 hs_a0 (v := rv θ (sR st a0 0)) rfl ?_
      rw [q2]
      refine X_ton ?_
      refine X_castN C dX3_get_27 ?_
      refine X_iload_n C dX3_get_30 rfl 1 rfl ?_
      have g5 := h.1
      have h := h.2
      have g6 := h.1
      have h := h.2
      refine X_laldN C dX3_get_31 (Nat.le_of_ble_eq_true rfl) g5 g6 (fun a7 b8 q9 haa7 hbb8 => ?_)
      refine XT_nm (fun s10 e11 => ?_)
      have h := h a7 b8 haa7 hbb8 s10 e11
      have hs_a0 : sh s10 a0 = 4 := by rw [e11]; exact hs_a0
      refine XT_catch C [] ⟨0, 32, 33, 19⟩ [⟨0, 32, 44, 26⟩] rfl (fun _ h => absurd h List.not_mem_nil) (by decide) (by decide) q550 q572 ?_
      refine X_astore_n C dX3_get_33 rfl (isRV_r _) (lo2 := [(2, _), (0, _), (1, _)]) (by decide) rfl ?_
      have g12 := h.1
      have h := h.2
      have g13 := h.1
      have h := h.2
      refine X_new (ci := 5) (q := (RX5, TX5, 7)) C rfl q609 q424 q140 g12 g13 dX3_get_34 (fun hE16 => ?_)
      refine X_nm (fun s14 e15 => ?_)
      have h := h s14 e15
      rw [← e15] at hE16
      have hs_a0 := Ext_sh hE16 hs_a0 (by decide)
      have hs17 : sh s14 (sN s10) = 6 := by rw [e15]; exact sh_mk
      have hb18 := nb_N g12
      refine X_dup C dX3_get_37 rfl ?_
      refine X_bipush (v := 8) C dX3_get_38 rfl ?_
      refine X_callI (As := [_]) (rest := [_]) C q610 q480 q140 q481 rfl nm_X5_init rfl dX3_get_40 (m_X5_init (Cx_l C) hX (d := d - 1) (by omega) s14 (sN s10) 8 hs17 hb18 h) (by omega) (by decide) (Nat.le_of_ble_eq_true rfl) (fun s20 w21 hE22 hP23 => ?_) (fun s26 E24 q25 hE22 hP23 => ?_)
      rotate_left
      · exact False.elim hP23
      obtain ⟨rfl, h⟩ := hP23
      refine X_tln ?_
      have hs_a0 := Ext_sh hE22 hs_a0 (by decide)
      have hs17 := Ext_sh hE22 hs17 (by decide)
      refine X_athrow C (ci := 5) rfl hs17 dX3_get_43 ?_
      exact XT_out C rfl (hw s20 (sN s10) hb18 hs17 h)
    · exact absurd c27 (by decide)
  · have h := h1_ r1 q2 hb3 hs4
    rw [q2]
    refine X_tor ?_
    refine X_instT C (by decide) hs4 (fun _ h => nm_arrS h) q607 dX3_get_4 ?_
    refine X_if_eq (tgt := 23) C dX3_get_7 (by decide) (fun c52 => ?_) (fun c52 => ?_)
    · exact absurd c52 (by decide)
    · refine X_aload_n C dX3_get_10 rfl 0 rfl (isRV_r _) ?_
      refine X_get (ci := 3) (j := 0) (q := (RX3, TX3, 1)) C rfl (by decide) q255 rfl dX3_get_11 hs_a0 (v := rv θ (sR st a0 0)) rfl ?_
      rw [q2]
      refine X_tor ?_
      refine X_castT C (by decide) hs4 (fun _ h => nm_arrS h) q607 dX3_get_14 ?_
      refine X_iload_n C dX3_get_17 rfl 1 rfl ?_
      by_cases c28 : vp_in p1 (ln st r1)
      · have h := h.1 c28
        refine X_saldD C hs4 rfl c28 rfl dX3_get_18 ?_
        refine X_i2l C dX3_get_19 ?_
        refine X_goto (tgt := 32) C dX3_get_20 (by decide) ?_
        exact X_lret C rfl dX3_get_32 (hn st _ h)
      · have h := h.2 c28
        have g29 := h.1
        have h := h.2
        have g30 := h.1
        have h := h.2
        have g31 := h.1
        have h := h.2
        refine X_saldO C hs4 c28 g29 dX3_get_18 (Nat.le_of_ble_eq_true rfl) g30 g31 (fun a32 b33 q34 haa32 hbb33 => ?_)
        refine XT_nm (fun s35 e36 => ?_)
        have h := h a32 b33 haa32 hbb33 s35 e36
        have hs_a0 : sh s35 a0 = 4 := by rw [e36]; exact hs_a0
        have hs4 : sh s35 r1 = 106 := by rw [e36]; exact hs4
        refine XT_catch C [⟨0, 32, 33, 19⟩] ⟨0, 32, 44, 26⟩ [] rfl (List.forall_mem_cons.mpr ⟨Or.inr ⟨by decide, "java/lang/NullPointerException", q550, by decide +kernel⟩, (fun _ h => absurd h List.not_mem_nil)⟩) (by decide) (by decide) q575 q598 ?_
        refine X_astore_n C dX3_get_44 rfl (isRV_r _) (lo2 := [(2, _), (0, _), (1, _)]) (by decide) rfl ?_
        have g37 := h.1
        have h := h.2
        have g38 := h.1
        have h := h.2
        refine X_new (ci := 5) (q := (RX5, TX5, 7)) C rfl q609 q424 q140 g37 g38 dX3_get_45 (fun hE41 => ?_)
        refine X_nm (fun s39 e40 => ?_)
        have h := h s39 e40
        rw [← e40] at hE41
        have hs_a0 := Ext_sh hE41 hs_a0 (by decide)
        have hs4 := Ext_sh hE41 hs4 (by decide)
        have hs42 : sh s39 (sN s35) = 6 := by rw [e40]; exact sh_mk
        have hb43 := nb_N g37
        refine X_dup C dX3_get_48 rfl ?_
        refine X_bipush (v := 8) C dX3_get_49 rfl ?_
        refine X_callI (As := [_]) (rest := [_]) C q610 q480 q140 q481 rfl nm_X5_init rfl dX3_get_51 (m_X5_init (Cx_l C) hX (d := d - 1) (by omega) s39 (sN s35) 8 hs42 hb43 h) (by omega) (by decide) (Nat.le_of_ble_eq_true rfl) (fun s45 w46 hE47 hP48 => ?_) (fun s51 E49 q50 hE47 hP48 => ?_)
        rotate_left
        · exact False.elim hP48
        obtain ⟨rfl, h⟩ := hP48
        refine X_tln ?_
        have hs_a0 := Ext_sh hE47 hs_a0 (by decide)
        have hs4 := Ext_sh hE47 hs4 (by decide)
        have hs42 := Ext_sh hE47 hs42 (by decide)
        refine X_athrow C (ci := 5) rfl hs42 dX3_get_54 ?_
        exact XT_out C rfl (hw s45 (sN s35) hb43 hs42 h)
  · have h := h2_ r1 q2 hb3 hs4
    rw [q2]
    refine X_tor ?_
    refine X_instJS C hs4 q607 dX3_get_4 ?_
    refine X_if_eq (tgt := 23) C dX3_get_7 (by decide) (fun c77 => ?_) (fun c77 => ?_)
    · refine X_aload_n C dX3_get_23 rfl 0 rfl (isRV_r _) ?_
      refine X_get (ci := 3) (j := 0) (q := (RX3, TX3, 1)) C rfl (by decide) q255 rfl dX3_get_24 hs_a0 (v := rv θ (sR st a0 0)) rfl ?_
      rw [q2]
      refine X_tor ?_
      refine X_castT C (by decide) hs4 (fun _ h => nm_arrJ h) q608 dX3_get_27 ?_
      refine X_iload_n C dX3_get_30 rfl 1 rfl ?_
      by_cases c53 : vp_in p1 (ln st r1)
      · have h := h.1 c53
        refine X_laldD C hs4 rfl c53 rfl dX3_get_31 ?_
        exact X_lret C rfl dX3_get_32 (hn st _ h)
      · have h := h.2 c53
        have g54 := h.1
        have h := h.2
        have g55 := h.1
        have h := h.2
        have g56 := h.1
        have h := h.2
        refine X_laldO C hs4 c53 g54 dX3_get_31 (Nat.le_of_ble_eq_true rfl) g55 g56 (fun a57 b58 q59 haa57 hbb58 => ?_)
        refine XT_nm (fun s60 e61 => ?_)
        have h := h a57 b58 haa57 hbb58 s60 e61
        have hs_a0 : sh s60 a0 = 4 := by rw [e61]; exact hs_a0
        have hs4 : sh s60 r1 = 102 := by rw [e61]; exact hs4
        refine XT_catch C [⟨0, 32, 33, 19⟩] ⟨0, 32, 44, 26⟩ [] rfl (List.forall_mem_cons.mpr ⟨Or.inr ⟨by decide, "java/lang/NullPointerException", q550, by decide +kernel⟩, (fun _ h => absurd h List.not_mem_nil)⟩) (by decide) (by decide) q575 q598 ?_
        refine X_astore_n C dX3_get_44 rfl (isRV_r _) (lo2 := [(2, _), (0, _), (1, _)]) (by decide) rfl ?_
        have g62 := h.1
        have h := h.2
        have g63 := h.1
        have h := h.2
        refine X_new (ci := 5) (q := (RX5, TX5, 7)) C rfl q609 q424 q140 g62 g63 dX3_get_45 (fun hE66 => ?_)
        refine X_nm (fun s64 e65 => ?_)
        have h := h s64 e65
        rw [← e65] at hE66
        have hs_a0 := Ext_sh hE66 hs_a0 (by decide)
        have hs4 := Ext_sh hE66 hs4 (by decide)
        have hs67 : sh s64 (sN s60) = 6 := by rw [e65]; exact sh_mk
        have hb68 := nb_N g62
        refine X_dup C dX3_get_48 rfl ?_
        refine X_bipush (v := 8) C dX3_get_49 rfl ?_
        refine X_callI (As := [_]) (rest := [_]) C q610 q480 q140 q481 rfl nm_X5_init rfl dX3_get_51 (m_X5_init (Cx_l C) hX (d := d - 1) (by omega) s64 (sN s60) 8 hs67 hb68 h) (by omega) (by decide) (Nat.le_of_ble_eq_true rfl) (fun s70 w71 hE72 hP73 => ?_) (fun s76 E74 q75 hE72 hP73 => ?_)
        rotate_left
        · exact False.elim hP73
        obtain ⟨rfl, h⟩ := hP73
        refine X_tln ?_
        have hs_a0 := Ext_sh hE72 hs_a0 (by decide)
        have hs4 := Ext_sh hE72 hs4 (by decide)
        have hs67 := Ext_sh hE72 hs67 (by decide)
        refine X_athrow C (ci := 5) rfl hs67 dX3_get_54 ?_
        exact XT_out C rfl (hw s70 (sN s60) hb68 hs67 h)
    · exact absurd c77 (by decide)

theorem nm_X3_size : yX3_size.cls ≠ "java/lang/invoke/MethodHandle" ∧ yX3_size.cls ≠ "java/lang/invoke/VarHandle" ∧ (parseMethodDescriptor yX3_size.desc).map (fun d => d.parameters.length) = some 0 := by decide +kernel
def w_X3_size (st : St) (a0 : Nat) (Φ : St → Int32 → Prop) (Φw : St → Nat → Prop) : Prop := ((sR st a0 0) = none ∨ ∃ r1, (sR st a0 0) = some r1 ∧ r1 < gBIG ∧ (sh st r1 = 106 ∨ sh st r1 = 102)) ∧ ((sR st a0 0) = none → sN st + 1 ≤ gCAP ∧ sS st + 8 ≤ gCAPS ∧ ∀ a7 b8, a7 ≤ 1 → b8 ≤ 8 → ∀ s10, s10 = jk st a7 b8 → sN s10 + 1 ≤ gCAP ∧ sS s10 + 7 ≤ gCAPS ∧ ∀ s14, s14 = mk s10 6 7 → w_X5_init s14 (sN s10) 8 (fun (s20 : St) => Φw s20 (sN s10))) ∧ (∀ r1, (sR st a0 0) = some r1 → r1 < gBIG → sh st r1 = 106 → Φ st (Int32.ofNat (ln st r1))) ∧ (∀ r1, (sR st a0 0) = some r1 → r1 < gBIG → sh st r1 = 102 → Φ st (Int32.ofNat (ln st r1)))
theorem e_X3_size : plainFor yX3_size = true := plainFor_of_name (by decide +kernel)
theorem m_X3_size {θ : Th} {l : Launch} (hl0 : l.stackTraces = false) (hX : LX θ) {d : Nat} (hd : 4 ≤ d) (st : St) (a0 : Nat) (hs_a0 : sh st a0 = 4) (hb_a0 : a0 < gBIG) {Φ : St → Int32 → Prop} {Φw : St → Nat → Prop} (h : w_X3_size st a0 Φ Φw) : Ct θ l yX3_size (wsW_ yX3_size cX3_size 2 (some Jvm.ClassFile.FieldType.int) [(0, 29, 30, 19)]) d [.ref (ad θ a0)] st (pI Φ, (exW θ Φw)) := by
  refine Ct_entryW hl0 e_X3_size (Nat.le_of_ble_eq_true rfl) (fun κ hκ _ C => ?_)
  have hn : ∀ st r, Φ st r → ((pI Φ, (exW θ Φw)) : Ph).1 st (some (.int r)) := fun st r q => ⟨r, rfl, q⟩
  have hw : ∀ st a, a < gBIG → sh st a = 6 → Φw st a → ((pI Φ, (exW θ Φw)) : Ph).2 st "SecretsWorth$Wrong" (ad θ a) := fun st a q1 q2 q => ⟨rfl, a, rfl, q1, q2, q⟩
  change X _ _ _ _ _ [(0, .ref (ad θ a0))] _
  unfold w_X3_size at h
  refine X_aload_n C dX3_size_0 rfl 0 rfl (isRV_r _) ?_
  refine X_get (ci := 3) (j := 0) (q := (RX3, TX3, 1)) C rfl (by decide) q255 rfl dX3_size_1 hs_a0 (v := rv θ (sR st a0 0)) rfl ?_
  obtain ⟨hg_, h0_, h1_, h2_⟩ := h
  rcases hg_ with q2 | ⟨r1, q2, hb3, hs4 | hs4⟩
  · have h := h0_ q2
    rw [q2]
    refine X_ton ?_
    refine X_instN C dX3_size_4 ?_
    refine X_if_eq (tgt := 21) C dX3_size_7 (by decide) (fun c27 => ?_) (fun c27 => ?_)
    · refine X_aload_n C dX3_size_21 rfl 0 rfl (isRV_r _) ?_
      refine X_get (ci := 3) (j := 0) (q := (RX3, TX3, 1)) C rfl (by decide) q255 rfl dX3_size_22 hs_a0 (v := rv θ (sR st a0 0)) rfl ?_
      rw [q2]
      refine X_ton ?_
      refine X_castN C dX3_size_25 ?_
      have g5 := h.1
      have h := h.2
      have g6 := h.1
      have h := h.2
      refine X_alenN C dX3_size_28 (Nat.le_of_ble_eq_true rfl) g5 g6 (fun a7 b8 q9 haa7 hbb8 => ?_)
      refine XT_nm (fun s10 e11 => ?_)
      have h := h a7 b8 haa7 hbb8 s10 e11
      have hs_a0 : sh s10 a0 = 4 := by rw [e11]; exact hs_a0
      refine XT_catch C [] ⟨0, 29, 30, 19⟩ [] rfl (fun _ h => absurd h List.not_mem_nil) (by decide) (by decide) q550 q572 ?_
      refine X_astore_n C dX3_size_30 rfl (isRV_r _) (lo2 := [(1, _), (0, _)]) (by decide) rfl ?_
      have g12 := h.1
      have h := h.2
      have g13 := h.1
      have h := h.2
      refine X_new (ci := 5) (q := (RX5, TX5, 7)) C rfl q609 q424 q140 g12 g13 dX3_size_31 (fun hE16 => ?_)
      refine X_nm (fun s14 e15 => ?_)
      have h := h s14 e15
      rw [← e15] at hE16
      have hs_a0 := Ext_sh hE16 hs_a0 (by decide)
      have hs17 : sh s14 (sN s10) = 6 := by rw [e15]; exact sh_mk
      have hb18 := nb_N g12
      refine X_dup C dX3_size_34 rfl ?_
      refine X_bipush (v := 8) C dX3_size_35 rfl ?_
      refine X_callI (As := [_]) (rest := [_]) C q610 q480 q140 q481 rfl nm_X5_init rfl dX3_size_37 (m_X5_init (Cx_l C) hX (d := d - 1) (by omega) s14 (sN s10) 8 hs17 hb18 h) (by omega) (by decide) (Nat.le_of_ble_eq_true rfl) (fun s20 w21 hE22 hP23 => ?_) (fun s26 E24 q25 hE22 hP23 => ?_)
      rotate_left
      · exact False.elim hP23
      obtain ⟨rfl, h⟩ := hP23
      refine X_tln ?_
      have hs_a0 := Ext_sh hE22 hs_a0 (by decide)
      have hs17 := Ext_sh hE22 hs17 (by decide)
      refine X_athrow C (ci := 5) rfl hs17 dX3_size_40 ?_
      exact XT_out C rfl (hw s20 (sN s10) hb18 hs17 h)
    · exact absurd c27 (by decide)
  · have h := h1_ r1 q2 hb3 hs4
    rw [q2]
    refine X_tor ?_
    refine X_instT C (by decide) hs4 (fun _ h => nm_arrS h) q607 dX3_size_4 ?_
    refine X_if_eq (tgt := 21) C dX3_size_7 (by decide) (fun c28 => ?_) (fun c28 => ?_)
    · exact absurd c28 (by decide)
    · refine X_aload_n C dX3_size_10 rfl 0 rfl (isRV_r _) ?_
      refine X_get (ci := 3) (j := 0) (q := (RX3, TX3, 1)) C rfl (by decide) q255 rfl dX3_size_11 hs_a0 (v := rv θ (sR st a0 0)) rfl ?_
      rw [q2]
      refine X_tor ?_
      refine X_castT C (by decide) hs4 (fun _ h => nm_arrS h) q607 dX3_size_14 ?_
      refine X_alen C 5 rfl hs4 (by decide) (v := (Int32.ofNat (ln st r1))) rfl dX3_size_17 ?_
      refine X_goto (tgt := 29) C dX3_size_18 (by decide) ?_
      exact X_iret C rfl dX3_size_29 (hn st _ h)
  · have h := h2_ r1 q2 hb3 hs4
    rw [q2]
    refine X_tor ?_
    refine X_instJS C hs4 q607 dX3_size_4 ?_
    refine X_if_eq (tgt := 21) C dX3_size_7 (by decide) (fun c29 => ?_) (fun c29 => ?_)
    · refine X_aload_n C dX3_size_21 rfl 0 rfl (isRV_r _) ?_
      refine X_get (ci := 3) (j := 0) (q := (RX3, TX3, 1)) C rfl (by decide) q255 rfl dX3_size_22 hs_a0 (v := rv θ (sR st a0 0)) rfl ?_
      rw [q2]
      refine X_tor ?_
      refine X_castT C (by decide) hs4 (fun _ h => nm_arrJ h) q608 dX3_size_25 ?_
      refine X_alen C 1 rfl hs4 (by decide) (v := (Int32.ofNat (ln st r1))) rfl dX3_size_28 ?_
      exact X_iret C rfl dX3_size_29 (hn st _ h)
    · exact absurd c29 (by decide)

theorem nm_X3_set : yX3_set.cls ≠ "java/lang/invoke/MethodHandle" ∧ yX3_set.cls ≠ "java/lang/invoke/VarHandle" ∧ (parseMethodDescriptor yX3_set.desc).map (fun d => d.parameters.length) = some 2 := by decide +kernel
def w_X3_set_b35 (Φ : St → Prop) (Φw : St → Nat → Prop) (st : St) : Prop := Φ st
theorem t_X3_set_b35 {θ : Th} {κ : Kx} {Ph : Ph} (hX : LX θ) {d : Nat} (hd : 4 ≤ d) (C : Cx θ κ yX3_set cX3_set 5 (none : Option Jvm.ClassFile.FieldType) [(0, 35, 38, 19), (0, 35, 50, 26)] d) {Φ : St → Prop} {Φw : St → Nat → Prop} (hn : ∀ st, Φ st → Ph.1 st none) (hw : ∀ st a, a < gBIG → sh st a = 6 → Φw st a → Ph.2 st "SecretsWorth$Wrong" (ad θ a)) (st : St) (h : w_X3_set_b35 Φ Φw st) : X θ κ Ph st 35 [] [] := by
  unfold w_X3_set_b35 at h
  refine X_goto (tgt := 62) C dX3_set_35 (by decide) ?_
  exact X_vret C rfl dX3_set_62 (hn st h)
def w_X3_set (st : St) (a0 : Nat) (p1 : Int32) (p2 : Int64) (Φ : St → Prop) (Φw : St → Nat → Prop) : Prop := ((sR st a0 0) = none ∨ ∃ r1, (sR st a0 0) = some r1 ∧ r1 < gBIG ∧ (sh st r1 = 106 ∨ sh st r1 = 102)) ∧ ((sR st a0 0) = none → sN st + 1 ≤ gCAP ∧ sS st + 8 ≤ gCAPS ∧ ∀ a7 b8, a7 ≤ 1 → b8 ≤ 8 → ∀ s10, s10 = jk st a7 b8 → sN s10 + 1 ≤ gCAP ∧ sS s10 + 7 ≤ gCAPS ∧ ∀ s14, s14 = mk s10 6 7 → w_X5_init s14 (sN s10) 8 (fun (s20 : St) => Φw s20 (sN s10))) ∧ (∀ r1, (sR st a0 0) = some r1 → r1 < gBIG → sh st r1 = 106 → (vp_in p1 (ln st r1) → ∀ s29, s29 = putI st r1 ((p1).toNatClampNeg) (p2.toInt32.toInt16.toInt32.toInt16.toInt32) → w_X3_set_b35 Φ Φw s29) ∧ (¬ vp_in p1 (ln st r1) → ln st r1 < 2 ^ 31 ∧ sN st + 3 ≤ gCAP ∧ sS st + 222 ≤ gCAPS ∧ ∀ a34 b35, a34 ≤ 3 → b35 ≤ 222 → ∀ s37, s37 = jk st a34 b35 → sN s37 + 1 ≤ gCAP ∧ sS s37 + 7 ≤ gCAPS ∧ ∀ s41, s41 = mk s37 6 7 → w_X5_init s41 (sN s37) 8 (fun (s47 : St) => Φw s47 (sN s37)))) ∧ (∀ r1, (sR st a0 0) = some r1 → r1 < gBIG → sh st r1 = 102 → (vp_in p1 (ln st r1) → ∀ s56, s56 = putL st r1 ((p1).toNatClampNeg) p2 → w_X3_set_b35 Φ Φw s56) ∧ (¬ vp_in p1 (ln st r1) → ln st r1 < 2 ^ 31 ∧ sN st + 3 ≤ gCAP ∧ sS st + 222 ≤ gCAPS ∧ ∀ a61 b62, a61 ≤ 3 → b62 ≤ 222 → ∀ s64, s64 = jk st a61 b62 → sN s64 + 1 ≤ gCAP ∧ sS s64 + 7 ≤ gCAPS ∧ ∀ s68, s68 = mk s64 6 7 → w_X5_init s68 (sN s64) 8 (fun (s74 : St) => Φw s74 (sN s64))))
theorem e_X3_set : plainFor yX3_set = true := plainFor_of_name (by decide +kernel)
theorem m_X3_set {θ : Th} {l : Launch} (hl0 : l.stackTraces = false) (hX : LX θ) {d : Nat} (hd : 4 ≤ d) (st : St) (a0 : Nat) (p1 : Int32) (p2 : Int64) (hs_a0 : sh st a0 = 4) (hb_a0 : a0 < gBIG) {Φ : St → Prop} {Φw : St → Nat → Prop} (h : w_X3_set st a0 p1 p2 Φ Φw) : Ct θ l yX3_set (wsW_ yX3_set cX3_set 5 (none : Option Jvm.ClassFile.FieldType) [(0, 35, 38, 19), (0, 35, 50, 26)]) d [.ref (ad θ a0), .int p1, .long p2] st (pV Φ, (exW θ Φw)) := by
  refine Ct_entryW hl0 e_X3_set (Nat.le_of_ble_eq_true rfl) (fun κ hκ _ C => ?_)
  have hn : ∀ st, Φ st → ((pV Φ, (exW θ Φw)) : Ph).1 st none := fun st q => ⟨rfl, q⟩
  have hw : ∀ st a, a < gBIG → sh st a = 6 → Φw st a → ((pV Φ, (exW θ Φw)) : Ph).2 st "SecretsWorth$Wrong" (ad θ a) := fun st a q1 q2 q => ⟨rfl, a, rfl, q1, q2, q⟩
  change X _ _ _ _ _ [(0, .ref (ad θ a0)), (1, .int p1), (2, .long p2)] _
  unfold w_X3_set at h
  refine X_aload_n C dX3_set_0 rfl 0 rfl (isRV_r _) ?_
  refine X_get (ci := 3) (j := 0) (q := (RX3, TX3, 1)) C rfl (by decide) q255 rfl dX3_set_1 hs_a0 (v := rv θ (sR st a0 0)) rfl ?_
  obtain ⟨hg_, h0_, h1_, h2_⟩ := h
  rcases hg_ with q2 | ⟨r1, q2, hb3, hs4 | hs4⟩
  · have h := h0_ q2
    rw [q2]
    refine X_ton ?_
    refine X_instN C dX3_set_4 ?_
    refine X_if_eq (tgt := 25) C dX3_set_7 (by decide) (fun c27 => ?_) (fun c27 => ?_)
    · refine X_aload_n C dX3_set_25 rfl 0 rfl (isRV_r _) ?_
      refine X_get (ci := 3) (j := 0) (q := (RX3, TX3, 1)) C rfl (by decide) q255 rfl dX3_set_26 hs_a0 (v := rv θ (sR st a0 0)) rfl ?_
      rw [q2]
      refine X_ton ?_
      refine X_castN C dX3_set_29 ?_
      refine X_iload_n C dX3_set_32 rfl 1 rfl ?_
      refine X_lload_n C dX3_set_33 rfl 2 rfl ?_
      have g5 := h.1
      have h := h.2
      have g6 := h.1
      have h := h.2
      refine X_lastN C dX3_set_34 (Nat.le_of_ble_eq_true rfl) g5 g6 (fun a7 b8 q9 haa7 hbb8 => ?_)
      refine XT_nm (fun s10 e11 => ?_)
      have h := h a7 b8 haa7 hbb8 s10 e11
      have hs_a0 : sh s10 a0 = 4 := by rw [e11]; exact hs_a0
      refine XT_catch C [] ⟨0, 35, 38, 19⟩ [⟨0, 35, 50, 26⟩] rfl (fun _ h => absurd h List.not_mem_nil) (by decide) (by decide) q550 q572 ?_
      refine X_astore C dX3_set_38 (isRV_r _) (lo2 := [(4, _), (0, _), (1, _), (2, _)]) (by decide) rfl ?_
      have g12 := h.1
      have h := h.2
      have g13 := h.1
      have h := h.2
      refine X_new (ci := 5) (q := (RX5, TX5, 7)) C rfl q609 q424 q140 g12 g13 dX3_set_40 (fun hE16 => ?_)
      refine X_nm (fun s14 e15 => ?_)
      have h := h s14 e15
      rw [← e15] at hE16
      have hs_a0 := Ext_sh hE16 hs_a0 (by decide)
      have hs17 : sh s14 (sN s10) = 6 := by rw [e15]; exact sh_mk
      have hb18 := nb_N g12
      refine X_dup C dX3_set_43 rfl ?_
      refine X_bipush (v := 8) C dX3_set_44 rfl ?_
      refine X_callI (As := [_]) (rest := [_]) C q610 q480 q140 q481 rfl nm_X5_init rfl dX3_set_46 (m_X5_init (Cx_l C) hX (d := d - 1) (by omega) s14 (sN s10) 8 hs17 hb18 h) (by omega) (by decide) (Nat.le_of_ble_eq_true rfl) (fun s20 w21 hE22 hP23 => ?_) (fun s26 E24 q25 hE22 hP23 => ?_)
      rotate_left
      · exact False.elim hP23
      obtain ⟨rfl, h⟩ := hP23
      refine X_tln ?_
      have hs_a0 := Ext_sh hE22 hs_a0 (by decide)
      have hs17 := Ext_sh hE22 hs17 (by decide)
      refine X_athrow C (ci := 5) rfl hs17 dX3_set_49 ?_
      exact XT_out C rfl (hw s20 (sN s10) hb18 hs17 h)
    · exact absurd c27 (by decide)
  · have h := h1_ r1 q2 hb3 hs4
    rw [q2]
    refine X_tor ?_
    refine X_instT C (by decide) hs4 (fun _ h => nm_arrS h) q607 dX3_set_4 ?_
    refine X_if_eq (tgt := 25) C dX3_set_7 (by decide) (fun c54 => ?_) (fun c54 => ?_)
    · exact absurd c54 (by decide)
    · refine X_aload_n C dX3_set_10 rfl 0 rfl (isRV_r _) ?_
      refine X_get (ci := 3) (j := 0) (q := (RX3, TX3, 1)) C rfl (by decide) q255 rfl dX3_set_11 hs_a0 (v := rv θ (sR st a0 0)) rfl ?_
      rw [q2]
      refine X_tor ?_
      refine X_castT C (by decide) hs4 (fun _ h => nm_arrS h) q607 dX3_set_14 ?_
      refine X_iload_n C dX3_set_17 rfl 1 rfl ?_
      refine X_lload_n C dX3_set_18 rfl 2 rfl ?_
      refine X_l2i C dX3_set_19 ?_
      refine X_i2s C dX3_set_20 ?_
      by_cases c28 : vp_in p1 (ln st r1)
      · have h := h.1 c28
        refine X_sastD C hb3 hs4 rfl c28 rfl dX3_set_21 ?_
        refine X_nm (fun s29 e30 => ?_)
        have h := h s29 e30
        have hs_a0 : sh s29 a0 = 4 := by rw [e30]; exact hs_a0
        have hs4 : sh s29 r1 = 106 := by rw [e30]; exact hs4
        refine X_goto (tgt := 35) C dX3_set_22 (by decide) ?_
        refine X_sub [] (lo2 := []) rfl ?_
        exact t_X3_set_b35 hX hd C hn hw s29 h
      · have h := h.2 c28
        have g31 := h.1
        have h := h.2
        have g32 := h.1
        have h := h.2
        have g33 := h.1
        have h := h.2
        refine X_sastO C hs4 c28 g31 dX3_set_21 (Nat.le_of_ble_eq_true rfl) g32 g33 (fun a34 b35 q36 haa34 hbb35 => ?_)
        refine XT_nm (fun s37 e38 => ?_)
        have h := h a34 b35 haa34 hbb35 s37 e38
        have hs_a0 : sh s37 a0 = 4 := by rw [e38]; exact hs_a0
        have hs4 : sh s37 r1 = 106 := by rw [e38]; exact hs4
        refine XT_catch C [⟨0, 35, 38, 19⟩] ⟨0, 35, 50, 26⟩ [] rfl (List.forall_mem_cons.mpr ⟨Or.inr ⟨by decide, "java/lang/NullPointerException", q550, by decide +kernel⟩, (fun _ h => absurd h List.not_mem_nil)⟩) (by decide) (by decide) q575 q598 ?_
        refine X_astore C dX3_set_50 (isRV_r _) (lo2 := [(4, _), (0, _), (1, _), (2, _)]) (by decide) rfl ?_
        have g39 := h.1
        have h := h.2
        have g40 := h.1
        have h := h.2
        refine X_new (ci := 5) (q := (RX5, TX5, 7)) C rfl q609 q424 q140 g39 g40 dX3_set_52 (fun hE43 => ?_)
        refine X_nm (fun s41 e42 => ?_)
        have h := h s41 e42
        rw [← e42] at hE43
        have hs_a0 := Ext_sh hE43 hs_a0 (by decide)
        have hs4 := Ext_sh hE43 hs4 (by decide)
        have hs44 : sh s41 (sN s37) = 6 := by rw [e42]; exact sh_mk
        have hb45 := nb_N g39
        refine X_dup C dX3_set_55 rfl ?_
        refine X_bipush (v := 8) C dX3_set_56 rfl ?_
        refine X_callI (As := [_]) (rest := [_]) C q610 q480 q140 q481 rfl nm_X5_init rfl dX3_set_58 (m_X5_init (Cx_l C) hX (d := d - 1) (by omega) s41 (sN s37) 8 hs44 hb45 h) (by omega) (by decide) (Nat.le_of_ble_eq_true rfl) (fun s47 w48 hE49 hP50 => ?_) (fun s53 E51 q52 hE49 hP50 => ?_)
        rotate_left
        · exact False.elim hP50
        obtain ⟨rfl, h⟩ := hP50
        refine X_tln ?_
        have hs_a0 := Ext_sh hE49 hs_a0 (by decide)
        have hs4 := Ext_sh hE49 hs4 (by decide)
        have hs44 := Ext_sh hE49 hs44 (by decide)
        refine X_athrow C (ci := 5) rfl hs44 dX3_set_61 ?_
        exact XT_out C rfl (hw s47 (sN s37) hb45 hs44 h)
  · have h := h2_ r1 q2 hb3 hs4
    rw [q2]
    refine X_tor ?_
    refine X_instJS C hs4 q607 dX3_set_4 ?_
    refine X_if_eq (tgt := 25) C dX3_set_7 (by decide) (fun c81 => ?_) (fun c81 => ?_)
    · refine X_aload_n C dX3_set_25 rfl 0 rfl (isRV_r _) ?_
      refine X_get (ci := 3) (j := 0) (q := (RX3, TX3, 1)) C rfl (by decide) q255 rfl dX3_set_26 hs_a0 (v := rv θ (sR st a0 0)) rfl ?_
      rw [q2]
      refine X_tor ?_
      refine X_castT C (by decide) hs4 (fun _ h => nm_arrJ h) q608 dX3_set_29 ?_
      refine X_iload_n C dX3_set_32 rfl 1 rfl ?_
      refine X_lload_n C dX3_set_33 rfl 2 rfl ?_
      by_cases c55 : vp_in p1 (ln st r1)
      · have h := h.1 c55
        refine X_lastD C hb3 hs4 rfl c55 rfl dX3_set_34 ?_
        refine X_nm (fun s56 e57 => ?_)
        have h := h s56 e57
        have hs_a0 : sh s56 a0 = 4 := by rw [e57]; exact hs_a0
        have hs4 : sh s56 r1 = 102 := by rw [e57]; exact hs4
        refine X_sub [] (lo2 := []) rfl ?_
        exact t_X3_set_b35 hX hd C hn hw s56 h
      · have h := h.2 c55
        have g58 := h.1
        have h := h.2
        have g59 := h.1
        have h := h.2
        have g60 := h.1
        have h := h.2
        refine X_lastO C hs4 c55 g58 dX3_set_34 (Nat.le_of_ble_eq_true rfl) g59 g60 (fun a61 b62 q63 haa61 hbb62 => ?_)
        refine XT_nm (fun s64 e65 => ?_)
        have h := h a61 b62 haa61 hbb62 s64 e65
        have hs_a0 : sh s64 a0 = 4 := by rw [e65]; exact hs_a0
        have hs4 : sh s64 r1 = 102 := by rw [e65]; exact hs4
        refine XT_catch C [⟨0, 35, 38, 19⟩] ⟨0, 35, 50, 26⟩ [] rfl (List.forall_mem_cons.mpr ⟨Or.inr ⟨by decide, "java/lang/NullPointerException", q550, by decide +kernel⟩, (fun _ h => absurd h List.not_mem_nil)⟩) (by decide) (by decide) q575 q598 ?_
        refine X_astore C dX3_set_50 (isRV_r _) (lo2 := [(4, _), (0, _), (1, _), (2, _)]) (by decide) rfl ?_
        have g66 := h.1
        have h := h.2
        have g67 := h.1
        have h := h.2
        refine X_new (ci := 5) (q := (RX5, TX5, 7)) C rfl q609 q424 q140 g66 g67 dX3_set_52 (fun hE70 => ?_)
        refine X_nm (fun s68 e69 => ?_)
        have h := h s68 e69
        rw [← e69] at hE70
        have hs_a0 := Ext_sh hE70 hs_a0 (by decide)
        have hs4 := Ext_sh hE70 hs4 (by decide)
        have hs71 : sh s68 (sN s64) = 6 := by rw [e69]; exact sh_mk
        have hb72 := nb_N g66
        refine X_dup C dX3_set_55 rfl ?_
        refine X_bipush (v := 8) C dX3_set_56 rfl ?_
        refine X_callI (As := [_]) (rest := [_]) C q610 q480 q140 q481 rfl nm_X5_init rfl dX3_set_58 (m_X5_init (Cx_l C) hX (d := d - 1) (by omega) s68 (sN s64) 8 hs71 hb72 h) (by omega) (by decide) (Nat.le_of_ble_eq_true rfl) (fun s74 w75 hE76 hP77 => ?_) (fun s80 E78 q79 hE76 hP77 => ?_)
        rotate_left
        · exact False.elim hP77
        obtain ⟨rfl, h⟩ := hP77
        refine X_tln ?_
        have hs_a0 := Ext_sh hE76 hs_a0 (by decide)
        have hs4 := Ext_sh hE76 hs4 (by decide)
        have hs71 := Ext_sh hE76 hs71 (by decide)
        refine X_athrow C (ci := 5) rfl hs71 dX3_set_61 ?_
        exact XT_out C rfl (hw s74 (sN s64) hb72 hs71 h)
    · exact absurd c81 (by decide)

theorem nm_X7_nodes : yX7_nodes.cls ≠ "java/lang/invoke/MethodHandle" ∧ yX7_nodes.cls ≠ "java/lang/invoke/VarHandle" ∧ (parseMethodDescriptor yX7_nodes.desc).map (fun d => d.parameters.length) = some 0 := by decide +kernel
def w_X7_nodes_l4 (rec : St → Nat → (Int32 → Prop) → Prop) (Φ : Int32 → Prop) (E30 : St → Int32 → Prop) : Nat → St → Nat → Int32 → Int32 → Prop
  | 0, _, _, _, _ => False
  | n + 1, st0, x0, x1, x2 => (((sI st0 x0 3) ≤ x2) → E30 st0 x1) ∧ ((¬ (sI st0 x0 3) ≤ x2) → ∃ r2, (sR st0 x0 2) = some r2 ∧ r2 < gBIG ∧ sh st0 r2 = 116 ∧ vp_in x2 (ln st0 r2) ∧ ∃ r7, (sR st0 r2 x2.toNatClampNeg) = some r7 ∧ r7 < gBIG ∧ sh st0 r7 = 8 ∧ rec st0 r7 (fun (r11 : Int32) => ∀ v19 : Int32, v19 = (x1 + r11) → w_X7_nodes_l4 rec Φ E30 n st0 x0 v19 (x2 + 1)))
theorem t_X7_nodes_l4 {θ : Th} {κ : Kx} {Ph : Ph} (hX : LX θ) {st0 : St} {rec : St → Nat → (Int32 → Prop) → Prop} {dR : Nat} (hrec : ∀ {d : Nat}, dR ≤ d → ∀ (st0 : St) (a0 : Nat), sh st0 a0 = 8 → a0 < gBIG → ∀ {Φ : Int32 → Prop}, rec st0 a0 Φ → Ct θ κ.2.1 yX7_nodes (ws_ yX7_nodes cX7_nodes 3 (some Jvm.ClassFile.FieldType.int)) d [.ref (ad θ a0)] st0 (rI st0 Φ, noX)) {d : Nat} (hd : 0 ≤ d) (hdR : dR + 1 ≤ d) (C : Cx θ κ yX7_nodes cX7_nodes 3 (some Jvm.ClassFile.FieldType.int) [] d) {Φ : Int32 → Prop} (hn : ∀ r, Φ r → Ph.1 st0 (some (.int r))) {E30 : St → Int32 → Prop} (hE30 : ∀ (x1 : Int32), E30 st0 x1 → X θ κ Ph st0 30 [(1, .int x1)] []) : ∀ (n : Nat) (x0 : Nat) (x1 : Int32) (x2 : Int32), sh st0 x0 = 8 → x0 < gBIG → w_X7_nodes_l4 rec Φ E30 n st0 x0 x1 x2 → X θ κ Ph st0 4 [(0, .ref (ad θ x0)), (1, .int x1), (2, .int x2)] [] := by
  intro n
  induction n with
  | zero => intro x0 x1 x2 hs_x0 hb_x0 h; exact h.elim
  | succ n hK4 =>
    intro x0 x1 x2 hs_x0 hb_x0 h
    rw [w_X7_nodes_l4] at h
    refine X_iload_n C dX7_nodes_4 rfl 2 rfl ?_
    refine X_aload_n C dX7_nodes_5 rfl 0 rfl (isRV_r _) ?_
    refine X_get (ci := 7) (j := 3) (q := (RX7, TX7, 4)) C rfl (by decide) q1271 rfl dX7_nodes_6 hs_x0 (v := .int (sI st0 x0 3)) rfl ?_
    refine X_icmp_ge (tgt := 30) C dX7_nodes_9 (by decide) (fun c1 => ?_) (fun c1 => ?_)
    · have h := h.1 c1
      refine X_sub [1] (lo2 := [(1, _)]) rfl ?_
      exact hE30 x1 h
    · have h := h.2 c1
      refine X_iload_n C dX7_nodes_12 rfl 1 rfl ?_
      refine X_aload_n C dX7_nodes_13 rfl 0 rfl (isRV_r _) ?_
      refine X_get (ci := 7) (j := 2) (q := (RX7, TX7, 4)) C rfl (by decide) q1269 rfl dX7_nodes_14 hs_x0 (v := rv θ (sR st0 x0 2)) rfl ?_
      obtain ⟨r2, q3, hb5, hs4, h⟩ := h
      rw [q3]
      refine X_tor ?_
      refine X_iload_n C dX7_nodes_17 rfl 2 rfl ?_
      have g6 := h.1
      have h := h.2
      refine X_aaldD (t := 116) C 11 rfl hs4 (by decide) rfl rfl g6 rfl rfl dX7_nodes_18 ?_
      obtain ⟨r7, q8, hb10, hs9, h⟩ := h
      rw [q8]
      refine X_tor ?_
      refine X_callV (ci := 7) (q := (RX7, TX7, 4)) (As := []) (rest := [_]) C rfl hs9 q1315 q1312 q1313 q158 q1314 ⟨rfl, nm_X7_nodes⟩ rfl dX7_nodes_19 (hrec (d := d - 1) (by omega) st0 r7 hs9 hb10 h) (by omega) (by decide) (Nat.le_of_ble_eq_true rfl) (fun s17 w12 hE13 hP14 => ?_) (fun s18 E15 q16 hE13 hP14 => ?_)
      rotate_left
      · exact False.elim hP14
      obtain ⟨r11, rfl, rfl, h⟩ := hP14
      refine X_tls ?_
      refine X_iadd C dX7_nodes_22 ?_
      refine X_topi (fun v19 e20 => ?_)
      have h := h v19 e20
      refine X_istore_n C dX7_nodes_23 rfl (lo2 := [(1, _), (0, _), (2, _)]) (by decide) rfl ?_
      refine X_iinc (v := (x2 + 1)) C (j := 2) dX7_nodes_24 rfl rfl (lo2 := [(2, _), (1, _), (0, _)]) (by decide) rfl ?_
      refine X_goto (tgt := 4) C dX7_nodes_27 (by decide) ?_
      refine X_sub [2, 1, 0] (lo2 := [(0, _), (1, _), (2, _)]) rfl ?_
      exact hK4 x0 v19 (x2 + 1) hs_x0 hb_x0 h
def w_X7_nodes_b30 (rec : St → Nat → (Int32 → Prop) → Prop) (Φ : Int32 → Prop) (st0 : St) (x1 : Int32) : Prop := Φ x1
theorem t_X7_nodes_b30 {θ : Th} {κ : Kx} {Ph : Ph} (hX : LX θ) {st0 : St} {rec : St → Nat → (Int32 → Prop) → Prop} {dR : Nat} (hrec : ∀ {d : Nat}, dR ≤ d → ∀ (st0 : St) (a0 : Nat), sh st0 a0 = 8 → a0 < gBIG → ∀ {Φ : Int32 → Prop}, rec st0 a0 Φ → Ct θ κ.2.1 yX7_nodes (ws_ yX7_nodes cX7_nodes 3 (some Jvm.ClassFile.FieldType.int)) d [.ref (ad θ a0)] st0 (rI st0 Φ, noX)) {d : Nat} (hd : 0 ≤ d) (hdR : dR + 1 ≤ d) (C : Cx θ κ yX7_nodes cX7_nodes 3 (some Jvm.ClassFile.FieldType.int) [] d) {Φ : Int32 → Prop} (hn : ∀ r, Φ r → Ph.1 st0 (some (.int r))) (x1 : Int32) (h : w_X7_nodes_b30 rec Φ st0 x1) : X θ κ Ph st0 30 [(1, .int x1)] [] := by
  unfold w_X7_nodes_b30 at h
  refine X_iload_n C dX7_nodes_30 rfl 0 rfl ?_
  exact X_iret C rfl dX7_nodes_31 (hn _ h)
def w_X7_nodes (rec : St → Nat → (Int32 → Prop) → Prop) (st0 : St) (a0 : Nat) (Φ : Int32 → Prop) : Prop := w_X7_nodes_l4 rec Φ (fun (_ : St) (x1 : Int32) => w_X7_nodes_b30 rec Φ st0 x1) gFU st0 a0 1 0
theorem e_X7_nodes : plainFor yX7_nodes = true := plainFor_of_name (by decide +kernel)
theorem m_X7_nodes {θ : Th} {l : Launch} (hl0 : l.stackTraces = false) (hX : LX θ) {rec : St → Nat → (Int32 → Prop) → Prop} {dR : Nat} (hrec : ∀ {d : Nat}, dR ≤ d → ∀ (st0 : St) (a0 : Nat), sh st0 a0 = 8 → a0 < gBIG → ∀ {Φ : Int32 → Prop}, rec st0 a0 Φ → Ct θ l yX7_nodes (ws_ yX7_nodes cX7_nodes 3 (some Jvm.ClassFile.FieldType.int)) d [.ref (ad θ a0)] st0 (rI st0 Φ, noX)) {d : Nat} (hd : 0 ≤ d) (hdR : dR + 1 ≤ d) (st0 : St) (a0 : Nat) (hs_a0 : sh st0 a0 = 8) (hb_a0 : a0 < gBIG) {Φ : Int32 → Prop} (h : w_X7_nodes rec st0 a0 Φ) : Ct θ l yX7_nodes (ws_ yX7_nodes cX7_nodes 3 (some Jvm.ClassFile.FieldType.int)) d [.ref (ad θ a0)] st0 (rI st0 Φ, noX) := by
  refine Ct_entry hl0 e_X7_nodes (Nat.le_of_ble_eq_true rfl) (fun κ hκ _ C => ?_)
  subst hκ
  have hn : ∀ r, Φ r → ((rI st0 Φ, noX) : Ph).1 st0 (some (.int r)) := fun r q => ⟨r, rfl, rfl, q⟩
  change X _ _ _ _ _ [(0, .ref (ad θ a0))] _
  unfold w_X7_nodes at h
  refine X_iconst (v := 1) C dX7_nodes_0 rfl ?_
  refine X_istore_n C dX7_nodes_1 rfl (lo2 := [(1, _), (0, _)]) (by decide) rfl ?_
  refine X_iconst (v := 0) C dX7_nodes_2 rfl ?_
  refine X_istore_n C dX7_nodes_3 rfl (lo2 := [(2, _), (1, _), (0, _)]) (by decide) rfl ?_
  refine X_sub [2, 1, 0] (lo2 := [(0, _), (1, _), (2, _)]) rfl ?_
  refine t_X7_nodes_l4 hX hrec hd hdR C hn ?_ gFU a0 1 0 hs_a0 hb_a0 h
  · intro x1 h
    exact t_X7_nodes_b30 hX hrec hd hdR C hn x1 h

def w_X7_nodes_f : Nat → St → Nat → (Int32 → Prop) → Prop
  | 0, _, _, _ => False
  | n + 1, st0, a0, Φ => w_X7_nodes (w_X7_nodes_f n) st0 a0 Φ
theorem m_X7_nodes_f {θ : Th} {l : Launch} (hl0 : l.stackTraces = false) (hX : LX θ) : ∀ (n : Nat) {d : Nat}, 0 + 1 * n ≤ d → ∀ (st0 : St) (a0 : Nat), sh st0 a0 = 8 → a0 < gBIG → ∀ {Φ : Int32 → Prop}, w_X7_nodes_f n st0 a0 Φ → Ct θ l yX7_nodes (ws_ yX7_nodes cX7_nodes 3 (some Jvm.ClassFile.FieldType.int)) d [.ref (ad θ a0)] st0 (rI st0 Φ, noX) := by
  intro n
  induction n with
  | zero => intro d hd st0 a0 hs_a0 hb_a0 Φ h; exact h.elim
  | succ n ih =>
    intro d hd st0 a0 hs_a0 hb_a0 Φ h
    exact m_X7_nodes hl0 hX (dR := 0 + 1 * n) ih (by omega) (by omega) st0 a0 hs_a0 hb_a0 h

theorem nm_X7_leaves : yX7_leaves.cls ≠ "java/lang/invoke/MethodHandle" ∧ yX7_leaves.cls ≠ "java/lang/invoke/VarHandle" ∧ (parseMethodDescriptor yX7_leaves.desc).map (fun d => d.parameters.length) = some 0 := by decide +kernel
def w_X7_leaves_l15 (rec : St → Nat → (Int32 → Prop) → Prop) (Φ : Int32 → Prop) (E41 : St → Int32 → Prop) : Nat → St → Nat → Int32 → Int32 → Prop
  | 0, _, _, _, _ => False
  | n + 1, st0, x0, x1, x2 => (((sI st0 x0 3) ≤ x2) → E41 st0 x1) ∧ ((¬ (sI st0 x0 3) ≤ x2) → ∃ r3, (sR st0 x0 2) = some r3 ∧ r3 < gBIG ∧ sh st0 r3 = 116 ∧ vp_in x2 (ln st0 r3) ∧ ∃ r8, (sR st0 r3 x2.toNatClampNeg) = some r8 ∧ r8 < gBIG ∧ sh st0 r8 = 8 ∧ rec st0 r8 (fun (r12 : Int32) => ∀ v20 : Int32, v20 = (x1 + r12) → w_X7_leaves_l15 rec Φ E41 n st0 x0 v20 (x2 + 1)))
theorem t_X7_leaves_l15 {θ : Th} {κ : Kx} {Ph : Ph} (hX : LX θ) {st0 : St} {rec : St → Nat → (Int32 → Prop) → Prop} {dR : Nat} (hrec : ∀ {d : Nat}, dR ≤ d → ∀ (st0 : St) (a0 : Nat), sh st0 a0 = 8 → a0 < gBIG → ∀ {Φ : Int32 → Prop}, rec st0 a0 Φ → Ct θ κ.2.1 yX7_leaves (ws_ yX7_leaves cX7_leaves 3 (some Jvm.ClassFile.FieldType.int)) d [.ref (ad θ a0)] st0 (rI st0 Φ, noX)) {d : Nat} (hd : 0 ≤ d) (hdR : dR + 1 ≤ d) (C : Cx θ κ yX7_leaves cX7_leaves 3 (some Jvm.ClassFile.FieldType.int) [] d) {Φ : Int32 → Prop} (hn : ∀ r, Φ r → Ph.1 st0 (some (.int r))) {E41 : St → Int32 → Prop} (hE41 : ∀ (x1 : Int32), E41 st0 x1 → X θ κ Ph st0 41 [(1, .int x1)] []) : ∀ (n : Nat) (x0 : Nat) (x1 : Int32) (x2 : Int32), sh st0 x0 = 8 → x0 < gBIG → w_X7_leaves_l15 rec Φ E41 n st0 x0 x1 x2 → X θ κ Ph st0 15 [(0, .ref (ad θ x0)), (1, .int x1), (2, .int x2)] [] := by
  intro n
  induction n with
  | zero => intro x0 x1 x2 hs_x0 hb_x0 h; exact h.elim
  | succ n hK15 =>
    intro x0 x1 x2 hs_x0 hb_x0 h
    rw [w_X7_leaves_l15] at h
    refine X_iload_n C dX7_leaves_15 rfl 2 rfl ?_
    refine X_aload_n C dX7_leaves_16 rfl 0 rfl (isRV_r _) ?_
    refine X_get (ci := 7) (j := 3) (q := (RX7, TX7, 4)) C rfl (by decide) q1271 rfl dX7_leaves_17 hs_x0 (v := .int (sI st0 x0 3)) rfl ?_
    refine X_icmp_ge (tgt := 41) C dX7_leaves_20 (by decide) (fun c2 => ?_) (fun c2 => ?_)
    · have h := h.1 c2
      refine X_sub [1] (lo2 := [(1, _)]) rfl ?_
      exact hE41 x1 h
    · have h := h.2 c2
      refine X_iload_n C dX7_leaves_23 rfl 1 rfl ?_
      refine X_aload_n C dX7_leaves_24 rfl 0 rfl (isRV_r _) ?_
      refine X_get (ci := 7) (j := 2) (q := (RX7, TX7, 4)) C rfl (by decide) q1269 rfl dX7_leaves_25 hs_x0 (v := rv θ (sR st0 x0 2)) rfl ?_
      obtain ⟨r3, q4, hb6, hs5, h⟩ := h
      rw [q4]
      refine X_tor ?_
      refine X_iload_n C dX7_leaves_28 rfl 2 rfl ?_
      have g7 := h.1
      have h := h.2
      refine X_aaldD (t := 116) C 11 rfl hs5 (by decide) rfl rfl g7 rfl rfl dX7_leaves_29 ?_
      obtain ⟨r8, q9, hb11, hs10, h⟩ := h
      rw [q9]
      refine X_tor ?_
      refine X_callV (ci := 7) (q := (RX7, TX7, 4)) (As := []) (rest := [_]) C rfl hs10 q1320 q1317 q1318 q158 q1319 ⟨rfl, nm_X7_leaves⟩ rfl dX7_leaves_30 (hrec (d := d - 1) (by omega) st0 r8 hs10 hb11 h) (by omega) (by decide) (Nat.le_of_ble_eq_true rfl) (fun s18 w13 hE14 hP15 => ?_) (fun s19 E16 q17 hE14 hP15 => ?_)
      rotate_left
      · exact False.elim hP15
      obtain ⟨r12, rfl, rfl, h⟩ := hP15
      refine X_tls ?_
      refine X_iadd C dX7_leaves_33 ?_
      refine X_topi (fun v20 e21 => ?_)
      have h := h v20 e21
      refine X_istore_n C dX7_leaves_34 rfl (lo2 := [(1, _), (0, _), (2, _)]) (by decide) rfl ?_
      refine X_iinc (v := (x2 + 1)) C (j := 2) dX7_leaves_35 rfl rfl (lo2 := [(2, _), (1, _), (0, _)]) (by decide) rfl ?_
      refine X_goto (tgt := 15) C dX7_leaves_38 (by decide) ?_
      refine X_sub [2, 1, 0] (lo2 := [(0, _), (1, _), (2, _)]) rfl ?_
      exact hK15 x0 v20 (x2 + 1) hs_x0 hb_x0 h
def w_X7_leaves_b41 (rec : St → Nat → (Int32 → Prop) → Prop) (Φ : Int32 → Prop) (st0 : St) (x1 : Int32) : Prop := Φ x1
theorem t_X7_leaves_b41 {θ : Th} {κ : Kx} {Ph : Ph} (hX : LX θ) {st0 : St} {rec : St → Nat → (Int32 → Prop) → Prop} {dR : Nat} (hrec : ∀ {d : Nat}, dR ≤ d → ∀ (st0 : St) (a0 : Nat), sh st0 a0 = 8 → a0 < gBIG → ∀ {Φ : Int32 → Prop}, rec st0 a0 Φ → Ct θ κ.2.1 yX7_leaves (ws_ yX7_leaves cX7_leaves 3 (some Jvm.ClassFile.FieldType.int)) d [.ref (ad θ a0)] st0 (rI st0 Φ, noX)) {d : Nat} (hd : 0 ≤ d) (hdR : dR + 1 ≤ d) (C : Cx θ κ yX7_leaves cX7_leaves 3 (some Jvm.ClassFile.FieldType.int) [] d) {Φ : Int32 → Prop} (hn : ∀ r, Φ r → Ph.1 st0 (some (.int r))) (x1 : Int32) (h : w_X7_leaves_b41 rec Φ st0 x1) : X θ κ Ph st0 41 [(1, .int x1)] [] := by
  unfold w_X7_leaves_b41 at h
  refine X_iload_n C dX7_leaves_41 rfl 0 rfl ?_
  exact X_iret C rfl dX7_leaves_42 (hn _ h)
def w_X7_leaves_b12 (rec : St → Nat → (Int32 → Prop) → Prop) (Φ : Int32 → Prop) (st0 : St) (x0 : Nat) (z0 : Int32) : Prop := w_X7_leaves_l15 rec Φ (fun (_ : St) (x1 : Int32) => w_X7_leaves_b41 rec Φ st0 x1) gFU st0 x0 z0 0
theorem t_X7_leaves_b12 {θ : Th} {κ : Kx} {Ph : Ph} (hX : LX θ) {st0 : St} {rec : St → Nat → (Int32 → Prop) → Prop} {dR : Nat} (hrec : ∀ {d : Nat}, dR ≤ d → ∀ (st0 : St) (a0 : Nat), sh st0 a0 = 8 → a0 < gBIG → ∀ {Φ : Int32 → Prop}, rec st0 a0 Φ → Ct θ κ.2.1 yX7_leaves (ws_ yX7_leaves cX7_leaves 3 (some Jvm.ClassFile.FieldType.int)) d [.ref (ad θ a0)] st0 (rI st0 Φ, noX)) {d : Nat} (hd : 0 ≤ d) (hdR : dR + 1 ≤ d) (C : Cx θ κ yX7_leaves cX7_leaves 3 (some Jvm.ClassFile.FieldType.int) [] d) {Φ : Int32 → Prop} (hn : ∀ r, Φ r → Ph.1 st0 (some (.int r))) (x0 : Nat) (z0 : Int32) (hs_x0 : sh st0 x0 = 8) (hb_x0 : x0 < gBIG) (h : w_X7_leaves_b12 rec Φ st0 x0 z0) : X θ κ Ph st0 12 [(0, .ref (ad θ x0))] [.int z0] := by
  unfold w_X7_leaves_b12 at h
  refine X_istore_n C dX7_leaves_12 rfl (lo2 := [(1, _), (0, _)]) (by decide) rfl ?_
  refine X_iconst (v := 0) C dX7_leaves_13 rfl ?_
  refine X_istore_n C dX7_leaves_14 rfl (lo2 := [(2, _), (1, _), (0, _)]) (by decide) rfl ?_
  refine X_sub [2, 1, 0] (lo2 := [(0, _), (1, _), (2, _)]) rfl ?_
  refine t_X7_leaves_l15 hX hrec hd hdR C hn ?_ gFU x0 z0 0 hs_x0 hb_x0 h
  · intro x1 h
    exact t_X7_leaves_b41 hX hrec hd hdR C hn x1 h
def w_X7_leaves (rec : St → Nat → (Int32 → Prop) → Prop) (st0 : St) (a0 : Nat) (Φ : Int32 → Prop) : Prop := (((sI st0 a0 3) ≠ 0) → w_X7_leaves_b12 rec Φ st0 a0 0) ∧ (((sI st0 a0 3) = 0) → w_X7_leaves_b12 rec Φ st0 a0 1)
theorem e_X7_leaves : plainFor yX7_leaves = true := plainFor_of_name (by decide +kernel)
theorem m_X7_leaves {θ : Th} {l : Launch} (hl0 : l.stackTraces = false) (hX : LX θ) {rec : St → Nat → (Int32 → Prop) → Prop} {dR : Nat} (hrec : ∀ {d : Nat}, dR ≤ d → ∀ (st0 : St) (a0 : Nat), sh st0 a0 = 8 → a0 < gBIG → ∀ {Φ : Int32 → Prop}, rec st0 a0 Φ → Ct θ l yX7_leaves (ws_ yX7_leaves cX7_leaves 3 (some Jvm.ClassFile.FieldType.int)) d [.ref (ad θ a0)] st0 (rI st0 Φ, noX)) {d : Nat} (hd : 0 ≤ d) (hdR : dR + 1 ≤ d) (st0 : St) (a0 : Nat) (hs_a0 : sh st0 a0 = 8) (hb_a0 : a0 < gBIG) {Φ : Int32 → Prop} (h : w_X7_leaves rec st0 a0 Φ) : Ct θ l yX7_leaves (ws_ yX7_leaves cX7_leaves 3 (some Jvm.ClassFile.FieldType.int)) d [.ref (ad θ a0)] st0 (rI st0 Φ, noX) := by
  refine Ct_entry hl0 e_X7_leaves (Nat.le_of_ble_eq_true rfl) (fun κ hκ _ C => ?_)
  subst hκ
  have hn : ∀ r, Φ r → ((rI st0 Φ, noX) : Ph).1 st0 (some (.int r)) := fun r q => ⟨r, rfl, rfl, q⟩
  change X _ _ _ _ _ [(0, .ref (ad θ a0))] _
  unfold w_X7_leaves at h
  refine X_aload_n C dX7_leaves_0 rfl 0 rfl (isRV_r _) ?_
  refine X_get (ci := 7) (j := 3) (q := (RX7, TX7, 4)) C rfl (by decide) q1271 rfl dX7_leaves_1 hs_a0 (v := .int (sI st0 a0 3)) rfl ?_
  refine X_if_ne (tgt := 11) C dX7_leaves_4 (by decide) (fun c1 => ?_) (fun c1 => ?_)
  · have h := h.1 c1
    refine X_iconst (v := 0) C dX7_leaves_11 rfl ?_
    exact t_X7_leaves_b12 hX hrec hd hdR C hn a0 0 hs_a0 hb_a0 h
  · have h := h.2 c1
    refine X_iconst (v := 1) C dX7_leaves_7 rfl ?_
    refine X_goto (tgt := 12) C dX7_leaves_8 (by decide) ?_
    exact t_X7_leaves_b12 hX hrec hd hdR C hn a0 1 hs_a0 hb_a0 h

def w_X7_leaves_f : Nat → St → Nat → (Int32 → Prop) → Prop
  | 0, _, _, _ => False
  | n + 1, st0, a0, Φ => w_X7_leaves (w_X7_leaves_f n) st0 a0 Φ
theorem m_X7_leaves_f {θ : Th} {l : Launch} (hl0 : l.stackTraces = false) (hX : LX θ) : ∀ (n : Nat) {d : Nat}, 0 + 1 * n ≤ d → ∀ (st0 : St) (a0 : Nat), sh st0 a0 = 8 → a0 < gBIG → ∀ {Φ : Int32 → Prop}, w_X7_leaves_f n st0 a0 Φ → Ct θ l yX7_leaves (ws_ yX7_leaves cX7_leaves 3 (some Jvm.ClassFile.FieldType.int)) d [.ref (ad θ a0)] st0 (rI st0 Φ, noX) := by
  intro n
  induction n with
  | zero => intro d hd st0 a0 hs_a0 hb_a0 Φ h; exact h.elim
  | succ n ih =>
    intro d hd st0 a0 hs_a0 hb_a0 Φ h
    exact m_X7_leaves hl0 hX (dR := 0 + 1 * n) ih (by omega) (by omega) st0 a0 hs_a0 hb_a0 h

theorem nm_X7_depth : yX7_depth.cls ≠ "java/lang/invoke/MethodHandle" ∧ yX7_depth.cls ≠ "java/lang/invoke/VarHandle" ∧ (parseMethodDescriptor yX7_depth.desc).map (fun d => d.parameters.length) = some 0 := by decide +kernel
def w_X7_depth_l4 (rec : St → Nat → (Int32 → Prop) → Prop) (Φ : Int32 → Prop) (E32 : St → Int32 → Prop) : Nat → St → Nat → Int32 → Int32 → Prop
  | 0, _, _, _, _ => False
  | n + 1, st0, x0, x1, x2 => (((sI st0 x0 3) ≤ x2) → E32 st0 x1) ∧ ((¬ (sI st0 x0 3) ≤ x2) → ∃ r2, (sR st0 x0 2) = some r2 ∧ r2 < gBIG ∧ sh st0 r2 = 116 ∧ vp_in x2 (ln st0 r2) ∧ ∃ r7, (sR st0 r2 x2.toNatClampNeg) = some r7 ∧ r7 < gBIG ∧ sh st0 r7 = 8 ∧ rec st0 r7 (fun (r11 : Int32) => w_J8_max x1 r11 (fun (r19 : Int32) => w_X7_depth_l4 rec Φ E32 n st0 x0 r19 (x2 + 1))))
theorem t_X7_depth_l4 {θ : Th} {κ : Kx} {Ph : Ph} (hX : LX θ) {st0 : St} {rec : St → Nat → (Int32 → Prop) → Prop} {dR : Nat} (hrec : ∀ {d : Nat}, dR ≤ d → ∀ (st0 : St) (a0 : Nat), sh st0 a0 = 8 → a0 < gBIG → ∀ {Φ : Int32 → Prop}, rec st0 a0 Φ → Ct θ κ.2.1 yX7_depth (ws_ yX7_depth cX7_depth 3 (some Jvm.ClassFile.FieldType.int)) d [.ref (ad θ a0)] st0 (rI st0 Φ, noX)) {d : Nat} (hd : 1 ≤ d) (hdR : dR + 1 ≤ d) (C : Cx θ κ yX7_depth cX7_depth 3 (some Jvm.ClassFile.FieldType.int) [] d) {Φ : Int32 → Prop} (hn : ∀ r, Φ r → Ph.1 st0 (some (.int r))) {E32 : St → Int32 → Prop} (hE32 : ∀ (x1 : Int32), E32 st0 x1 → X θ κ Ph st0 32 [(1, .int x1)] []) : ∀ (n : Nat) (x0 : Nat) (x1 : Int32) (x2 : Int32), sh st0 x0 = 8 → x0 < gBIG → w_X7_depth_l4 rec Φ E32 n st0 x0 x1 x2 → X θ κ Ph st0 4 [(0, .ref (ad θ x0)), (1, .int x1), (2, .int x2)] [] := by
  intro n
  induction n with
  | zero => intro x0 x1 x2 hs_x0 hb_x0 h; exact h.elim
  | succ n hK4 =>
    intro x0 x1 x2 hs_x0 hb_x0 h
    rw [w_X7_depth_l4] at h
    refine X_iload_n C dX7_depth_4 rfl 2 rfl ?_
    refine X_aload_n C dX7_depth_5 rfl 0 rfl (isRV_r _) ?_
    refine X_get (ci := 7) (j := 3) (q := (RX7, TX7, 4)) C rfl (by decide) q1271 rfl dX7_depth_6 hs_x0 (v := .int (sI st0 x0 3)) rfl ?_
    refine X_icmp_ge (tgt := 32) C dX7_depth_9 (by decide) (fun c1 => ?_) (fun c1 => ?_)
    · have h := h.1 c1
      refine X_sub [1] (lo2 := [(1, _)]) rfl ?_
      exact hE32 x1 h
    · have h := h.2 c1
      refine X_iload_n C dX7_depth_12 rfl 1 rfl ?_
      refine X_aload_n C dX7_depth_13 rfl 0 rfl (isRV_r _) ?_
      refine X_get (ci := 7) (j := 2) (q := (RX7, TX7, 4)) C rfl (by decide) q1269 rfl dX7_depth_14 hs_x0 (v := rv θ (sR st0 x0 2)) rfl ?_
      obtain ⟨r2, q3, hb5, hs4, h⟩ := h
      rw [q3]
      refine X_tor ?_
      refine X_iload_n C dX7_depth_17 rfl 2 rfl ?_
      have g6 := h.1
      have h := h.2
      refine X_aaldD (t := 116) C 11 rfl hs4 (by decide) rfl rfl g6 rfl rfl dX7_depth_18 ?_
      obtain ⟨r7, q8, hb10, hs9, h⟩ := h
      rw [q8]
      refine X_tor ?_
      refine X_callV (ci := 7) (q := (RX7, TX7, 4)) (As := []) (rest := [_]) C rfl hs9 q1325 q1322 q1323 q158 q1324 ⟨rfl, nm_X7_depth⟩ rfl dX7_depth_19 (hrec (d := d - 1) (by omega) st0 r7 hs9 hb10 h) (by omega) (by decide) (Nat.le_of_ble_eq_true rfl) (fun s17 w12 hE13 hP14 => ?_) (fun s18 E15 q16 hE13 hP14 => ?_)
      rotate_left
      · exact False.elim hP14
      obtain ⟨r11, rfl, rfl, h⟩ := hP14
      refine X_tls ?_
      refine X_callS (As := [_, _]) (rest := []) C q1326 q1012 q147 q1013 nm_J8_max rfl dX7_depth_22 (m_J8_max (Cx_l C) (d := d - 1) (by omega) st0 x1 r11 h) (by omega) (by decide) (Nat.le_of_ble_eq_true rfl) (fun s25 w20 hE21 hP22 => ?_) (fun s26 E23 q24 hE21 hP22 => ?_)
      rotate_left
      · exact False.elim hP22
      obtain ⟨r19, rfl, rfl, h⟩ := hP22
      refine X_tls ?_
      refine X_istore_n C dX7_depth_25 rfl (lo2 := [(1, _), (0, _), (2, _)]) (by decide) rfl ?_
      refine X_iinc (v := (x2 + 1)) C (j := 2) dX7_depth_26 rfl rfl (lo2 := [(2, _), (1, _), (0, _)]) (by decide) rfl ?_
      refine X_goto (tgt := 4) C dX7_depth_29 (by decide) ?_
      refine X_sub [2, 1, 0] (lo2 := [(0, _), (1, _), (2, _)]) rfl ?_
      exact hK4 x0 r19 (x2 + 1) hs_x0 hb_x0 h
def w_X7_depth_b32 (rec : St → Nat → (Int32 → Prop) → Prop) (Φ : Int32 → Prop) (st0 : St) (x1 : Int32) : Prop := Φ (x1 + 1)
theorem t_X7_depth_b32 {θ : Th} {κ : Kx} {Ph : Ph} (hX : LX θ) {st0 : St} {rec : St → Nat → (Int32 → Prop) → Prop} {dR : Nat} (hrec : ∀ {d : Nat}, dR ≤ d → ∀ (st0 : St) (a0 : Nat), sh st0 a0 = 8 → a0 < gBIG → ∀ {Φ : Int32 → Prop}, rec st0 a0 Φ → Ct θ κ.2.1 yX7_depth (ws_ yX7_depth cX7_depth 3 (some Jvm.ClassFile.FieldType.int)) d [.ref (ad θ a0)] st0 (rI st0 Φ, noX)) {d : Nat} (hd : 1 ≤ d) (hdR : dR + 1 ≤ d) (C : Cx θ κ yX7_depth cX7_depth 3 (some Jvm.ClassFile.FieldType.int) [] d) {Φ : Int32 → Prop} (hn : ∀ r, Φ r → Ph.1 st0 (some (.int r))) (x1 : Int32) (h : w_X7_depth_b32 rec Φ st0 x1) : X θ κ Ph st0 32 [(1, .int x1)] [] := by
  unfold w_X7_depth_b32 at h
  refine X_iload_n C dX7_depth_32 rfl 0 rfl ?_
  refine X_iconst (v := 1) C dX7_depth_33 rfl ?_
  refine X_iadd C dX7_depth_34 ?_
  exact X_iret C rfl dX7_depth_35 (hn _ h)
def w_X7_depth (rec : St → Nat → (Int32 → Prop) → Prop) (st0 : St) (a0 : Nat) (Φ : Int32 → Prop) : Prop := w_X7_depth_l4 rec Φ (fun (_ : St) (x1 : Int32) => w_X7_depth_b32 rec Φ st0 x1) gFU st0 a0 0 0
theorem e_X7_depth : plainFor yX7_depth = true := plainFor_of_name (by decide +kernel)
theorem m_X7_depth {θ : Th} {l : Launch} (hl0 : l.stackTraces = false) (hX : LX θ) {rec : St → Nat → (Int32 → Prop) → Prop} {dR : Nat} (hrec : ∀ {d : Nat}, dR ≤ d → ∀ (st0 : St) (a0 : Nat), sh st0 a0 = 8 → a0 < gBIG → ∀ {Φ : Int32 → Prop}, rec st0 a0 Φ → Ct θ l yX7_depth (ws_ yX7_depth cX7_depth 3 (some Jvm.ClassFile.FieldType.int)) d [.ref (ad θ a0)] st0 (rI st0 Φ, noX)) {d : Nat} (hd : 1 ≤ d) (hdR : dR + 1 ≤ d) (st0 : St) (a0 : Nat) (hs_a0 : sh st0 a0 = 8) (hb_a0 : a0 < gBIG) {Φ : Int32 → Prop} (h : w_X7_depth rec st0 a0 Φ) : Ct θ l yX7_depth (ws_ yX7_depth cX7_depth 3 (some Jvm.ClassFile.FieldType.int)) d [.ref (ad θ a0)] st0 (rI st0 Φ, noX) := by
  refine Ct_entry hl0 e_X7_depth (Nat.le_of_ble_eq_true rfl) (fun κ hκ _ C => ?_)
  subst hκ
  have hn : ∀ r, Φ r → ((rI st0 Φ, noX) : Ph).1 st0 (some (.int r)) := fun r q => ⟨r, rfl, rfl, q⟩
  change X _ _ _ _ _ [(0, .ref (ad θ a0))] _
  unfold w_X7_depth at h
  refine X_iconst (v := 0) C dX7_depth_0 rfl ?_
  refine X_istore_n C dX7_depth_1 rfl (lo2 := [(1, _), (0, _)]) (by decide) rfl ?_
  refine X_iconst (v := 0) C dX7_depth_2 rfl ?_
  refine X_istore_n C dX7_depth_3 rfl (lo2 := [(2, _), (1, _), (0, _)]) (by decide) rfl ?_
  refine X_sub [2, 1, 0] (lo2 := [(0, _), (1, _), (2, _)]) rfl ?_
  refine t_X7_depth_l4 hX hrec hd hdR C hn ?_ gFU a0 0 0 hs_a0 hb_a0 h
  · intro x1 h
    exact t_X7_depth_b32 hX hrec hd hdR C hn x1 h

def w_X7_depth_f : Nat → St → Nat → (Int32 → Prop) → Prop
  | 0, _, _, _ => False
  | n + 1, st0, a0, Φ => w_X7_depth (w_X7_depth_f n) st0 a0 Φ
theorem m_X7_depth_f {θ : Th} {l : Launch} (hl0 : l.stackTraces = false) (hX : LX θ) : ∀ (n : Nat) {d : Nat}, 1 + 1 * n ≤ d → ∀ (st0 : St) (a0 : Nat), sh st0 a0 = 8 → a0 < gBIG → ∀ {Φ : Int32 → Prop}, w_X7_depth_f n st0 a0 Φ → Ct θ l yX7_depth (ws_ yX7_depth cX7_depth 3 (some Jvm.ClassFile.FieldType.int)) d [.ref (ad θ a0)] st0 (rI st0 Φ, noX) := by
  intro n
  induction n with
  | zero => intro d hd st0 a0 hs_a0 hb_a0 Φ h; exact h.elim
  | succ n ih =>
    intro d hd st0 a0 hs_a0 hb_a0 Φ h
    exact m_X7_depth hl0 hX (dR := 1 + 1 * n) ih (by omega) (by omega) st0 a0 hs_a0 hb_a0 h

theorem nm_X8_fraction : yX8_fraction.cls ≠ "java/lang/invoke/MethodHandle" ∧ yX8_fraction.cls ≠ "java/lang/invoke/VarHandle" ∧ (parseMethodDescriptor yX8_fraction.desc).map (fun d => d.parameters.length) = some 2 := by decide +kernel
def w_X8_fraction (st : St) (p1 : Int64) (p2 : Int64) (Φ : St → Nat → Prop) : Prop := ((p2 ≠ 1) → sN st + 1 ≤ gCAP ∧ sS st + 4 ≤ gCAPS ∧ ∀ s4, s4 = mk st 11 4 → w_J11_init s4 (sN st) (fun (s10 : St) => w_J11_append_5 s10 (sN st) p1 (fun (s18 : St) (r17 : Nat) => w_J11_append_2 s18 r17 (gBIG + 2 * 18) (fun (s30 : St) (r29 : Nat) => w_J11_append_5 s30 r29 p2 (fun (s40 : St) (r39 : Nat) => w_J11_toString s40 r39 (fun (s50 : St) (r49 : Nat) => Φ s50 r49)))))) ∧ ((p2 = 1) → sN st + 1 ≤ gCAP ∧ sS st + 4 ≤ gCAPS ∧ ∀ s61, s61 = mk st 11 4 → w_J11_init s61 (sN st) (fun (s67 : St) => w_J11_append_2 s67 (sN st) (gBIG + 2 * 0) (fun (s77 : St) (r76 : Nat) => w_J11_append_5 s77 r76 p1 (fun (s87 : St) (r86 : Nat) => w_J11_toString s87 r86 (fun (s97 : St) (r96 : Nat) => Φ s97 r96)))))
theorem e_X8_fraction : plainFor yX8_fraction = true := plainFor_of_name (by decide +kernel)
theorem m_X8_fraction {θ : Th} {l : Launch} (hl0 : l.stackTraces = false) (hX : LX θ) {d : Nat} (hd : 6 ≤ d) (st : St) (p1 : Int64) (p2 : Int64) {Φ : St → Nat → Prop} (h : w_X8_fraction st p1 p2 Φ) : Ct θ l yX8_fraction (ws_ yX8_fraction cX8_fraction 4 (some (Jvm.ClassFile.FieldType.object "java/lang/String"))) d [.long p1, .long p2] st (pN θ 10 Φ, noX) := by
  refine Ct_entry hl0 e_X8_fraction (Nat.le_of_ble_eq_true rfl) (fun κ hκ _ C => ?_)
  have hn : ∀ st r, r < gBIG → sh st r = 10 → Φ st r → ((pN θ 10 Φ, noX) : Ph).1 st (some (.ref (ad θ r))) := fun st r q1 q2 q => ⟨r, rfl, q1, q2, q⟩
  change X _ _ _ _ _ [(0, .long p1), (2, .long p2)] _
  unfold w_X8_fraction at h
  refine X_lload_n C dX8_fraction_0 rfl 1 rfl ?_
  refine X_lconst (v := 1) C dX8_fraction_1 rfl ?_
  refine X_lcmp_ne (tgt := 28) C dX8_fraction_2 dX8_fraction_3 (by decide) (fun c1 => ?_) (fun c1 => ?_)
  · have h := h.1 c1
    have g2 := h.1
    have h := h.2
    have g3 := h.1
    have h := h.2
    refine X_new (ci := 10) (q := (RJ11, TJ11, 4)) C rfl q1438 q963 q151 g2 g3 dX8_fraction_28 (fun hE6 => ?_)
    refine X_nm (fun s4 e5 => ?_)
    have h := h s4 e5
    rw [← e5] at hE6
    have hs7 : sh s4 (sN st) = 11 := by rw [e5]; exact sh_mk
    have hb8 := nb_N g2
    refine X_dup C dX8_fraction_31 rfl ?_
    refine X_callI (As := []) (rest := [_]) C q1439 q965 q151 q966 rfl nm_J11_init rfl dX8_fraction_32 (m_J11_init (Cx_l C) hX (d := d - 1) (by omega) s4 (sN st) hs7 hb8 h) (by omega) (by decide) (Nat.le_of_ble_eq_true rfl) (fun s10 w11 hE12 hP13 => ?_) (fun s16 E14 q15 hE12 hP13 => ?_)
    rotate_left
    · exact False.elim hP13
    obtain ⟨rfl, h⟩ := hP13
    refine X_tln ?_
    have hs7 := Ext_sh hE12 hs7 (by decide)
    refine X_lload_n C dX8_fraction_35 rfl 0 rfl ?_
    refine X_callV (ci := 10) (q := (RJ11, TJ11, 4)) (As := [_]) (rest := []) C rfl hs7 q1551 q1552 q1553 q151 q1554 ⟨rfl, nm_J11_append_5⟩ rfl dX8_fraction_36 (m_J11_append_5 (Cx_l C) hX (d := d - 1) (by omega) s10 (sN st) p1 hs7 hb8 h) (by omega) (by decide) (Nat.le_of_ble_eq_true rfl) (fun s18 w19 hE20 hP21 => ?_) (fun s24 E22 q23 hE20 hP21 => ?_)
    rotate_left
    · exact False.elim hP21
    obtain ⟨r17, rfl, hb25, hs26, h⟩ := hP21
    refine X_tls ?_
    have hs7 := Ext_sh hE20 hs7 (by decide)
    refine X_ldcs (tx := "/") (i := 18) C (by decide +kernel) dX8_fraction_39 ?_
    refine X_con (fun hc27 => ?_)
    have hs28 : sh s18 (gBIG + 2 * 18) = 10 := con_str hc27 (by decide)
    refine X_callV (ci := 10) (q := (RJ11, TJ11, 4)) (As := [_]) (rest := []) C rfl hs26 q1440 q1357 q1358 q151 q1359 ⟨rfl, nm_J11_append_2⟩ rfl dX8_fraction_41 (m_J11_append_2 (Cx_l C) hX (d := d - 1) (by omega) s18 r17 (gBIG + 2 * 18) hs26 hb25 hs28 h) (by omega) (by decide) (Nat.le_of_ble_eq_true rfl) (fun s30 w31 hE32 hP33 => ?_) (fun s36 E34 q35 hE32 hP33 => ?_)
    rotate_left
    · exact False.elim hP33
    obtain ⟨r29, rfl, hb37, hs38, h⟩ := hP33
    refine X_tls ?_
    have hs7 := Ext_sh hE32 hs7 (by decide)
    have hs26 := Ext_sh hE32 hs26 (by decide)
    have hs28 := Ext_sh hE32 hs28 (by decide)
    refine X_lload_n C dX8_fraction_44 rfl 1 rfl ?_
    refine X_callV (ci := 10) (q := (RJ11, TJ11, 4)) (As := [_]) (rest := []) C rfl hs38 q1551 q1552 q1553 q151 q1554 ⟨rfl, nm_J11_append_5⟩ rfl dX8_fraction_45 (m_J11_append_5 (Cx_l C) hX (d := d - 1) (by omega) s30 r29 p2 hs38 hb37 h) (by omega) (by decide) (Nat.le_of_ble_eq_true rfl) (fun s40 w41 hE42 hP43 => ?_) (fun s46 E44 q45 hE42 hP43 => ?_)
    rotate_left
    · exact False.elim hP43
    obtain ⟨r39, rfl, hb47, hs48, h⟩ := hP43
    refine X_tls ?_
    have hs7 := Ext_sh hE42 hs7 (by decide)
    have hs26 := Ext_sh hE42 hs26 (by decide)
    have hs28 := Ext_sh hE42 hs28 (by decide)
    have hs38 := Ext_sh hE42 hs38 (by decide)
    refine X_callV (ci := 10) (q := (RJ11, TJ11, 4)) (As := []) (rest := []) C rfl hs48 q1578 q1087 q1088 q151 q1089 ⟨rfl, nm_J11_toString⟩ rfl dX8_fraction_48 (m_J11_toString (Cx_l C) hX (d := d - 1) (by omega) s40 r39 hs48 hb47 h) (by omega) (by decide) (Nat.le_of_ble_eq_true rfl) (fun s50 w51 hE52 hP53 => ?_) (fun s56 E54 q55 hE52 hP53 => ?_)
    rotate_left
    · exact False.elim hP53
    obtain ⟨r49, rfl, hb57, hs58, h⟩ := hP53
    refine X_tls ?_
    have hs7 := Ext_sh hE52 hs7 (by decide)
    have hs26 := Ext_sh hE52 hs26 (by decide)
    have hs28 := Ext_sh hE52 hs28 (by decide)
    have hs38 := Ext_sh hE52 hs38 (by decide)
    have hs48 := Ext_sh hE52 hs48 (by decide)
    exact X_aret C rfl (Or.inl ⟨_, rfl⟩) (isRV_r _) dX8_fraction_51 (hn s50 _ hb57 hs58 h)
  · have h := h.2 c1
    have g59 := h.1
    have h := h.2
    have g60 := h.1
    have h := h.2
    refine X_new (ci := 10) (q := (RJ11, TJ11, 4)) C rfl q1438 q963 q151 g59 g60 dX8_fraction_6 (fun hE63 => ?_)
    refine X_nm (fun s61 e62 => ?_)
    have h := h s61 e62
    rw [← e62] at hE63
    have hs64 : sh s61 (sN st) = 11 := by rw [e62]; exact sh_mk
    have hb65 := nb_N g59
    refine X_dup C dX8_fraction_9 rfl ?_
    refine X_callI (As := []) (rest := [_]) C q1439 q965 q151 q966 rfl nm_J11_init rfl dX8_fraction_10 (m_J11_init (Cx_l C) hX (d := d - 1) (by omega) s61 (sN st) hs64 hb65 h) (by omega) (by decide) (Nat.le_of_ble_eq_true rfl) (fun s67 w68 hE69 hP70 => ?_) (fun s73 E71 q72 hE69 hP70 => ?_)
    rotate_left
    · exact False.elim hP70
    obtain ⟨rfl, h⟩ := hP70
    refine X_tln ?_
    have hs64 := Ext_sh hE69 hs64 (by decide)
    refine X_ldcs (tx := "") (i := 0) C (by decide +kernel) dX8_fraction_13 ?_
    refine X_con (fun hc74 => ?_)
    have hs75 : sh s67 (gBIG + 2 * 0) = 10 := con_str hc74 (by decide)
    refine X_callV (ci := 10) (q := (RJ11, TJ11, 4)) (As := [_]) (rest := []) C rfl hs64 q1440 q1357 q1358 q151 q1359 ⟨rfl, nm_J11_append_2⟩ rfl dX8_fraction_15 (m_J11_append_2 (Cx_l C) hX (d := d - 1) (by omega) s67 (sN st) (gBIG + 2 * 0) hs64 hb65 hs75 h) (by omega) (by decide) (Nat.le_of_ble_eq_true rfl) (fun s77 w78 hE79 hP80 => ?_) (fun s83 E81 q82 hE79 hP80 => ?_)
    rotate_left
    · exact False.elim hP80
    obtain ⟨r76, rfl, hb84, hs85, h⟩ := hP80
    refine X_tls ?_
    have hs64 := Ext_sh hE79 hs64 (by decide)
    have hs75 := Ext_sh hE79 hs75 (by decide)
    refine X_lload_n C dX8_fraction_18 rfl 0 rfl ?_
    refine X_callV (ci := 10) (q := (RJ11, TJ11, 4)) (As := [_]) (rest := []) C rfl hs85 q1551 q1552 q1553 q151 q1554 ⟨rfl, nm_J11_append_5⟩ rfl dX8_fraction_19 (m_J11_append_5 (Cx_l C) hX (d := d - 1) (by omega) s77 r76 p1 hs85 hb84 h) (by omega) (by decide) (Nat.le_of_ble_eq_true rfl) (fun s87 w88 hE89 hP90 => ?_) (fun s93 E91 q92 hE89 hP90 => ?_)
    rotate_left
    · exact False.elim hP90
    obtain ⟨r86, rfl, hb94, hs95, h⟩ := hP90
    refine X_tls ?_
    have hs64 := Ext_sh hE89 hs64 (by decide)
    have hs75 := Ext_sh hE89 hs75 (by decide)
    have hs85 := Ext_sh hE89 hs85 (by decide)
    refine X_callV (ci := 10) (q := (RJ11, TJ11, 4)) (As := []) (rest := []) C rfl hs95 q1578 q1087 q1088 q151 q1089 ⟨rfl, nm_J11_toString⟩ rfl dX8_fraction_22 (m_J11_toString (Cx_l C) hX (d := d - 1) (by omega) s87 r86 hs95 hb94 h) (by omega) (by decide) (Nat.le_of_ble_eq_true rfl) (fun s97 w98 hE99 hP100 => ?_) (fun s103 E101 q102 hE99 hP100 => ?_)
    rotate_left
    · exact False.elim hP100
    obtain ⟨r96, rfl, hb104, hs105, h⟩ := hP100
    refine X_tls ?_
    have hs64 := Ext_sh hE99 hs64 (by decide)
    have hs75 := Ext_sh hE99 hs75 (by decide)
    have hs85 := Ext_sh hE99 hs85 (by decide)
    have hs95 := Ext_sh hE99 hs95 (by decide)
    refine X_goto (tgt := 51) C dX8_fraction_25 (by decide) ?_
    exact X_aret C rfl (Or.inl ⟨_, rfl⟩) (isRV_r _) dX8_fraction_51 (hn s97 _ hb104 hs105 h)

theorem nm_X2_told : yX2_told.cls ≠ "java/lang/invoke/MethodHandle" ∧ yX2_told.cls ≠ "java/lang/invoke/VarHandle" ∧ (parseMethodDescriptor yX2_told.desc).map (fun d => d.parameters.length) = some 0 := by decide +kernel
def w_X2_told (st : St) (a0 : Nat) (Φ : St → Nat → Prop) : Prop := w_X8_fraction st (sL st a0 0) (sL st a0 1) (fun (s2 : St) (r1 : Nat) => Φ s2 r1)
theorem e_X2_told : plainFor yX2_told = true := plainFor_of_name (by decide +kernel)
theorem m_X2_told {θ : Th} {l : Launch} (hl0 : l.stackTraces = false) (hX : LX θ) {d : Nat} (hd : 7 ≤ d) (st : St) (a0 : Nat) (hs_a0 : sh st a0 = 3) (hb_a0 : a0 < gBIG) {Φ : St → Nat → Prop} (h : w_X2_told st a0 Φ) : Ct θ l yX2_told (ws_ yX2_told cX2_told 1 (some (Jvm.ClassFile.FieldType.object "java/lang/String"))) d [.ref (ad θ a0)] st (pN θ 10 Φ, noX) := by
  refine Ct_entry hl0 e_X2_told (Nat.le_of_ble_eq_true rfl) (fun κ hκ _ C => ?_)
  have hn : ∀ st r, r < gBIG → sh st r = 10 → Φ st r → ((pN θ 10 Φ, noX) : Ph).1 st (some (.ref (ad θ r))) := fun st r q1 q2 q => ⟨r, rfl, q1, q2, q⟩
  change X _ _ _ _ _ [(0, .ref (ad θ a0))] _
  unfold w_X2_told at h
  refine X_aload_n C dX2_told_0 rfl 0 rfl (isRV_r _) ?_
  refine X_get (ci := 2) (j := 0) (q := (RX2, TX2, 2)) C rfl (by decide) q239 rfl dX2_told_1 hs_a0 (v := .long (sL st a0 0)) rfl ?_
  refine X_aload_n C dX2_told_4 rfl 0 rfl (isRV_r _) ?_
  refine X_get (ci := 2) (j := 1) (q := (RX2, TX2, 2)) C rfl (by decide) q240 rfl dX2_told_5 hs_a0 (v := .long (sL st a0 1)) rfl ?_
  refine X_callS (As := [_, _]) (rest := []) C q1547 q1548 q159 q1549 nm_X8_fraction rfl dX2_told_8 (m_X8_fraction (Cx_l C) hX (d := d - 1) (by omega) st (sL st a0 0) (sL st a0 1) h) (by omega) (by decide) (Nat.le_of_ble_eq_true rfl) (fun s2 w3 hE4 hP5 => ?_) (fun s8 E6 q7 hE4 hP5 => ?_)
  rotate_left
  · exact False.elim hP5
  obtain ⟨r1, rfl, hb9, hs10, h⟩ := hP5
  refine X_tls ?_
  have hs_a0 := Ext_sh hE4 hs_a0 (by decide)
  exact X_aret C rfl (Or.inl ⟨_, rfl⟩) (isRV_r _) dX2_told_11 (hn s2 _ hb9 hs10 h)

theorem nm_X8_behind : yX8_behind.cls ≠ "java/lang/invoke/MethodHandle" ∧ yX8_behind.cls ≠ "java/lang/invoke/VarHandle" ∧ (parseMethodDescriptor yX8_behind.desc).map (fun d => d.parameters.length) = some 1 := by decide +kernel
def w_X8_behindv3 (st : St) (a0 : Nat) (p1 : Nat) (Φ : St → Nat → Prop) : Prop := sN st + 1 ≤ gCAP ∧ sS st + 4 ≤ gCAPS ∧ ∀ s3, s3 = mk st 11 4 → w_J11_init s3 (sN st) (fun (s9 : St) => w_J11_append_2 s9 (sN st) p1 (fun (s17 : St) (r16 : Nat) => w_X2_told s17 a0 (fun (s27 : St) (r26 : Nat) => w_J11_append_2 s27 r16 r26 (fun (s37 : St) (r36 : Nat) => w_J11_toString s37 r36 (fun (s47 : St) (r46 : Nat) => Φ s47 r46)))))
theorem e_X8_behindv3 : plainFor yX8_behind = true := plainFor_of_name (by decide +kernel)
theorem m_X8_behindv3 {θ : Th} {l : Launch} (hl0 : l.stackTraces = false) (hX : LX θ) {d : Nat} (hd : 8 ≤ d) (st : St) (a0 : Nat) (p1 : Nat) (hs_a0 : sh st a0 = 3) (hb_a0 : a0 < gBIG) (hs_p1 : sh st p1 = 10) {Φ : St → Nat → Prop} (h : w_X8_behindv3 st a0 p1 Φ) : Ct θ l yX8_behind (ws_ yX8_behind cX8_behind 2 (some (Jvm.ClassFile.FieldType.object "java/lang/String"))) d [.ref (ad θ a0), .ref (ad θ p1)] st (pN θ 10 Φ, noX) := by
  refine Ct_entry hl0 e_X8_behindv3 (Nat.le_of_ble_eq_true rfl) (fun κ hκ _ C => ?_)
  have hn : ∀ st r, r < gBIG → sh st r = 10 → Φ st r → ((pN θ 10 Φ, noX) : Ph).1 st (some (.ref (ad θ r))) := fun st r q1 q2 q => ⟨r, rfl, q1, q2, q⟩
  change X _ _ _ _ _ [(0, .ref (ad θ a0)), (1, .ref (ad θ p1))] _
  unfold w_X8_behindv3 at h
  have g1 := h.1
  have h := h.2
  have g2 := h.1
  have h := h.2
  refine X_new (ci := 10) (q := (RJ11, TJ11, 4)) C rfl q1438 q963 q151 g1 g2 dX8_behind_0 (fun hE5 => ?_)
  refine X_nm (fun s3 e4 => ?_)
  have h := h s3 e4
  rw [← e4] at hE5
  have hs_a0 := Ext_sh hE5 hs_a0 (by decide)
  have hs_p1 := Ext_sh hE5 hs_p1 (by decide)
  have hs6 : sh s3 (sN st) = 11 := by rw [e4]; exact sh_mk
  have hb7 := nb_N g1
  refine X_dup C dX8_behind_3 rfl ?_
  refine X_callI (As := []) (rest := [_]) C q1439 q965 q151 q966 rfl nm_J11_init rfl dX8_behind_4 (m_J11_init (Cx_l C) hX (d := d - 1) (by omega) s3 (sN st) hs6 hb7 h) (by omega) (by decide) (Nat.le_of_ble_eq_true rfl) (fun s9 w10 hE11 hP12 => ?_) (fun s15 E13 q14 hE11 hP12 => ?_)
  rotate_left
  · exact False.elim hP12
  obtain ⟨rfl, h⟩ := hP12
  refine X_tln ?_
  have hs_a0 := Ext_sh hE11 hs_a0 (by decide)
  have hs_p1 := Ext_sh hE11 hs_p1 (by decide)
  have hs6 := Ext_sh hE11 hs6 (by decide)
  refine X_aload_n C dX8_behind_7 rfl 1 rfl (isRV_r _) ?_
  refine X_callV (ci := 10) (q := (RJ11, TJ11, 4)) (As := [_]) (rest := []) C rfl hs6 q1440 q1357 q1358 q151 q1359 ⟨rfl, nm_J11_append_2⟩ rfl dX8_behind_8 (m_J11_append_2 (Cx_l C) hX (d := d - 1) (by omega) s9 (sN st) p1 hs6 hb7 hs_p1 h) (by omega) (by decide) (Nat.le_of_ble_eq_true rfl) (fun s17 w18 hE19 hP20 => ?_) (fun s23 E21 q22 hE19 hP20 => ?_)
  rotate_left
  · exact False.elim hP20
  obtain ⟨r16, rfl, hb24, hs25, h⟩ := hP20
  refine X_tls ?_
  have hs_a0 := Ext_sh hE19 hs_a0 (by decide)
  have hs_p1 := Ext_sh hE19 hs_p1 (by decide)
  have hs6 := Ext_sh hE19 hs6 (by decide)
  refine X_aload_n C dX8_behind_11 rfl 0 rfl (isRV_r _) ?_
  refine X_callF (ci := 2) (q := (RX2, TX2, 2)) (As := []) (rest := [_]) C rfl hs_a0 (by simp [gIF]; try decide) q1442 q1542 q1544 q134 q1546 nmF_2 rfl dX8_behind_12 (m_X2_told (Cx_l C) hX (d := d - 1) (by omega) s17 a0 hs_a0 hb_a0 h) (by omega) (by decide) (Nat.le_of_ble_eq_true rfl) (fun s27 w28 hE29 hP30 => ?_) (fun s33 E31 q32 hE29 hP30 => ?_)
  rotate_left
  · exact False.elim hP30
  obtain ⟨r26, rfl, hb34, hs35, h⟩ := hP30
  refine X_tls ?_
  have hs_a0 := Ext_sh hE29 hs_a0 (by decide)
  have hs_p1 := Ext_sh hE29 hs_p1 (by decide)
  have hs6 := Ext_sh hE29 hs6 (by decide)
  have hs25 := Ext_sh hE29 hs25 (by decide)
  refine X_callV (ci := 10) (q := (RJ11, TJ11, 4)) (As := [_]) (rest := []) C rfl hs25 q1440 q1357 q1358 q151 q1359 ⟨rfl, nm_J11_append_2⟩ rfl dX8_behind_17 (m_J11_append_2 (Cx_l C) hX (d := d - 1) (by omega) s27 r16 r26 hs25 hb24 hs35 h) (by omega) (by decide) (Nat.le_of_ble_eq_true rfl) (fun s37 w38 hE39 hP40 => ?_) (fun s43 E41 q42 hE39 hP40 => ?_)
  rotate_left
  · exact False.elim hP40
  obtain ⟨r36, rfl, hb44, hs45, h⟩ := hP40
  refine X_tls ?_
  have hs_a0 := Ext_sh hE39 hs_a0 (by decide)
  have hs_p1 := Ext_sh hE39 hs_p1 (by decide)
  have hs6 := Ext_sh hE39 hs6 (by decide)
  have hs25 := Ext_sh hE39 hs25 (by decide)
  have hs35 := Ext_sh hE39 hs35 (by decide)
  refine X_callV (ci := 10) (q := (RJ11, TJ11, 4)) (As := []) (rest := []) C rfl hs45 q1578 q1087 q1088 q151 q1089 ⟨rfl, nm_J11_toString⟩ rfl dX8_behind_20 (m_J11_toString (Cx_l C) hX (d := d - 1) (by omega) s37 r36 hs45 hb44 h) (by omega) (by decide) (Nat.le_of_ble_eq_true rfl) (fun s47 w48 hE49 hP50 => ?_) (fun s53 E51 q52 hE49 hP50 => ?_)
  rotate_left
  · exact False.elim hP50
  obtain ⟨r46, rfl, hb54, hs55, h⟩ := hP50
  refine X_tls ?_
  have hs_a0 := Ext_sh hE49 hs_a0 (by decide)
  have hs_p1 := Ext_sh hE49 hs_p1 (by decide)
  have hs6 := Ext_sh hE49 hs6 (by decide)
  have hs25 := Ext_sh hE49 hs25 (by decide)
  have hs35 := Ext_sh hE49 hs35 (by decide)
  have hs45 := Ext_sh hE49 hs45 (by decide)
  exact X_aret C rfl (Or.inl ⟨_, rfl⟩) (isRV_r _) dX8_behind_23 (hn s47 _ hb54 hs55 h)

theorem nm_X7_told : yX7_told.cls ≠ "java/lang/invoke/MethodHandle" ∧ yX7_told.cls ≠ "java/lang/invoke/VarHandle" ∧ (parseMethodDescriptor yX7_told.desc).map (fun d => d.parameters.length) = some 0 := by decide +kernel
def w_X8_behindv8 (rec : St → Nat → (St → Nat → Prop) → Prop) (st : St) (a0 : Nat) (p1 : Nat) (Φ : St → Nat → Prop) : Prop := sN st + 1 ≤ gCAP ∧ sS st + 4 ≤ gCAPS ∧ ∀ s3, s3 = mk st 11 4 → w_J11_init s3 (sN st) (fun (s9 : St) => w_J11_append_2 s9 (sN st) p1 (fun (s17 : St) (r16 : Nat) => rec s17 a0 (fun (s27 : St) (r26 : Nat) => w_J11_append_2 s27 r16 r26 (fun (s37 : St) (r36 : Nat) => w_J11_toString s37 r36 (fun (s47 : St) (r46 : Nat) => Φ s47 r46)))))
theorem e_X8_behindv8 : plainFor yX8_behind = true := plainFor_of_name (by decide +kernel)
theorem m_X8_behindv8 {θ : Th} {l : Launch} (hl0 : l.stackTraces = false) (hX : LX θ) {rec : St → Nat → (St → Nat → Prop) → Prop} {dR : Nat} (hrec : ∀ {d : Nat}, dR ≤ d → ∀ (st : St) (a0 : Nat), sh st a0 = 8 → a0 < gBIG → ∀ {Φ : St → Nat → Prop}, rec st a0 Φ → Ct θ l yX7_told (ws_ yX7_told cX7_told 4 (some (Jvm.ClassFile.FieldType.object "java/lang/String"))) d [.ref (ad θ a0)] st (pN θ 10 Φ, noX)) {d : Nat} (hd : 6 ≤ d) (hdR : dR + 1 ≤ d) (st : St) (a0 : Nat) (p1 : Nat) (hs_a0 : sh st a0 = 8) (hb_a0 : a0 < gBIG) (hs_p1 : sh st p1 = 10) {Φ : St → Nat → Prop} (h : w_X8_behindv8 rec st a0 p1 Φ) : Ct θ l yX8_behind (ws_ yX8_behind cX8_behind 2 (some (Jvm.ClassFile.FieldType.object "java/lang/String"))) d [.ref (ad θ a0), .ref (ad θ p1)] st (pN θ 10 Φ, noX) := by
  refine Ct_entry hl0 e_X8_behindv8 (Nat.le_of_ble_eq_true rfl) (fun κ hκ _ C => ?_)
  subst hκ
  have hn : ∀ st r, r < gBIG → sh st r = 10 → Φ st r → ((pN θ 10 Φ, noX) : Ph).1 st (some (.ref (ad θ r))) := fun st r q1 q2 q => ⟨r, rfl, q1, q2, q⟩
  change X _ _ _ _ _ [(0, .ref (ad θ a0)), (1, .ref (ad θ p1))] _
  unfold w_X8_behindv8 at h
  have g1 := h.1
  have h := h.2
  have g2 := h.1
  have h := h.2
  refine X_new (ci := 10) (q := (RJ11, TJ11, 4)) C rfl q1438 q963 q151 g1 g2 dX8_behind_0 (fun hE5 => ?_)
  refine X_nm (fun s3 e4 => ?_)
  have h := h s3 e4
  rw [← e4] at hE5
  have hs_a0 := Ext_sh hE5 hs_a0 (by decide)
  have hs_p1 := Ext_sh hE5 hs_p1 (by decide)
  have hs6 : sh s3 (sN st) = 11 := by rw [e4]; exact sh_mk
  have hb7 := nb_N g1
  refine X_dup C dX8_behind_3 rfl ?_
  refine X_callI (As := []) (rest := [_]) C q1439 q965 q151 q966 rfl nm_J11_init rfl dX8_behind_4 (m_J11_init (Cx_l C) hX (d := d - 1) (by omega) s3 (sN st) hs6 hb7 h) (by omega) (by decide) (Nat.le_of_ble_eq_true rfl) (fun s9 w10 hE11 hP12 => ?_) (fun s15 E13 q14 hE11 hP12 => ?_)
  rotate_left
  · exact False.elim hP12
  obtain ⟨rfl, h⟩ := hP12
  refine X_tln ?_
  have hs_a0 := Ext_sh hE11 hs_a0 (by decide)
  have hs_p1 := Ext_sh hE11 hs_p1 (by decide)
  have hs6 := Ext_sh hE11 hs6 (by decide)
  refine X_aload_n C dX8_behind_7 rfl 1 rfl (isRV_r _) ?_
  refine X_callV (ci := 10) (q := (RJ11, TJ11, 4)) (As := [_]) (rest := []) C rfl hs6 q1440 q1357 q1358 q151 q1359 ⟨rfl, nm_J11_append_2⟩ rfl dX8_behind_8 (m_J11_append_2 (Cx_l C) hX (d := d - 1) (by omega) s9 (sN st) p1 hs6 hb7 hs_p1 h) (by omega) (by decide) (Nat.le_of_ble_eq_true rfl) (fun s17 w18 hE19 hP20 => ?_) (fun s23 E21 q22 hE19 hP20 => ?_)
  rotate_left
  · exact False.elim hP20
  obtain ⟨r16, rfl, hb24, hs25, h⟩ := hP20
  refine X_tls ?_
  have hs_a0 := Ext_sh hE19 hs_a0 (by decide)
  have hs_p1 := Ext_sh hE19 hs_p1 (by decide)
  have hs6 := Ext_sh hE19 hs6 (by decide)
  refine X_aload_n C dX8_behind_11 rfl 0 rfl (isRV_r _) ?_
  refine X_callF (ci := 7) (q := (RX7, TX7, 4)) (As := []) (rest := [_]) C rfl hs_a0 (by simp [gIF]; try decide) q1442 q1445 q1447 q158 q1449 nmF_2 rfl dX8_behind_12 (hrec (d := d - 1) (by omega) s17 a0 hs_a0 hb_a0 h) (by omega) (by decide) (Nat.le_of_ble_eq_true rfl) (fun s27 w28 hE29 hP30 => ?_) (fun s33 E31 q32 hE29 hP30 => ?_)
  rotate_left
  · exact False.elim hP30
  obtain ⟨r26, rfl, hb34, hs35, h⟩ := hP30
  refine X_tls ?_
  have hs_a0 := Ext_sh hE29 hs_a0 (by decide)
  have hs_p1 := Ext_sh hE29 hs_p1 (by decide)
  have hs6 := Ext_sh hE29 hs6 (by decide)
  have hs25 := Ext_sh hE29 hs25 (by decide)
  refine X_callV (ci := 10) (q := (RJ11, TJ11, 4)) (As := [_]) (rest := []) C rfl hs25 q1440 q1357 q1358 q151 q1359 ⟨rfl, nm_J11_append_2⟩ rfl dX8_behind_17 (m_J11_append_2 (Cx_l C) hX (d := d - 1) (by omega) s27 r16 r26 hs25 hb24 hs35 h) (by omega) (by decide) (Nat.le_of_ble_eq_true rfl) (fun s37 w38 hE39 hP40 => ?_) (fun s43 E41 q42 hE39 hP40 => ?_)
  rotate_left
  · exact False.elim hP40
  obtain ⟨r36, rfl, hb44, hs45, h⟩ := hP40
  refine X_tls ?_
  have hs_a0 := Ext_sh hE39 hs_a0 (by decide)
  have hs_p1 := Ext_sh hE39 hs_p1 (by decide)
  have hs6 := Ext_sh hE39 hs6 (by decide)
  have hs25 := Ext_sh hE39 hs25 (by decide)
  have hs35 := Ext_sh hE39 hs35 (by decide)
  refine X_callV (ci := 10) (q := (RJ11, TJ11, 4)) (As := []) (rest := []) C rfl hs45 q1578 q1087 q1088 q151 q1089 ⟨rfl, nm_J11_toString⟩ rfl dX8_behind_20 (m_J11_toString (Cx_l C) hX (d := d - 1) (by omega) s37 r36 hs45 hb44 h) (by omega) (by decide) (Nat.le_of_ble_eq_true rfl) (fun s47 w48 hE49 hP50 => ?_) (fun s53 E51 q52 hE49 hP50 => ?_)
  rotate_left
  · exact False.elim hP50
  obtain ⟨r46, rfl, hb54, hs55, h⟩ := hP50
  refine X_tls ?_
  have hs_a0 := Ext_sh hE49 hs_a0 (by decide)
  have hs_p1 := Ext_sh hE49 hs_p1 (by decide)
  have hs6 := Ext_sh hE49 hs6 (by decide)
  have hs25 := Ext_sh hE49 hs25 (by decide)
  have hs35 := Ext_sh hE49 hs35 (by decide)
  have hs45 := Ext_sh hE49 hs45 (by decide)
  exact X_aret C rfl (Or.inl ⟨_, rfl⟩) (isRV_r _) dX8_behind_23 (hn s47 _ hb54 hs55 h)

def w_X7_told_b68 (rec : St → Nat → (St → Nat → Prop) → Prop) (Φ : St → Nat → Prop) (K40 : St → Nat → Nat → Int32 → Prop) (st : St) (x0 : Nat) (x1 : Nat) (x2 : Int32) (z0 : Nat) (z1 : Nat) (z2 : Nat) : Prop := w_X8_behindv8 rec st z1 z0 (fun (s41 : St) (r40 : Nat) => w_J11_append_2 s41 z2 r40 (fun (s51 : St) (r50 : Nat) => K40 s51 x0 x1 (x2 + 1)))
theorem t_X7_told_b68 {θ : Th} {κ : Kx} {Ph : Ph} (hX : LX θ) {rec : St → Nat → (St → Nat → Prop) → Prop} {dR : Nat} (hrec : ∀ {d : Nat}, dR ≤ d → ∀ (st : St) (a0 : Nat), sh st a0 = 8 → a0 < gBIG → ∀ {Φ : St → Nat → Prop}, rec st a0 Φ → Ct θ κ.2.1 yX7_told (ws_ yX7_told cX7_told 4 (some (Jvm.ClassFile.FieldType.object "java/lang/String"))) d [.ref (ad θ a0)] st (pN θ 10 Φ, noX)) {d : Nat} (hd : 8 ≤ d) (hdR : dR + 2 ≤ d) (C : Cx θ κ yX7_told cX7_told 4 (some (Jvm.ClassFile.FieldType.object "java/lang/String")) [] d) {Φ : St → Nat → Prop} (hn : ∀ st r, r < gBIG → sh st r = 10 → Φ st r → Ph.1 st (some (.ref (ad θ r)))) {K40 : St → Nat → Nat → Int32 → Prop} (hK40 : ∀ (st : St) (x0 : Nat) (x1 : Nat) (x2 : Int32), sh st x0 = 8 → x0 < gBIG → sh st x1 = 11 → x1 < gBIG → K40 st x0 x1 x2 → X θ κ Ph st 40 [(0, .ref (ad θ x0)), (1, .ref (ad θ x1)), (2, .int x2)] []) (st : St) (x0 : Nat) (x1 : Nat) (x2 : Int32) (z0 : Nat) (z1 : Nat) (z2 : Nat) (hs_x0 : sh st x0 = 8) (hb_x0 : x0 < gBIG) (hs_x1 : sh st x1 = 11) (hb_x1 : x1 < gBIG) (hs_z0 : sh st z0 = 10) (hs_z1 : sh st z1 = 8) (hb_z1 : z1 < gBIG) (hs_z2 : sh st z2 = 11) (hb_z2 : z2 < gBIG) (h : w_X7_told_b68 rec Φ K40 st x0 x1 x2 z0 z1 z2) : X θ κ Ph st 68 [(0, .ref (ad θ x0)), (1, .ref (ad θ x1)), (2, .int x2)] [.ref (ad θ z0), .ref (ad θ z1), .ref (ad θ z2)] := by
  unfold w_X7_told_b68 at h
  refine X_callFD (ci := 7) (q := (RX7, TX7, 4)) (As := [_]) (rest := [_]) C rfl hs_z1 (by simp [gIF]; try decide) (by simp [gDF]; try decide) q1458 q1435 q159 q1437 nmF_0 rfl dX7_told_68 (m_X8_behindv8 (Cx_l C) hX hrec (d := d - 1) (by omega) (by omega) st z1 z0 hs_z1 hb_z1 hs_z0 h) (by omega) (by decide) (Nat.le_of_ble_eq_true rfl) (fun s41 w42 hE43 hP44 => ?_) (fun s47 E45 q46 hE43 hP44 => ?_)
  rotate_left
  · exact False.elim hP44
  obtain ⟨r40, rfl, hb48, hs49, h⟩ := hP44
  refine X_tls ?_
  have hs_x0 := Ext_sh hE43 hs_x0 (by decide)
  have hs_x1 := Ext_sh hE43 hs_x1 (by decide)
  have hs_z0 := Ext_sh hE43 hs_z0 (by decide)
  have hs_z1 := Ext_sh hE43 hs_z1 (by decide)
  have hs_z2 := Ext_sh hE43 hs_z2 (by decide)
  refine X_callV (ci := 10) (q := (RJ11, TJ11, 4)) (As := [_]) (rest := []) C rfl hs_z2 q1454 q1357 q1358 q151 q1359 ⟨rfl, nm_J11_append_2⟩ rfl dX7_told_73 (m_J11_append_2 (Cx_l C) hX (d := d - 1) (by omega) s41 z2 r40 hs_z2 hb_z2 hs49 h) (by omega) (by decide) (Nat.le_of_ble_eq_true rfl) (fun s51 w52 hE53 hP54 => ?_) (fun s57 E55 q56 hE53 hP54 => ?_)
  rotate_left
  · exact False.elim hP54
  obtain ⟨r50, rfl, hb58, hs59, h⟩ := hP54
  refine X_tls ?_
  have hs_x0 := Ext_sh hE53 hs_x0 (by decide)
  have hs_x1 := Ext_sh hE53 hs_x1 (by decide)
  have hs_z0 := Ext_sh hE53 hs_z0 (by decide)
  have hs_z1 := Ext_sh hE53 hs_z1 (by decide)
  have hs_z2 := Ext_sh hE53 hs_z2 (by decide)
  have hs49 := Ext_sh hE53 hs49 (by decide)
  refine X_pop C dX7_told_76 rfl ?_
  refine X_iinc (v := (x2 + 1)) C (j := 2) dX7_told_77 rfl rfl (lo2 := [(2, _), (0, _), (1, _)]) (by decide) rfl ?_
  refine X_goto (tgt := 40) C dX7_told_80 (by decide) ?_
  refine X_sub [1, 2, 0] (lo2 := [(0, _), (1, _), (2, _)]) rfl ?_
  exact hK40 s51 x0 x1 (x2 + 1) hs_x0 hb_x0 hs_x1 hb_x1 h
def w_X7_told_l40 (rec : St → Nat → (St → Nat → Prop) → Prop) (Φ : St → Nat → Prop) (E83 : St → Nat → Nat → Prop) : Nat → St → Nat → Nat → Int32 → Prop
  | 0, _, _, _, _ => False
  | n + 1, st, x0, x1, x2 => (((sI st x0 3) ≤ x2) → E83 st x0 x1) ∧ ((¬ (sI st x0 3) ≤ x2) → ∃ r28, (sR st x0 2) = some r28 ∧ r28 < gBIG ∧ sh st r28 = 116 ∧ vp_in x2 (ln st r28) ∧ ∃ r33, (sR st r28 x2.toNatClampNeg) = some r33 ∧ r33 < gBIG ∧ sh st r33 = 8 ∧ ((x2 ≠ 0) → w_X7_told_b68 rec Φ (w_X7_told_l40 rec Φ E83 n) st x0 x1 x2 (gBIG + 2 * 11) r33 x1) ∧ ((x2 = 0) → w_X7_told_b68 rec Φ (w_X7_told_l40 rec Φ E83 n) st x0 x1 x2 (gBIG + 2 * 14) r33 x1))
theorem t_X7_told_l40 {θ : Th} {κ : Kx} {Ph : Ph} (hX : LX θ) {rec : St → Nat → (St → Nat → Prop) → Prop} {dR : Nat} (hrec : ∀ {d : Nat}, dR ≤ d → ∀ (st : St) (a0 : Nat), sh st a0 = 8 → a0 < gBIG → ∀ {Φ : St → Nat → Prop}, rec st a0 Φ → Ct θ κ.2.1 yX7_told (ws_ yX7_told cX7_told 4 (some (Jvm.ClassFile.FieldType.object "java/lang/String"))) d [.ref (ad θ a0)] st (pN θ 10 Φ, noX)) {d : Nat} (hd : 8 ≤ d) (hdR : dR + 2 ≤ d) (C : Cx θ κ yX7_told cX7_told 4 (some (Jvm.ClassFile.FieldType.object "java/lang/String")) [] d) {Φ : St → Nat → Prop} (hn : ∀ st r, r < gBIG → sh st r = 10 → Φ st r → Ph.1 st (some (.ref (ad θ r)))) {E83 : St → Nat → Nat → Prop} (hE83 : ∀ (st : St) (x0 : Nat) (x1 : Nat), sh st x0 = 8 → x0 < gBIG → sh st x1 = 11 → x1 < gBIG → E83 st x0 x1 → X θ κ Ph st 83 [(0, .ref (ad θ x0)), (1, .ref (ad θ x1))] []) : ∀ (n : Nat) (st : St) (x0 : Nat) (x1 : Nat) (x2 : Int32), sh st x0 = 8 → x0 < gBIG → sh st x1 = 11 → x1 < gBIG → w_X7_told_l40 rec Φ E83 n st x0 x1 x2 → X θ κ Ph st 40 [(0, .ref (ad θ x0)), (1, .ref (ad θ x1)), (2, .int x2)] [] := by
  intro n
  induction n with
  | zero => intro st x0 x1 x2 hs_x0 hb_x0 hs_x1 hb_x1 h; exact h.elim
  | succ n hK40 =>
    intro st x0 x1 x2 hs_x0 hb_x0 hs_x1 hb_x1 h
    rw [w_X7_told_l40] at h
    refine X_iload_n C dX7_told_40 rfl 2 rfl ?_
    refine X_aload_n C dX7_told_41 rfl 0 rfl (isRV_r _) ?_
    refine X_get (ci := 7) (j := 3) (q := (RX7, TX7, 4)) C rfl (by decide) q1271 rfl dX7_told_42 hs_x0 (v := .int (sI st x0 3)) rfl ?_
    refine X_icmp_ge (tgt := 83) C dX7_told_45 (by decide) (fun c27 => ?_) (fun c27 => ?_)
    · have h := h.1 c27
      refine X_sub [0, 1] (lo2 := [(0, _), (1, _)]) rfl ?_
      exact hE83 st x0 x1 hs_x0 hb_x0 hs_x1 hb_x1 h
    · have h := h.2 c27
      refine X_aload_n C dX7_told_48 rfl 0 rfl (isRV_r _) ?_
      refine X_get (ci := 7) (j := 2) (q := (RX7, TX7, 4)) C rfl (by decide) q1269 rfl dX7_told_49 hs_x0 (v := rv θ (sR st x0 2)) rfl ?_
      obtain ⟨r28, q29, hb31, hs30, h⟩ := h
      rw [q29]
      refine X_tor ?_
      refine X_iload_n C dX7_told_52 rfl 2 rfl ?_
      have g32 := h.1
      have h := h.2
      refine X_aaldD (t := 116) C 11 rfl hs30 (by decide) rfl rfl g32 rfl rfl dX7_told_53 ?_
      obtain ⟨r33, q34, hb36, hs35, h⟩ := h
      rw [q34]
      refine X_tor ?_
      refine X_astore_n C dX7_told_54 rfl (isRV_r _) (lo2 := [(3, _), (0, _), (1, _), (2, _)]) (by decide) rfl ?_
      refine X_aload_n C dX7_told_55 rfl 2 rfl (isRV_r _) ?_
      refine X_aload_n C dX7_told_56 rfl 0 rfl (isRV_r _) ?_
      refine X_iload_n C dX7_told_57 rfl 3 rfl ?_
      refine X_if_ne (tgt := 66) C dX7_told_58 (by decide) (fun c37 => ?_) (fun c37 => ?_)
      · have h := h.1 c37
        refine X_ldcs (tx := ",") (i := 11) C (by decide +kernel) dX7_told_66 ?_
        refine X_con (fun hc38 => ?_)
        have hs39 : sh st (gBIG + 2 * 11) = 10 := con_str hc38 (by decide)
        refine X_sub [1, 2, 3] (lo2 := [(0, _), (1, _), (2, _)]) rfl ?_
        exact t_X7_told_b68 hX hrec hd hdR C hn hK40 st x0 x1 x2 (gBIG + 2 * 11) r33 x1 hs_x0 hb_x0 hs_x1 hb_x1 hs39 hs35 hb36 hs_x1 hb_x1 h
      · have h := h.2 c37
        refine X_ldcs (tx := "[") (i := 14) C (by decide +kernel) dX7_told_61 ?_
        refine X_con (fun hc60 => ?_)
        have hs61 : sh st (gBIG + 2 * 14) = 10 := con_str hc60 (by decide)
        refine X_goto (tgt := 68) C dX7_told_63 (by decide) ?_
        refine X_sub [1, 2, 3] (lo2 := [(0, _), (1, _), (2, _)]) rfl ?_
        exact t_X7_told_b68 hX hrec hd hdR C hn hK40 st x0 x1 x2 (gBIG + 2 * 14) r33 x1 hs_x0 hb_x0 hs_x1 hb_x1 hs61 hs35 hb36 hs_x1 hb_x1 h
def w_X7_told_b83 (rec : St → Nat → (St → Nat → Prop) → Prop) (Φ : St → Nat → Prop) (st : St) (x0 : Nat) (x1 : Nat) : Prop := (((sI st x0 3) ≠ 0) → sN st + 1 ≤ gCAP ∧ sS st + 4 ≤ gCAPS ∧ ∀ s66, s66 = mk st 11 4 → w_J11_init s66 (sN st) (fun (s72 : St) => w_J11_append_4 s72 (sN st) x1 (fun (s80 : St) (r79 : Nat) => w_J11_append_2 s80 r79 (gBIG + 2 * 17) (fun (s92 : St) (r91 : Nat) => w_J11_toString s92 r91 (fun (s102 : St) (r101 : Nat) => Φ s102 r101))))) ∧ (((sI st x0 3) = 0) → w_J11_toString st x1 (fun (s112 : St) (r111 : Nat) => Φ s112 r111))
theorem t_X7_told_b83 {θ : Th} {κ : Kx} {Ph : Ph} (hX : LX θ) {rec : St → Nat → (St → Nat → Prop) → Prop} {dR : Nat} (hrec : ∀ {d : Nat}, dR ≤ d → ∀ (st : St) (a0 : Nat), sh st a0 = 8 → a0 < gBIG → ∀ {Φ : St → Nat → Prop}, rec st a0 Φ → Ct θ κ.2.1 yX7_told (ws_ yX7_told cX7_told 4 (some (Jvm.ClassFile.FieldType.object "java/lang/String"))) d [.ref (ad θ a0)] st (pN θ 10 Φ, noX)) {d : Nat} (hd : 8 ≤ d) (hdR : dR + 2 ≤ d) (C : Cx θ κ yX7_told cX7_told 4 (some (Jvm.ClassFile.FieldType.object "java/lang/String")) [] d) {Φ : St → Nat → Prop} (hn : ∀ st r, r < gBIG → sh st r = 10 → Φ st r → Ph.1 st (some (.ref (ad θ r)))) (st : St) (x0 : Nat) (x1 : Nat) (hs_x0 : sh st x0 = 8) (hb_x0 : x0 < gBIG) (hs_x1 : sh st x1 = 11) (hb_x1 : x1 < gBIG) (h : w_X7_told_b83 rec Φ st x0 x1) : X θ κ Ph st 83 [(0, .ref (ad θ x0)), (1, .ref (ad θ x1))] [] := by
  unfold w_X7_told_b83 at h
  refine X_aload_n C dX7_told_83 rfl 0 rfl (isRV_r _) ?_
  refine X_get (ci := 7) (j := 3) (q := (RX7, TX7, 4)) C rfl (by decide) q1271 rfl dX7_told_84 hs_x0 (v := .int (sI st x0 3)) rfl ?_
  refine X_if_ne (tgt := 97) C dX7_told_87 (by decide) (fun c63 => ?_) (fun c63 => ?_)
  · have h := h.1 c63
    have g64 := h.1
    have h := h.2
    have g65 := h.1
    have h := h.2
    refine X_new (ci := 10) (q := (RJ11, TJ11, 4)) C rfl q1450 q963 q151 g64 g65 dX7_told_97 (fun hE68 => ?_)
    refine X_nm (fun s66 e67 => ?_)
    have h := h s66 e67
    rw [← e67] at hE68
    have hs_x0 := Ext_sh hE68 hs_x0 (by decide)
    have hs_x1 := Ext_sh hE68 hs_x1 (by decide)
    have hs69 : sh s66 (sN st) = 11 := by rw [e67]; exact sh_mk
    have hb70 := nb_N g64
    refine X_dup C dX7_told_100 rfl ?_
    refine X_callI (As := []) (rest := [_]) C q1451 q965 q151 q966 rfl nm_J11_init rfl dX7_told_101 (m_J11_init (Cx_l C) hX (d := d - 1) (by omega) s66 (sN st) hs69 hb70 h) (by omega) (by decide) (Nat.le_of_ble_eq_true rfl) (fun s72 w73 hE74 hP75 => ?_) (fun s78 E76 q77 hE74 hP75 => ?_)
    rotate_left
    · exact False.elim hP75
    obtain ⟨rfl, h⟩ := hP75
    refine X_tln ?_
    have hs_x0 := Ext_sh hE74 hs_x0 (by decide)
    have hs_x1 := Ext_sh hE74 hs_x1 (by decide)
    have hs69 := Ext_sh hE74 hs69 (by decide)
    refine X_aload_n C dX7_told_104 rfl 1 rfl (isRV_r _) ?_
    refine X_callV (ci := 10) (q := (RJ11, TJ11, 4)) (As := [_]) (rest := []) C rfl hs69 q1462 q1463 q1464 q151 q1465 ⟨rfl, nm_J11_append_4⟩ rfl dX7_told_105 (m_J11_append_4 (Cx_l C) hX (d := d - 1) (by omega) s72 (sN st) x1 hs69 hb70 hs_x1 hb_x1 h) (by omega) (by decide) (Nat.le_of_ble_eq_true rfl) (fun s80 w81 hE82 hP83 => ?_) (fun s86 E84 q85 hE82 hP83 => ?_)
    rotate_left
    · exact False.elim hP83
    obtain ⟨r79, rfl, hb87, hs88, h⟩ := hP83
    refine X_tls ?_
    have hs_x0 := Ext_sh hE82 hs_x0 (by decide)
    have hs_x1 := Ext_sh hE82 hs_x1 (by decide)
    have hs69 := Ext_sh hE82 hs69 (by decide)
    refine X_ldcs (tx := "]") (i := 17) C (by decide +kernel) dX7_told_108 ?_
    refine X_con (fun hc89 => ?_)
    have hs90 : sh s80 (gBIG + 2 * 17) = 10 := con_str hc89 (by decide)
    refine X_callV (ci := 10) (q := (RJ11, TJ11, 4)) (As := [_]) (rest := []) C rfl hs88 q1454 q1357 q1358 q151 q1359 ⟨rfl, nm_J11_append_2⟩ rfl dX7_told_110 (m_J11_append_2 (Cx_l C) hX (d := d - 1) (by omega) s80 r79 (gBIG + 2 * 17) hs88 hb87 hs90 h) (by omega) (by decide) (Nat.le_of_ble_eq_true rfl) (fun s92 w93 hE94 hP95 => ?_) (fun s98 E96 q97 hE94 hP95 => ?_)
    rotate_left
    · exact False.elim hP95
    obtain ⟨r91, rfl, hb99, hs100, h⟩ := hP95
    refine X_tls ?_
    have hs_x0 := Ext_sh hE94 hs_x0 (by decide)
    have hs_x1 := Ext_sh hE94 hs_x1 (by decide)
    have hs69 := Ext_sh hE94 hs69 (by decide)
    have hs88 := Ext_sh hE94 hs88 (by decide)
    have hs90 := Ext_sh hE94 hs90 (by decide)
    refine X_callV (ci := 10) (q := (RJ11, TJ11, 4)) (As := []) (rest := []) C rfl hs100 q1461 q1087 q1088 q151 q1089 ⟨rfl, nm_J11_toString⟩ rfl dX7_told_113 (m_J11_toString (Cx_l C) hX (d := d - 1) (by omega) s92 r91 hs100 hb99 h) (by omega) (by decide) (Nat.le_of_ble_eq_true rfl) (fun s102 w103 hE104 hP105 => ?_) (fun s108 E106 q107 hE104 hP105 => ?_)
    rotate_left
    · exact False.elim hP105
    obtain ⟨r101, rfl, hb109, hs110, h⟩ := hP105
    refine X_tls ?_
    have hs_x0 := Ext_sh hE104 hs_x0 (by decide)
    have hs_x1 := Ext_sh hE104 hs_x1 (by decide)
    have hs69 := Ext_sh hE104 hs69 (by decide)
    have hs88 := Ext_sh hE104 hs88 (by decide)
    have hs90 := Ext_sh hE104 hs90 (by decide)
    have hs100 := Ext_sh hE104 hs100 (by decide)
    exact X_aret C rfl (Or.inl ⟨_, rfl⟩) (isRV_r _) dX7_told_116 (hn s102 _ hb109 hs110 h)
  · have h := h.2 c63
    refine X_aload_n C dX7_told_90 rfl 1 rfl (isRV_r _) ?_
    refine X_callV (ci := 10) (q := (RJ11, TJ11, 4)) (As := []) (rest := []) C rfl hs_x1 q1461 q1087 q1088 q151 q1089 ⟨rfl, nm_J11_toString⟩ rfl dX7_told_91 (m_J11_toString (Cx_l C) hX (d := d - 1) (by omega) st x1 hs_x1 hb_x1 h) (by omega) (by decide) (Nat.le_of_ble_eq_true rfl) (fun s112 w113 hE114 hP115 => ?_) (fun s118 E116 q117 hE114 hP115 => ?_)
    rotate_left
    · exact False.elim hP115
    obtain ⟨r111, rfl, hb119, hs120, h⟩ := hP115
    refine X_tls ?_
    have hs_x0 := Ext_sh hE114 hs_x0 (by decide)
    have hs_x1 := Ext_sh hE114 hs_x1 (by decide)
    refine X_goto (tgt := 116) C dX7_told_94 (by decide) ?_
    exact X_aret C rfl (Or.inl ⟨_, rfl⟩) (isRV_r _) dX7_told_116 (hn s112 _ hb119 hs120 h)
def w_X7_told_b38 (rec : St → Nat → (St → Nat → Prop) → Prop) (Φ : St → Nat → Prop) (st : St) (x0 : Nat) (x1 : Nat) : Prop := w_X7_told_l40 rec Φ (fun (s62 : St) (x0 : Nat) (x1 : Nat) => w_X7_told_b83 rec Φ s62 x0 x1) gFU st x0 x1 0
theorem t_X7_told_b38 {θ : Th} {κ : Kx} {Ph : Ph} (hX : LX θ) {rec : St → Nat → (St → Nat → Prop) → Prop} {dR : Nat} (hrec : ∀ {d : Nat}, dR ≤ d → ∀ (st : St) (a0 : Nat), sh st a0 = 8 → a0 < gBIG → ∀ {Φ : St → Nat → Prop}, rec st a0 Φ → Ct θ κ.2.1 yX7_told (ws_ yX7_told cX7_told 4 (some (Jvm.ClassFile.FieldType.object "java/lang/String"))) d [.ref (ad θ a0)] st (pN θ 10 Φ, noX)) {d : Nat} (hd : 8 ≤ d) (hdR : dR + 2 ≤ d) (C : Cx θ κ yX7_told cX7_told 4 (some (Jvm.ClassFile.FieldType.object "java/lang/String")) [] d) {Φ : St → Nat → Prop} (hn : ∀ st r, r < gBIG → sh st r = 10 → Φ st r → Ph.1 st (some (.ref (ad θ r)))) (st : St) (x0 : Nat) (x1 : Nat) (hs_x0 : sh st x0 = 8) (hb_x0 : x0 < gBIG) (hs_x1 : sh st x1 = 11) (hb_x1 : x1 < gBIG) (h : w_X7_told_b38 rec Φ st x0 x1) : X θ κ Ph st 38 [(0, .ref (ad θ x0)), (1, .ref (ad θ x1))] [] := by
  unfold w_X7_told_b38 at h
  refine X_iconst (v := 0) C dX7_told_38 rfl ?_
  refine X_istore_n C dX7_told_39 rfl (lo2 := [(2, _), (0, _), (1, _)]) (by decide) rfl ?_
  refine X_sub [1, 2, 0] (lo2 := [(0, _), (1, _), (2, _)]) rfl ?_
  refine t_X7_told_l40 hX hrec hd hdR C hn ?_ gFU st x0 x1 0 hs_x0 hb_x0 hs_x1 hb_x1 h
  · intro s62 x0 x1 hs_x0 hb_x0 hs_x1 hb_x1 h
    exact t_X7_told_b83 hX hrec hd hdR C hn s62 x0 x1 hs_x0 hb_x0 hs_x1 hb_x1 h
def w_X7_told (rec : St → Nat → (St → Nat → Prop) → Prop) (st : St) (a0 : Nat) (Φ : St → Nat → Prop) : Prop := sN st + 1 ≤ gCAP ∧ sS st + 4 ≤ gCAPS ∧ ∀ s3, s3 = mk st 11 4 → w_J11_init s3 (sN st) (fun (s9 : St) => w_J11_append_3 s9 (sN st) (sI s9 a0 0) (fun (s17 : St) (r16 : Nat) => (((sI s17 a0 1) ≤ 0) → w_X7_told_b38 rec Φ s17 a0 (sN st)) ∧ ((¬ (sI s17 a0 1) ≤ 0) → w_J11_append_2 s17 (sN st) (gBIG + 2 * 13) (fun (s124 : St) (r123 : Nat) => w_J11_append_3 s124 r123 (sI s124 a0 1) (fun (s134 : St) (r133 : Nat) => w_X7_told_b38 rec Φ s134 a0 (sN st))))))
theorem e_X7_told : plainFor yX7_told = true := plainFor_of_name (by decide +kernel)
theorem m_X7_told {θ : Th} {l : Launch} (hl0 : l.stackTraces = false) (hX : LX θ) {rec : St → Nat → (St → Nat → Prop) → Prop} {dR : Nat} (hrec : ∀ {d : Nat}, dR ≤ d → ∀ (st : St) (a0 : Nat), sh st a0 = 8 → a0 < gBIG → ∀ {Φ : St → Nat → Prop}, rec st a0 Φ → Ct θ l yX7_told (ws_ yX7_told cX7_told 4 (some (Jvm.ClassFile.FieldType.object "java/lang/String"))) d [.ref (ad θ a0)] st (pN θ 10 Φ, noX)) {d : Nat} (hd : 8 ≤ d) (hdR : dR + 2 ≤ d) (st : St) (a0 : Nat) (hs_a0 : sh st a0 = 8) (hb_a0 : a0 < gBIG) {Φ : St → Nat → Prop} (h : w_X7_told rec st a0 Φ) : Ct θ l yX7_told (ws_ yX7_told cX7_told 4 (some (Jvm.ClassFile.FieldType.object "java/lang/String"))) d [.ref (ad θ a0)] st (pN θ 10 Φ, noX) := by
  refine Ct_entry hl0 e_X7_told (Nat.le_of_ble_eq_true rfl) (fun κ hκ _ C => ?_)
  subst hκ
  have hn : ∀ st r, r < gBIG → sh st r = 10 → Φ st r → ((pN θ 10 Φ, noX) : Ph).1 st (some (.ref (ad θ r))) := fun st r q1 q2 q => ⟨r, rfl, q1, q2, q⟩
  change X _ _ _ _ _ [(0, .ref (ad θ a0))] _
  unfold w_X7_told at h
  have g1 := h.1
  have h := h.2
  have g2 := h.1
  have h := h.2
  refine X_new (ci := 10) (q := (RJ11, TJ11, 4)) C rfl q1450 q963 q151 g1 g2 dX7_told_0 (fun hE5 => ?_)
  refine X_nm (fun s3 e4 => ?_)
  have h := h s3 e4
  rw [← e4] at hE5
  have hs_a0 := Ext_sh hE5 hs_a0 (by decide)
  have hs6 : sh s3 (sN st) = 11 := by rw [e4]; exact sh_mk
  have hb7 := nb_N g1
  refine X_dup C dX7_told_3 rfl ?_
  refine X_callI (As := []) (rest := [_]) C q1451 q965 q151 q966 rfl nm_J11_init rfl dX7_told_4 (m_J11_init (Cx_l C) hX (d := d - 1) (by omega) s3 (sN st) hs6 hb7 h) (by omega) (by decide) (Nat.le_of_ble_eq_true rfl) (fun s9 w10 hE11 hP12 => ?_) (fun s15 E13 q14 hE11 hP12 => ?_)
  rotate_left
  · exact False.elim hP12
  obtain ⟨rfl, h⟩ := hP12
  refine X_tln ?_
  have hs_a0 := Ext_sh hE11 hs_a0 (by decide)
  have hs6 := Ext_sh hE11 hs6 (by decide)
  refine X_astore_n C dX7_told_7 rfl (isRV_r _) (lo2 := [(1, _), (0, _)]) (by decide) rfl ?_
  refine X_aload_n C dX7_told_8 rfl 0 rfl (isRV_r _) ?_
  refine X_aload_n C dX7_told_9 rfl 1 rfl (isRV_r _) ?_
  refine X_get (ci := 7) (j := 0) (q := (RX7, TX7, 4)) C rfl (by decide) q1265 rfl dX7_told_10 hs_a0 (v := .int (sI s9 a0 0)) rfl ?_
  refine X_callV (ci := 10) (q := (RJ11, TJ11, 4)) (As := [_]) (rest := []) C rfl hs6 q1452 q1403 q1404 q151 q1405 ⟨rfl, nm_J11_append_3⟩ rfl dX7_told_13 (m_J11_append_3 (Cx_l C) hX (d := d - 1) (by omega) s9 (sN st) (sI s9 a0 0) hs6 hb7 h) (by omega) (by decide) (Nat.le_of_ble_eq_true rfl) (fun s17 w18 hE19 hP20 => ?_) (fun s23 E21 q22 hE19 hP20 => ?_)
  rotate_left
  · exact False.elim hP20
  obtain ⟨r16, rfl, hb24, hs25, h⟩ := hP20
  refine X_tls ?_
  have hs_a0 := Ext_sh hE19 hs_a0 (by decide)
  have hs6 := Ext_sh hE19 hs6 (by decide)
  refine X_pop C dX7_told_16 rfl ?_
  refine X_aload_n C dX7_told_17 rfl 1 rfl (isRV_r _) ?_
  refine X_get (ci := 7) (j := 1) (q := (RX7, TX7, 4)) C rfl (by decide) q1267 rfl dX7_told_18 hs_a0 (v := .int (sI s17 a0 1)) rfl ?_
  refine X_if_le (tgt := 38) C dX7_told_21 (by decide) (fun c26 => ?_) (fun c26 => ?_)
  · have h := h.1 c26
    refine X_sub [1, 0] (lo2 := [(0, _), (1, _)]) rfl ?_
    exact t_X7_told_b38 hX hrec hd hdR C hn s17 a0 (sN st) hs_a0 hb_a0 hs6 hb7 h
  · have h := h.2 c26
    refine X_aload_n C dX7_told_24 rfl 0 rfl (isRV_r _) ?_
    refine X_ldcs (tx := " stay ") (i := 13) C (by decide +kernel) dX7_told_25 ?_
    refine X_con (fun hc121 => ?_)
    have hs122 : sh s17 (gBIG + 2 * 13) = 10 := con_str hc121 (by decide)
    refine X_callV (ci := 10) (q := (RJ11, TJ11, 4)) (As := [_]) (rest := []) C rfl hs6 q1454 q1357 q1358 q151 q1359 ⟨rfl, nm_J11_append_2⟩ rfl dX7_told_27 (m_J11_append_2 (Cx_l C) hX (d := d - 1) (by omega) s17 (sN st) (gBIG + 2 * 13) hs6 hb7 hs122 h) (by omega) (by decide) (Nat.le_of_ble_eq_true rfl) (fun s124 w125 hE126 hP127 => ?_) (fun s130 E128 q129 hE126 hP127 => ?_)
    rotate_left
    · exact False.elim hP127
    obtain ⟨r123, rfl, hb131, hs132, h⟩ := hP127
    refine X_tls ?_
    have hs_a0 := Ext_sh hE126 hs_a0 (by decide)
    have hs6 := Ext_sh hE126 hs6 (by decide)
    have hs25 := Ext_sh hE126 hs25 (by decide)
    have hs122 := Ext_sh hE126 hs122 (by decide)
    refine X_aload_n C dX7_told_30 rfl 1 rfl (isRV_r _) ?_
    refine X_get (ci := 7) (j := 1) (q := (RX7, TX7, 4)) C rfl (by decide) q1267 rfl dX7_told_31 hs_a0 (v := .int (sI s124 a0 1)) rfl ?_
    refine X_callV (ci := 10) (q := (RJ11, TJ11, 4)) (As := [_]) (rest := []) C rfl hs132 q1452 q1403 q1404 q151 q1405 ⟨rfl, nm_J11_append_3⟩ rfl dX7_told_34 (m_J11_append_3 (Cx_l C) hX (d := d - 1) (by omega) s124 r123 (sI s124 a0 1) hs132 hb131 h) (by omega) (by decide) (Nat.le_of_ble_eq_true rfl) (fun s134 w135 hE136 hP137 => ?_) (fun s140 E138 q139 hE136 hP137 => ?_)
    rotate_left
    · exact False.elim hP137
    obtain ⟨r133, rfl, hb141, hs142, h⟩ := hP137
    refine X_tls ?_
    have hs_a0 := Ext_sh hE136 hs_a0 (by decide)
    have hs6 := Ext_sh hE136 hs6 (by decide)
    have hs25 := Ext_sh hE136 hs25 (by decide)
    have hs122 := Ext_sh hE136 hs122 (by decide)
    have hs132 := Ext_sh hE136 hs132 (by decide)
    refine X_pop C dX7_told_37 rfl ?_
    refine X_sub [1, 0] (lo2 := [(0, _), (1, _)]) rfl ?_
    exact t_X7_told_b38 hX hrec hd hdR C hn s134 a0 (sN st) hs_a0 hb_a0 hs6 hb7 h

def w_X7_told_f : Nat → St → Nat → (St → Nat → Prop) → Prop
  | 0, _, _, _ => False
  | n + 1, st, a0, Φ => w_X7_told (w_X7_told_f n) st a0 Φ
theorem m_X7_told_f {θ : Th} {l : Launch} (hl0 : l.stackTraces = false) (hX : LX θ) : ∀ (n : Nat) {d : Nat}, 8 + 2 * n ≤ d → ∀ (st : St) (a0 : Nat), sh st a0 = 8 → a0 < gBIG → ∀ {Φ : St → Nat → Prop}, w_X7_told_f n st a0 Φ → Ct θ l yX7_told (ws_ yX7_told cX7_told 4 (some (Jvm.ClassFile.FieldType.object "java/lang/String"))) d [.ref (ad θ a0)] st (pN θ 10 Φ, noX) := by
  intro n
  induction n with
  | zero => intro d hd st a0 hs_a0 hb_a0 Φ h; exact h.elim
  | succ n ih =>
    intro d hd st a0 hs_a0 hb_a0 Φ h
    exact m_X7_told hl0 hX (dR := 8 + 2 * n) ih (by omega) (by omega) st a0 hs_a0 hb_a0 h

theorem nm_X1_takes : yX1_takes.cls ≠ "java/lang/invoke/MethodHandle" ∧ yX1_takes.cls ≠ "java/lang/invoke/VarHandle" ∧ (parseMethodDescriptor yX1_takes.desc).map (fun d => d.parameters.length) = some 1 := by decide +kernel
def w_X1_takes_l73 (o : Nat) (p1 : Nat) (Φ : St → Prop) (E106 : St → Int32 → Prop) : Nat → St → Int32 → Int32 → Prop
  | 0, _, _, _ => False
  | n + 1, st, x2, x3 => ((3 ≤ x3) → E106 st x2) ∧ ((¬ 3 ≤ x3) → vp_in x2 3 ∧ vp_in x3 3 ∧ 0 + 3 ≤ 3 ∧ ∀ s35, s35 = cpI st (p1 + (3 + 4 * x2.toNatClampNeg + x3.toNatClampNeg)) 0 (o + (3 + 4 * x2.toNatClampNeg + x3.toNatClampNeg)) 0 3 → w_X1_takes_l73 o p1 Φ E106 n s35 x2 (x3 + 1))
theorem t_X1_takes_l73 {θ : Th} {κ : Kx} {Ph : Ph} {o : Nat} (hH : LH θ o) {p1 : Nat} (hH_p1 : LH θ p1) {d : Nat} (hd : 2 ≤ d) (C : Cx θ κ yX1_takes cX1_takes 4 (none : Option Jvm.ClassFile.FieldType) [] d) {Φ : St → Prop} (hn : ∀ st, Φ st → Ph.1 st none) {E106 : St → Int32 → Prop} (hE106 : ∀ (st : St) (x2 : Int32), E106 st x2 → X θ κ Ph st 106 [(0, .ref (ad θ o)), (1, .ref (ad θ p1)), (2, .int x2)] []) : ∀ (n : Nat) (st : St) (x2 : Int32) (x3 : Int32), w_X1_takes_l73 o p1 Φ E106 n st x2 x3 → X θ κ Ph st 73 [(0, .ref (ad θ o)), (1, .ref (ad θ p1)), (2, .int x2), (3, .int x3)] [] := by
  intro n
  induction n with
  | zero => intro st x2 x3 h; exact h.elim
  | succ n hK73 =>
    intro st x2 x3 h
    rw [w_X1_takes_l73] at h
    refine X_iload_n C dX1_takes_73 rfl 3 rfl ?_
    refine X_iconst (v := 3) C dX1_takes_74 rfl ?_
    refine X_icmp_ge (tgt := 106) C dX1_takes_75 (by decide) (fun c25 => ?_) (fun c25 => ?_)
    · have h := h.1 c25
      refine X_sub [0, 1, 2] (lo2 := [(0, _), (1, _), (2, _)]) rfl ?_
      exact hE106 st x2 h
    · have h := h.2 c25
      refine X_aload_n C dX1_takes_78 rfl 1 rfl (isRV_r _) ?_
      refine X_getF (ci := 1) (j := 5) (q := (RX1, TX1, 10)) C rfl (by decide) q198 rfl dX1_takes_79 (b := (p1 + 1)) (LH_0 hH_p1) (LH_F hH_p1 (k := 0) (j := 5) rfl) rfl ?_
      refine X_iload_n C dX1_takes_82 rfl 2 rfl ?_
      have g26 := h.1
      have h := h.2
      refine X_aaldF C 7 rfl (LH_S hH_p1 (k := 1) rfl) (by decide) rfl (LH_L hH_p1 (k := 1) rfl) g26 rfl (b := (p1 + (2 + 4 * x2.toNatClampNeg))) (LHf_sub hH_p1 (i := x2.toNatClampNeg) (in_lt g26)).2.2 dX1_takes_83 rfl ?_
      refine X_iload_n C dX1_takes_84 rfl 3 rfl ?_
      have g27 := h.1
      have h := h.2
      refine X_aaldF C 6 rfl (LHf_sub hH_p1 (i := x2.toNatClampNeg) (in_lt g26)).1 (by decide) rfl (LHf_sub hH_p1 (i := x2.toNatClampNeg) (in_lt g26)).2.1 g27 rfl (b := (p1 + (3 + 4 * x2.toNatClampNeg + x3.toNatClampNeg))) (LHf_game hH_p1 (i := x2.toNatClampNeg) (j := x3.toNatClampNeg) (in_lt g26) (in_lt g27)).2.2 dX1_takes_85 rfl ?_
      refine X_iconst (v := 0) C dX1_takes_86 rfl ?_
      refine X_aload_n C dX1_takes_87 rfl 0 rfl (isRV_r _) ?_
      refine X_getF (ci := 1) (j := 5) (q := (RX1, TX1, 10)) C rfl (by decide) q198 rfl dX1_takes_88 (b := (o + 1)) (LH_0 hH) (LH_F hH (k := 0) (j := 5) rfl) rfl ?_
      refine X_iload_n C dX1_takes_91 rfl 2 rfl ?_
      refine X_aaldF C 7 rfl (LH_S hH (k := 1) rfl) (by decide) rfl (LH_L hH (k := 1) rfl) g26 rfl (b := (o + (2 + 4 * x2.toNatClampNeg))) (LHf_sub hH (i := x2.toNatClampNeg) (in_lt g26)).2.2 dX1_takes_92 rfl ?_
      refine X_iload_n C dX1_takes_93 rfl 3 rfl ?_
      refine X_aaldF C 6 rfl (LHf_sub hH (i := x2.toNatClampNeg) (in_lt g26)).1 (by decide) rfl (LHf_sub hH (i := x2.toNatClampNeg) (in_lt g26)).2.1 g27 rfl (b := (o + (3 + 4 * x2.toNatClampNeg + x3.toNatClampNeg))) (LHf_game hH (i := x2.toNatClampNeg) (j := x3.toNatClampNeg) (in_lt g26) (in_lt g27)).2.2 dX1_takes_94 rfl ?_
      refine X_iconst (v := 0) C dX1_takes_95 rfl ?_
      refine X_iconst (v := 3) C dX1_takes_96 rfl ?_
      refine X_shl (LHf_game hH_p1 (i := x2.toNatClampNeg) (j := x3.toNatClampNeg) (in_lt g26) (in_lt g27)).1 (by decide) (LHf_game hH_p1 (i := x2.toNatClampNeg) (j := x3.toNatClampNeg) (in_lt g26) (in_lt g27)).2.1 (fun hs28 hl30 hb29 => ?_)
      refine X_shl (LHf_game hH (i := x2.toNatClampNeg) (j := x3.toNatClampNeg) (in_lt g26) (in_lt g27)).1 (by decide) (LHf_game hH (i := x2.toNatClampNeg) (j := x3.toNatClampNeg) (in_lt g26) (in_lt g27)).2.1 (fun hs31 hl33 hb32 => ?_)
      have g34 := h.1
      have h := h.2
      refine X_copy (t := 101) C 0 rfl (by decide) rfl (fun _ _ _ => rfl) hb32 hs28 hl30 hs31 hl33 (by decide) (by decide) (by decide) g34 g34 (fun _ _ => rfl) q943 q945 q944 q149 (Nat.le_of_ble_eq_true rfl) dX1_takes_97 ?_
      refine X_nm (fun s35 e36 => ?_)
      have h := h s35 e36
      have hs28 : sh s35 (p1 + (3 + 4 * x2.toNatClampNeg + x3.toNatClampNeg)) = 101 := by rw [e36]; exact hs28
      have hl30 : ln s35 (p1 + (3 + 4 * x2.toNatClampNeg + x3.toNatClampNeg)) = 3 := by rw [e36]; exact hl30
      have hs31 : sh s35 (o + (3 + 4 * x2.toNatClampNeg + x3.toNatClampNeg)) = 101 := by rw [e36]; exact hs31
      have hl33 : ln s35 (o + (3 + 4 * x2.toNatClampNeg + x3.toNatClampNeg)) = 3 := by rw [e36]; exact hl33
      refine X_iinc (v := (x3 + 1)) C (j := 3) dX1_takes_100 rfl rfl (lo2 := [(3, _), (0, _), (1, _), (2, _)]) (by decide) rfl ?_
      refine X_goto (tgt := 73) C dX1_takes_103 (by decide) ?_
      refine X_sub [1, 2, 3, 0] (lo2 := [(0, _), (1, _), (2, _), (3, _)]) rfl ?_
      exact hK73 s35 x2 (x3 + 1) h
def w_X1_takes_b106 (o : Nat) (p1 : Nat) (Φ : St → Prop) (K54 : St → Int32 → Prop) (st : St) (x2 : Int32) : Prop := K54 st (x2 + 1)
theorem t_X1_takes_b106 {θ : Th} {κ : Kx} {Ph : Ph} {o : Nat} (hH : LH θ o) {p1 : Nat} (hH_p1 : LH θ p1) {d : Nat} (hd : 2 ≤ d) (C : Cx θ κ yX1_takes cX1_takes 4 (none : Option Jvm.ClassFile.FieldType) [] d) {Φ : St → Prop} (hn : ∀ st, Φ st → Ph.1 st none) {K54 : St → Int32 → Prop} (hK54 : ∀ (st : St) (x2 : Int32), K54 st x2 → X θ κ Ph st 54 [(0, .ref (ad θ o)), (1, .ref (ad θ p1)), (2, .int x2)] []) (st : St) (x2 : Int32) (h : w_X1_takes_b106 o p1 Φ K54 st x2) : X θ κ Ph st 106 [(0, .ref (ad θ o)), (1, .ref (ad θ p1)), (2, .int x2)] [] := by
  unfold w_X1_takes_b106 at h
  refine X_iinc (v := (x2 + 1)) C (j := 2) dX1_takes_106 rfl rfl (lo2 := [(2, _), (0, _), (1, _)]) (by decide) rfl ?_
  refine X_goto (tgt := 54) C dX1_takes_109 (by decide) ?_
  refine X_sub [1, 2, 0] (lo2 := [(0, _), (1, _), (2, _)]) rfl ?_
  exact hK54 st (x2 + 1) h
def w_X1_takes_l54 (o : Nat) (p1 : Nat) (Φ : St → Prop) (E112 : St → Prop) : Nat → St → Int32 → Prop
  | 0, _, _ => False
  | n + 1, st, x2 => ((3 ≤ x2) → E112 st) ∧ ((¬ 3 ≤ x2) → vp_in x2 3 ∧ ∀ s23, s23 = putI st (o + 14) (x2.toNatClampNeg) (sI st (p1 + 14) x2.toNatClampNeg) → w_X1_takes_l73 o p1 Φ (fun (s37 : St) (x2 : Int32) => w_X1_takes_b106 o p1 Φ (w_X1_takes_l54 o p1 Φ E112 n) s37 x2) gFU s23 x2 0)
theorem t_X1_takes_l54 {θ : Th} {κ : Kx} {Ph : Ph} {o : Nat} (hH : LH θ o) {p1 : Nat} (hH_p1 : LH θ p1) {d : Nat} (hd : 2 ≤ d) (C : Cx θ κ yX1_takes cX1_takes 4 (none : Option Jvm.ClassFile.FieldType) [] d) {Φ : St → Prop} (hn : ∀ st, Φ st → Ph.1 st none) {E112 : St → Prop} (hE112 : ∀ (st : St), E112 st → X θ κ Ph st 112 [] []) : ∀ (n : Nat) (st : St) (x2 : Int32), w_X1_takes_l54 o p1 Φ E112 n st x2 → X θ κ Ph st 54 [(0, .ref (ad θ o)), (1, .ref (ad θ p1)), (2, .int x2)] [] := by
  intro n
  induction n with
  | zero => intro st x2 h; exact h.elim
  | succ n hK54 =>
    intro st x2 h
    rw [w_X1_takes_l54] at h
    refine X_iload_n C dX1_takes_54 rfl 2 rfl ?_
    refine X_iconst (v := 3) C dX1_takes_55 rfl ?_
    refine X_icmp_ge (tgt := 112) C dX1_takes_56 (by decide) (fun c21 => ?_) (fun c21 => ?_)
    · have h := h.1 c21
      refine X_sub [] (lo2 := []) rfl ?_
      exact hE112 st h
    · have h := h.2 c21
      refine X_aload_n C dX1_takes_59 rfl 0 rfl (isRV_r _) ?_
      refine X_getF (ci := 1) (j := 6) (q := (RX1, TX1, 10)) C rfl (by decide) q200 rfl dX1_takes_60 (b := (o + 14)) (LH_0 hH) (LH_F hH (k := 0) (j := 6) rfl) rfl ?_
      refine X_iload_n C dX1_takes_63 rfl 2 rfl ?_
      refine X_aload_n C dX1_takes_64 rfl 1 rfl (isRV_r _) ?_
      refine X_getF (ci := 1) (j := 6) (q := (RX1, TX1, 10)) C rfl (by decide) q200 rfl dX1_takes_65 (b := (p1 + 14)) (LH_0 hH_p1) (LH_F hH_p1 (k := 0) (j := 6) rfl) rfl ?_
      refine X_iload_n C dX1_takes_68 rfl 2 rfl ?_
      have g22 := h.1
      have h := h.2
      refine X_ialdS C (LH_S hH_p1 (k := 14) rfl) (LH_L hH_p1 (k := 14) rfl) g22 rfl dX1_takes_69 ?_
      refine X_iastS C (LH_S hH (k := 14) rfl) (LH_L hH (k := 14) rfl) g22 rfl dX1_takes_70 ?_
      refine X_nm (fun s23 e24 => ?_)
      have h := h s23 e24
      refine X_iconst (v := 0) C dX1_takes_71 rfl ?_
      refine X_istore_n C dX1_takes_72 rfl (lo2 := [(3, _), (0, _), (1, _), (2, _)]) (by decide) rfl ?_
      refine X_sub [1, 2, 3, 0] (lo2 := [(0, _), (1, _), (2, _), (3, _)]) rfl ?_
      refine t_X1_takes_l73 hH hH_p1 hd C hn ?_ gFU s23 x2 0 h
      · intro s37 x2 h
        exact t_X1_takes_b106 hH hH_p1 hd C hn hK54 s37 x2 h
def w_X1_takes_b112 (o : Nat) (p1 : Nat) (Φ : St → Prop) (st : St) : Prop := Φ st
theorem t_X1_takes_b112 {θ : Th} {κ : Kx} {Ph : Ph} {o : Nat} (hH : LH θ o) {p1 : Nat} (hH_p1 : LH θ p1) {d : Nat} (hd : 2 ≤ d) (C : Cx θ κ yX1_takes cX1_takes 4 (none : Option Jvm.ClassFile.FieldType) [] d) {Φ : St → Prop} (hn : ∀ st, Φ st → Ph.1 st none) (st : St) (h : w_X1_takes_b112 o p1 Φ st) : X θ κ Ph st 112 [] [] := by
  unfold w_X1_takes_b112 at h
  exact X_vret C rfl dX1_takes_112 (hn st h)
def w_X1_takes (o : Nat) (p1 : Nat) (st : St) (Φ : St → Prop) : Prop := ∀ s1, s1 = putI st o 0 (sI st p1 0) → ∀ s3, s3 = putI s1 o 1 (sI s1 p1 1) → w_X1_laysPoints o s3 (fun (s6 : St) => ∀ s13, s13 = putI s6 o 2 (sI s6 p1 2) → ∀ s15, s15 = putI s13 o 3 (sI s13 p1 3) → ∀ s17, s17 = putI s15 o 4 (sI s15 p1 4) → ∀ s19, s19 = putR s17 o 7 (sR s17 p1 7) → w_X1_takes_l54 o p1 Φ (fun (s38 : St) => w_X1_takes_b112 o p1 Φ s38) gFU s19 0)
theorem e_X1_takes : plainFor yX1_takes = true := plainFor_of_name (by decide +kernel)
theorem m_X1_takes {θ : Th} {l : Launch} (hl0 : l.stackTraces = false) {o : Nat} (hH : LH θ o) {p1 : Nat} (hH_p1 : LH θ p1) {d : Nat} (hd : 2 ≤ d) (st : St) {Φ : St → Prop} (h : w_X1_takes o p1 st Φ) : Ct θ l yX1_takes (ws_ yX1_takes cX1_takes 4 (none : Option Jvm.ClassFile.FieldType)) d [.ref (ad θ o), .ref (ad θ p1)] st (pV Φ, noX) := by
  refine Ct_entry hl0 e_X1_takes (Nat.le_of_ble_eq_true rfl) (fun κ hκ _ C => ?_)
  have hn : ∀ st, Φ st → ((pV Φ, noX) : Ph).1 st none := fun st q => ⟨rfl, q⟩
  change X _ _ _ _ _ [(0, .ref (ad θ o)), (1, .ref (ad θ p1))] _
  unfold w_X1_takes at h
  refine X_aload_n C dX1_takes_0 rfl 0 rfl (isRV_r _) ?_
  refine X_aload_n C dX1_takes_1 rfl 1 rfl (isRV_r _) ?_
  refine X_getS (ci := 1) (j := 0) (q := (RX1, TX1, 10)) C rfl (by decide) q188 rfl dX1_takes_2 (LH_0 hH_p1) (v := .int (sI st p1 0)) rfl ?_
  refine X_putSI (ci := 1) (j := 0) (q := (RX1, TX1, 10)) C rfl (by decide) q188 rfl rfl dX1_takes_5 (LH_0 hH) rfl rfl rfl ?_
  refine X_nm (fun s1 e2 => ?_)
  have h := h s1 e2
  refine X_aload_n C dX1_takes_8 rfl 0 rfl (isRV_r _) ?_
  refine X_aload_n C dX1_takes_9 rfl 1 rfl (isRV_r _) ?_
  refine X_getS (ci := 1) (j := 1) (q := (RX1, TX1, 10)) C rfl (by decide) q190 rfl dX1_takes_10 (LH_0 hH_p1) (v := .int (sI s1 p1 1)) rfl ?_
  refine X_putSI (ci := 1) (j := 1) (q := (RX1, TX1, 10)) C rfl (by decide) q190 rfl rfl dX1_takes_13 (LH_0 hH) rfl rfl rfl ?_
  refine X_nm (fun s3 e4 => ?_)
  have h := h s3 e4
  refine X_aload_n C dX1_takes_16 rfl 0 rfl (isRV_r _) ?_
  refine X_callVS (ci := 1) (q := (RX1, TX1, 10)) (As := []) (rest := []) C rfl (LH_0 hH) q180 q182 qs0 q133 q183 ⟨rfl, nm_X1_laysPoints⟩ rfl dX1_takes_17 (m_X1_laysPoints (Cx_l C) hH (d := d - 1) (by omega) s3 h) (by omega) (by decide) (Nat.le_of_ble_eq_true rfl) (fun s6 w7 hE8 hP9 => ?_) (fun s12 E10 q11 hE8 hP9 => ?_)
  rotate_left
  · exact False.elim hP9
  obtain ⟨rfl, h⟩ := hP9
  refine X_tln ?_
  refine X_aload_n C dX1_takes_20 rfl 0 rfl (isRV_r _) ?_
  refine X_aload_n C dX1_takes_21 rfl 1 rfl (isRV_r _) ?_
  refine X_getS (ci := 1) (j := 2) (q := (RX1, TX1, 10)) C rfl (by decide) q192 rfl dX1_takes_22 (LH_0 hH_p1) (v := .int (sI s6 p1 2)) rfl ?_
  refine X_putSI (ci := 1) (j := 2) (q := (RX1, TX1, 10)) C rfl (by decide) q192 rfl rfl dX1_takes_25 (LH_0 hH) rfl rfl rfl ?_
  refine X_nm (fun s13 e14 => ?_)
  have h := h s13 e14
  refine X_aload_n C dX1_takes_28 rfl 0 rfl (isRV_r _) ?_
  refine X_aload_n C dX1_takes_29 rfl 1 rfl (isRV_r _) ?_
  refine X_getS (ci := 1) (j := 3) (q := (RX1, TX1, 10)) C rfl (by decide) q194 rfl dX1_takes_30 (LH_0 hH_p1) (v := .int (sI s13 p1 3)) rfl ?_
  refine X_putSI (ci := 1) (j := 3) (q := (RX1, TX1, 10)) C rfl (by decide) q194 rfl rfl dX1_takes_33 (LH_0 hH) rfl rfl rfl ?_
  refine X_nm (fun s15 e16 => ?_)
  have h := h s15 e16
  refine X_aload_n C dX1_takes_36 rfl 0 rfl (isRV_r _) ?_
  refine X_aload_n C dX1_takes_37 rfl 1 rfl (isRV_r _) ?_
  refine X_getS (ci := 1) (j := 4) (q := (RX1, TX1, 10)) C rfl (by decide) q196 rfl dX1_takes_38 (LH_0 hH_p1) (v := .int (sI s15 p1 4)) rfl ?_
  refine X_putSI (ci := 1) (j := 4) (q := (RX1, TX1, 10)) C rfl (by decide) q196 rfl rfl dX1_takes_41 (LH_0 hH) rfl rfl rfl ?_
  refine X_nm (fun s17 e18 => ?_)
  have h := h s17 e18
  refine X_aload_n C dX1_takes_44 rfl 0 rfl (isRV_r _) ?_
  refine X_aload_n C dX1_takes_45 rfl 1 rfl (isRV_r _) ?_
  refine X_getS (ci := 1) (j := 7) (q := (RX1, TX1, 10)) C rfl (by decide) q202 rfl dX1_takes_46 (LH_0 hH_p1) (v := rv θ (sR s17 p1 7)) rfl ?_
  refine X_putSR (v := (sR s17 p1 7)) (ci := 1) (j := 7) (q := (RX1, TX1, 10)) C rfl (by decide) q202 rfl rfl dX1_takes_49 (LH_0 hH) (sv_R (Or.inl ⟨_, rfl⟩) _ _) (LH_N hH (k := 0) (j := 7) rfl) (nr_ref (Or.inl ⟨_, rfl⟩)).1 (nr_ref (Or.inl ⟨_, rfl⟩)).2 ?_
  refine X_nm (fun s19 e20 => ?_)
  have h := h s19 e20
  refine X_iconst (v := 0) C dX1_takes_52 rfl ?_
  refine X_istore_n C dX1_takes_53 rfl (lo2 := [(2, _), (0, _), (1, _)]) (by decide) rfl ?_
  refine X_sub [1, 2, 0] (lo2 := [(0, _), (1, _), (2, _)]) rfl ?_
  refine t_X1_takes_l54 hH hH_p1 hd C hn ?_ gFU s19 0 h
  · intro s38 h
    exact t_X1_takes_b112 hH hH_p1 hd C hn s38 h
