set_option maxRecDepth 100000
def w_X4_less (st : St) (p1 : Int64) (p2 : Int64) (p3 : Int64) (p4 : Int64) (Φ : St → Prop) : Prop := w_X4_product st p1 p4 (fun (s2 : St) (r1 : Int64) => w_X4_product s2 p3 p2 (fun (s10 : St) (r9 : Int64) => w_X4_difference s10 r1 r9 (fun (s18 : St) (r17 : Int64) => w_X4_product s18 p2 p4 (fun (s26 : St) (r25 : Int64) => w_X4_lowest s26 r17 r25 (fun (s34 : St) => Φ s34)))))
theorem nm_X4_less : yX4_less.cls ≠ "java/lang/invoke/MethodHandle" ∧ yX4_less.cls ≠ "java/lang/invoke/VarHandle" ∧ (parseMethodDescriptor yX4_less.desc).map (fun d => d.parameters.length) = some 4 := by decide +kernel
theorem e_X4_less : plainFor yX4_less = true := plainFor_of_name (by decide +kernel)
theorem m_X4_less {θ : Th} {l : Launch} (hl0 : l.stackTraces = false) (hX : LX θ) {d : Nat} (hd : 2 ≤ d) (st : St) (p1 : Int64) (p2 : Int64) (p3 : Int64) (p4 : Int64) {Φ : St → Prop} (h : w_X4_less st p1 p2 p3 p4 Φ) : Ct θ l yX4_less (ws_ yX4_less cX4_less 11 (none : Option Jvm.ClassFile.FieldType)) d [.ref (ad θ 175), .long p1, .long p2, .long p3, .long p4] st (pV Φ, noX) := by
  refine Ct_entry hl0 e_X4_less (Nat.le_of_ble_eq_true rfl) (fun κ hκ _ C => ?_)
  have hn : ∀ st, Φ st → ((pV Φ, noX) : Ph).1 st none := fun st q => ⟨rfl, q⟩
  change X _ _ _ _ _ [(0, .ref (ad θ 175)), (1, .long p1), (3, .long p2), (5, .long p3), (7, .long p4)] _
  unfold w_X4_less at h
  refine X_aload_n C dX4_less_0 rfl 0 rfl (isRV_r _) ?_
  refine X_aload_n C dX4_less_1 rfl 0 rfl (isRV_r _) ?_
  refine X_lload_n C dX4_less_2 rfl 1 rfl ?_
  refine X_lload C dX4_less_3 4 rfl ?_
  refine X_callVS (ci := 4) (q := (RX4, TX4, 54)) (As := [_, _]) (rest := [_]) C rfl (LX_S hX (k := 175) rfl) q2092 q2094 qs84 q136 q2095 ⟨rfl, nm_X4_product⟩ rfl dX4_less_5 (m_X4_product (Cx_l C) hX (d := d - 1) (by omega) st p1 p4 h) (by omega) (by decide) (Nat.le_of_ble_eq_true rfl) (fun s2 w3 hE4 hP5 => ?_) (fun s8 E6 q7 hE4 hP5 => ?_)
  rotate_left
  · exact False.elim hP5
  obtain ⟨r1, rfl, h⟩ := hP5
  refine X_tls ?_
  refine X_aload_n C dX4_less_8 rfl 0 rfl (isRV_r _) ?_
  refine X_lload C dX4_less_9 3 rfl ?_
  refine X_lload_n C dX4_less_11 rfl 2 rfl ?_
  refine X_callVS (ci := 4) (q := (RX4, TX4, 54)) (As := [_, _]) (rest := [_, _]) C rfl (LX_S hX (k := 175) rfl) q2092 q2094 qs84 q136 q2095 ⟨rfl, nm_X4_product⟩ rfl dX4_less_12 (m_X4_product (Cx_l C) hX (d := d - 1) (by omega) s2 p3 p2 h) (by omega) (by decide) (Nat.le_of_ble_eq_true rfl) (fun s10 w11 hE12 hP13 => ?_) (fun s16 E14 q15 hE12 hP13 => ?_)
  rotate_left
  · exact False.elim hP13
  obtain ⟨r9, rfl, h⟩ := hP13
  refine X_tls ?_
  refine X_callVS (ci := 4) (q := (RX4, TX4, 54)) (As := [_, _]) (rest := []) C rfl (LX_S hX (k := 175) rfl) q2100 q2102 qs85 q136 q2103 ⟨rfl, nm_X4_difference⟩ rfl dX4_less_15 (m_X4_difference (Cx_l C) hX (d := d - 1) (by omega) s10 r1 r9 h) (by omega) (by decide) (Nat.le_of_ble_eq_true rfl) (fun s18 w19 hE20 hP21 => ?_) (fun s24 E22 q23 hE20 hP21 => ?_)
  rotate_left
  · exact False.elim hP21
  obtain ⟨r17, rfl, h⟩ := hP21
  refine X_tls ?_
  refine X_lstore C dX4_less_18 (lo2 := [(9, _), (0, _), (1, _), (3, _), (5, _), (7, _)]) (by decide) rfl ?_
  refine X_aload_n C dX4_less_20 rfl 1 rfl (isRV_r _) ?_
  refine X_lload C dX4_less_21 0 rfl ?_
  refine X_aload_n C dX4_less_23 rfl 1 rfl (isRV_r _) ?_
  refine X_lload_n C dX4_less_24 rfl 3 rfl ?_
  refine X_lload C dX4_less_25 5 rfl ?_
  refine X_callVS (ci := 4) (q := (RX4, TX4, 54)) (As := [_, _]) (rest := [_, _]) C rfl (LX_S hX (k := 175) rfl) q2092 q2094 qs84 q136 q2095 ⟨rfl, nm_X4_product⟩ rfl dX4_less_27 (m_X4_product (Cx_l C) hX (d := d - 1) (by omega) s18 p2 p4 h) (by omega) (by decide) (Nat.le_of_ble_eq_true rfl) (fun s26 w27 hE28 hP29 => ?_) (fun s32 E30 q31 hE28 hP29 => ?_)
  rotate_left
  · exact False.elim hP29
  obtain ⟨r25, rfl, h⟩ := hP29
  refine X_tls ?_
  refine X_callVS (ci := 4) (q := (RX4, TX4, 54)) (As := [_, _]) (rest := []) C rfl (LX_S hX (k := 175) rfl) q2081 q2083 qs82 q136 q2084 ⟨rfl, nm_X4_lowest⟩ rfl dX4_less_30 (m_X4_lowest (Cx_l C) hX (d := d - 1) (by omega) s26 r17 r25 h) (by omega) (by decide) (Nat.le_of_ble_eq_true rfl) (fun s34 w35 hE36 hP37 => ?_) (fun s40 E38 q39 hE36 hP37 => ?_)
  rotate_left
  · exact False.elim hP37
  obtain ⟨rfl, h⟩ := hP37
  refine X_tln ?_
  exact X_vret C rfl dX4_less_33 (hn s34 h)

def w_X4_tries_l122 (Φ : St → Prop) (E162 : St → Prop) : Nat → St → Int32 → Prop
  | 0, _, _ => False
  | n + 1, st, x6 => ((3 ≤ x6) → E162 st) ∧ ((¬ 3 ≤ x6) → vp_in x6 3 ∧ ∀ s45, s45 = putI st 199 (x6.toNatClampNeg) (sI st 197 x6.toNatClampNeg) → ∀ s47, s47 = putL s45 200 (x6.toNatClampNeg) (sL s45 198 x6.toNatClampNeg) → w_X4_tries_l122 Φ E162 n s47 (x6 + 1))
theorem t_X4_tries_l122 {θ : Th} {κ : Kx} {Ph : Ph} (hX : LX θ) {d : Nat} (hd : 8 ≤ d) (C : Cx θ κ yX4_tries cX4_tries 7 (none : Option Jvm.ClassFile.FieldType) [] d) {Φ : St → Prop} (hn : ∀ st, Φ st → Ph.1 st none) {E162 : St → Prop} (hE162 : ∀ (st : St), E162 st → X θ κ Ph st 162 [] []) : ∀ (n : Nat) (st : St) (x6 : Int32), w_X4_tries_l122 Φ E162 n st x6 → X θ κ Ph st 122 [(0, .ref (ad θ 175)), (6, .int x6)] [] := by
  intro n
  induction n with
  | zero => intro st x6 h; exact h.elim
  | succ n hK122 =>
    intro st x6 h
    rw [w_X4_tries_l122] at h
    refine X_iload C dX4_tries_122 1 rfl ?_
    refine X_iconst (v := 3) C dX4_tries_124 rfl ?_
    refine X_icmp_ge (tgt := 162) C dX4_tries_125 (by decide) (fun c43 => ?_) (fun c43 => ?_)
    · have h := h.1 c43
      refine X_sub [] (lo2 := []) rfl ?_
      exact hE162 st h
    · have h := h.2 c43
      refine X_aload_n C dX4_tries_128 rfl 0 rfl (isRV_r _) ?_
      refine X_getF (ci := 4) (j := 39) (q := (RX4, TX4, 54)) C rfl (by decide) q1805 rfl dX4_tries_129 (b := 199) (LX_S hX (k := 175) rfl) (LX_F hX (k := 175) (j := 39) rfl) rfl ?_
      refine X_iload C dX4_tries_132 1 rfl ?_
      refine X_aload_n C dX4_tries_134 rfl 0 rfl (isRV_r _) ?_
      refine X_getF (ci := 4) (j := 35) (q := (RX4, TX4, 54)) C rfl (by decide) q1801 rfl dX4_tries_135 (b := 197) (LX_S hX (k := 175) rfl) (LX_F hX (k := 175) (j := 35) rfl) rfl ?_
      refine X_iload C dX4_tries_138 1 rfl ?_
      have g44 := h.1
      have h := h.2
      refine X_ialdS C (LX_S hX (k := 197) rfl) (LX_L hX (k := 197) rfl) g44 rfl dX4_tries_140 ?_
      refine X_iastS C (LX_S hX (k := 199) rfl) (LX_L hX (k := 199) rfl) g44 rfl dX4_tries_141 ?_
      refine X_nm (fun s45 e46 => ?_)
      have h := h s45 e46
      refine X_aload_n C dX4_tries_142 rfl 0 rfl (isRV_r _) ?_
      refine X_getF (ci := 4) (j := 40) (q := (RX4, TX4, 54)) C rfl (by decide) q1806 rfl dX4_tries_143 (b := 200) (LX_S hX (k := 175) rfl) (LX_F hX (k := 175) (j := 40) rfl) rfl ?_
      refine X_iload C dX4_tries_146 1 rfl ?_
      refine X_aload_n C dX4_tries_148 rfl 0 rfl (isRV_r _) ?_
      refine X_getF (ci := 4) (j := 37) (q := (RX4, TX4, 54)) C rfl (by decide) q1803 rfl dX4_tries_149 (b := 198) (LX_S hX (k := 175) rfl) (LX_F hX (k := 175) (j := 37) rfl) rfl ?_
      refine X_iload C dX4_tries_152 1 rfl ?_
      refine X_laldS C (LX_S hX (k := 198) rfl) (LX_L hX (k := 198) rfl) g44 rfl dX4_tries_154 ?_
      refine X_lastS C (LX_S hX (k := 200) rfl) (LX_L hX (k := 200) rfl) g44 rfl dX4_tries_155 ?_
      refine X_nm (fun s47 e48 => ?_)
      have h := h s47 e48
      refine X_iinc (v := (x6 + 1)) C (j := 1) dX4_tries_156 rfl rfl (lo2 := [(6, _), (0, _)]) (by decide) rfl ?_
      refine X_goto (tgt := 122) C dX4_tries_159 (by decide) ?_
      refine X_sub [1, 0] (lo2 := [(0, _), (6, _)]) rfl ?_
      exact hK122 s47 (x6 + 1) h
def w_X4_tries_b162 (Φ : St → Prop) (st : St) : Prop := Φ st
theorem t_X4_tries_b162 {θ : Th} {κ : Kx} {Ph : Ph} (hX : LX θ) {d : Nat} (hd : 8 ≤ d) (C : Cx θ κ yX4_tries cX4_tries 7 (none : Option Jvm.ClassFile.FieldType) [] d) {Φ : St → Prop} (hn : ∀ st, Φ st → Ph.1 st none) (st : St) (h : w_X4_tries_b162 Φ st) : X θ κ Ph st 162 [] [] := by
  unfold w_X4_tries_b162 at h
  exact X_vret C rfl dX4_tries_162 (hn st h)
def w_X4_tries_b92 (Φ : St → Prop) (st : St) (x2 : Int64) (x4 : Int64) : Prop := ∀ s35, s35 = putL st 175 43 x2 → ∀ s37, s37 = putL s35 175 44 x4 → ∀ s39, s39 = putI s37 175 41 (sI s37 175 36) → ∀ s41, s41 = putL s39 175 42 (sL s39 175 38) → w_X4_tries_l122 Φ (fun (s49 : St) => w_X4_tries_b162 Φ s49) gFU s41 0
theorem t_X4_tries_b92 {θ : Th} {κ : Kx} {Ph : Ph} (hX : LX θ) {d : Nat} (hd : 8 ≤ d) (C : Cx θ κ yX4_tries cX4_tries 7 (none : Option Jvm.ClassFile.FieldType) [] d) {Φ : St → Prop} (hn : ∀ st, Φ st → Ph.1 st none) (st : St) (x2 : Int64) (x4 : Int64) (h : w_X4_tries_b92 Φ st x2 x4) : X θ κ Ph st 92 [(0, .ref (ad θ 175)), (2, .long x2), (4, .long x4)] [] := by
  unfold w_X4_tries_b92 at h
  refine X_aload_n C dX4_tries_92 rfl 0 rfl (isRV_r _) ?_
  refine X_lload_n C dX4_tries_93 rfl 1 rfl ?_
  refine X_putSL (ci := 4) (j := 43) (q := (RX4, TX4, 54)) C rfl (by decide) q1809 rfl rfl dX4_tries_94 (LX_S hX (k := 175) rfl) rfl ?_
  refine X_nm (fun s35 e36 => ?_)
  have h := h s35 e36
  refine X_aload_n C dX4_tries_97 rfl 0 rfl (isRV_r _) ?_
  refine X_lload C dX4_tries_98 2 rfl ?_
  refine X_putSL (ci := 4) (j := 44) (q := (RX4, TX4, 54)) C rfl (by decide) q1810 rfl rfl dX4_tries_100 (LX_S hX (k := 175) rfl) rfl ?_
  refine X_nm (fun s37 e38 => ?_)
  have h := h s37 e38
  refine X_aload_n C dX4_tries_103 rfl 0 rfl (isRV_r _) ?_
  refine X_aload_n C dX4_tries_104 rfl 0 rfl (isRV_r _) ?_
  refine X_getS (ci := 4) (j := 36) (q := (RX4, TX4, 54)) C rfl (by decide) q1802 rfl dX4_tries_105 (LX_S hX (k := 175) rfl) (v := .int (sI s37 175 36)) rfl ?_
  refine X_putSI (ci := 4) (j := 41) (q := (RX4, TX4, 54)) C rfl (by decide) q1807 rfl rfl dX4_tries_108 (LX_S hX (k := 175) rfl) rfl rfl rfl ?_
  refine X_nm (fun s39 e40 => ?_)
  have h := h s39 e40
  refine X_aload_n C dX4_tries_111 rfl 0 rfl (isRV_r _) ?_
  refine X_aload_n C dX4_tries_112 rfl 0 rfl (isRV_r _) ?_
  refine X_getS (ci := 4) (j := 38) (q := (RX4, TX4, 54)) C rfl (by decide) q1804 rfl dX4_tries_113 (LX_S hX (k := 175) rfl) (v := .long (sL s39 175 38)) rfl ?_
  refine X_putSL (ci := 4) (j := 42) (q := (RX4, TX4, 54)) C rfl (by decide) q1808 rfl rfl dX4_tries_116 (LX_S hX (k := 175) rfl) rfl ?_
  refine X_nm (fun s41 e42 => ?_)
  have h := h s41 e42
  refine X_iconst (v := 0) C dX4_tries_119 rfl ?_
  refine X_istore C dX4_tries_120 (lo2 := [(6, _), (0, _), (2, _), (4, _)]) (by decide) rfl ?_
  refine X_sub [1, 0] (lo2 := [(0, _), (6, _)]) rfl ?_
  refine t_X4_tries_l122 hX hd C hn ?_ gFU s41 0 h
  · intro s49 h
    exact t_X4_tries_b162 hX hd C hn s49 h
def w_X4_tries_b68 (Φ : St → Prop) (st : St) (x2 : Int64) (x4 : Int64) : Prop := (((sI st 175 20) ≠ 0) → Φ st) ∧ (((sI st 175 20) = 0) → (((sI st 175 41) ≤ 0) → w_X4_tries_b92 Φ st x2 x4) ∧ ((¬ (sI st 175 41) ≤ 0) → ((0 < (sL st 175 18)) → w_X4_tries_b92 Φ st x2 x4) ∧ ((¬ 0 < (sL st 175 18)) → Φ st)))
theorem t_X4_tries_b68 {θ : Th} {κ : Kx} {Ph : Ph} (hX : LX θ) {d : Nat} (hd : 8 ≤ d) (C : Cx θ κ yX4_tries cX4_tries 7 (none : Option Jvm.ClassFile.FieldType) [] d) {Φ : St → Prop} (hn : ∀ st, Φ st → Ph.1 st none) (st : St) (x2 : Int64) (x4 : Int64) (h : w_X4_tries_b68 Φ st x2 x4) : X θ κ Ph st 68 [(0, .ref (ad θ 175)), (2, .long x2), (4, .long x4)] [] := by
  unfold w_X4_tries_b68 at h
  refine X_aload_n C dX4_tries_68 rfl 0 rfl (isRV_r _) ?_
  refine X_getS (ci := 4) (j := 20) (q := (RX4, TX4, 54)) C rfl (by decide) q1786 rfl dX4_tries_69 (LX_S hX (k := 175) rfl) (v := .int (sI st 175 20)) rfl ?_
  refine X_if_ne (tgt := 91) C dX4_tries_72 (by decide) (fun c33 => ?_) (fun c33 => ?_)
  · have h := h.1 c33
    exact X_vret C rfl dX4_tries_91 (hn st h)
  · have h := h.2 c33
    refine X_aload_n C dX4_tries_75 rfl 0 rfl (isRV_r _) ?_
    refine X_getS (ci := 4) (j := 41) (q := (RX4, TX4, 54)) C rfl (by decide) q1807 rfl dX4_tries_76 (LX_S hX (k := 175) rfl) (v := .int (sI st 175 41)) rfl ?_
    refine X_if_le (tgt := 92) C dX4_tries_79 (by decide) (fun c34 => ?_) (fun c34 => ?_)
    · have h := h.1 c34
      exact t_X4_tries_b92 hX hd C hn st x2 x4 h
    · have h := h.2 c34
      refine X_aload_n C dX4_tries_82 rfl 0 rfl (isRV_r _) ?_
      refine X_getS (ci := 4) (j := 18) (q := (RX4, TX4, 54)) C rfl (by decide) q1784 rfl dX4_tries_83 (LX_S hX (k := 175) rfl) (v := .long (sL st 175 18)) rfl ?_
      refine X_lconst (v := 0) C dX4_tries_86 rfl ?_
      refine X_lcmp_gt (tgt := 92) C dX4_tries_87 dX4_tries_88 (by decide) (fun c50 => ?_) (fun c50 => ?_)
      · have h := h.1 c50
        exact t_X4_tries_b92 hX hd C hn st x2 x4 h
      · have h := h.2 c50
        exact X_vret C rfl dX4_tries_91 (hn st h)
def w_X4_tries (st : St) (p1 : Int32) (Φ : St → Prop) : Prop := (((sI st 175 20) ≠ 0) → Φ st) ∧ (((sI st 175 20) = 0) → w_X4_weighs st p1 (fun (s3 : St) (r2 : Int32) => ((r2 = 0) → Φ s3) ∧ ((¬ r2 = 0) → w_X4_areAbove s3 1 (fun (r11 : Int32) => ((r11 ≠ 0) → w_X4_mixes s3 (fun (s21 : St) => ∀ v28 : Int64, v28 = (sL s21 175 18) → ∀ v30 : Int64, v30 = (sL s21 175 19) → (((sI s21 175 41) ≤ 0) → w_X4_tries_b68 Φ s21 v28 v30) ∧ ((¬ (sI s21 175 41) ≤ 0) → (((sI s21 175 20) ≠ 0) → w_X4_tries_b68 Φ s21 v28 v30) ∧ (((sI s21 175 20) = 0) → w_X4_less s21 v28 v30 (sL s21 175 43) (sL s21 175 44) (fun (s53 : St) => w_X4_tries_b68 Φ s53 v28 v30))))) ∧ ((r11 = 0) → Φ s3)))))
theorem nm_X4_tries : yX4_tries.cls ≠ "java/lang/invoke/MethodHandle" ∧ yX4_tries.cls ≠ "java/lang/invoke/VarHandle" ∧ (parseMethodDescriptor yX4_tries.desc).map (fun d => d.parameters.length) = some 1 := by decide +kernel
theorem e_X4_tries : plainFor yX4_tries = true := plainFor_of_name (by decide +kernel)
theorem m_X4_tries {θ : Th} {l : Launch} (hl0 : l.stackTraces = false) (hX : LX θ) {d : Nat} (hd : 8 ≤ d) (st : St) (p1 : Int32) {Φ : St → Prop} (h : w_X4_tries st p1 Φ) : Ct θ l yX4_tries (ws_ yX4_tries cX4_tries 7 (none : Option Jvm.ClassFile.FieldType)) d [.ref (ad θ 175), .int p1] st (pV Φ, noX) := by
  refine Ct_entry hl0 e_X4_tries (Nat.le_of_ble_eq_true rfl) (fun κ hκ _ C => ?_)
  have hn : ∀ st, Φ st → ((pV Φ, noX) : Ph).1 st none := fun st q => ⟨rfl, q⟩
  change X _ _ _ _ _ [(0, .ref (ad θ 175)), (1, .int p1)] _
  unfold w_X4_tries at h
  refine X_aload_n C dX4_tries_0 rfl 0 rfl (isRV_r _) ?_
  refine X_getS (ci := 4) (j := 20) (q := (RX4, TX4, 54)) C rfl (by decide) q1786 rfl dX4_tries_1 (LX_S hX (k := 175) rfl) (v := .int (sI st 175 20)) rfl ?_
  refine X_if_ne (tgt := 23) C dX4_tries_4 (by decide) (fun c1 => ?_) (fun c1 => ?_)
  · have h := h.1 c1
    exact X_vret C rfl dX4_tries_23 (hn st h)
  · have h := h.2 c1
    refine X_aload_n C dX4_tries_7 rfl 0 rfl (isRV_r _) ?_
    refine X_iload_n C dX4_tries_8 rfl 1 rfl ?_
    refine X_callVS (ci := 4) (q := (RX4, TX4, 54)) (As := [_]) (rest := []) C rfl (LX_S hX (k := 175) rfl) q2116 q2118 qs87 q136 q2119 ⟨rfl, nm_X4_weighs⟩ rfl dX4_tries_9 (m_X4_weighs (Cx_l C) hX (d := d - 1) (by omega) st p1 h) (by omega) (by decide) (Nat.le_of_ble_eq_true rfl) (fun s3 w4 hE5 hP6 => ?_) (fun s9 E7 q8 hE5 hP6 => ?_)
    rotate_left
    · exact False.elim hP6
    obtain ⟨r2, rfl, h⟩ := hP6
    refine X_tls ?_
    refine X_if_eq (tgt := 23) C dX4_tries_12 (by decide) (fun c10 => ?_) (fun c10 => ?_)
    · have h := h.1 c10
      exact X_vret C rfl dX4_tries_23 (hn s3 h)
    · have h := h.2 c10
      refine X_aload_n C dX4_tries_15 rfl 0 rfl (isRV_r _) ?_
      refine X_lconst (v := 1) C dX4_tries_16 rfl ?_
      refine X_callVS (ci := 4) (q := (RX4, TX4, 54)) (As := [_]) (rest := []) C rfl (LX_S hX (k := 175) rfl) q2132 q2134 qs91 q136 q2135 ⟨rfl, nm_X4_areAbove⟩ rfl dX4_tries_17 (m_X4_areAbove (Cx_l C) hX (d := d - 1) (by omega) s3 1 h) (by omega) (by decide) (Nat.le_of_ble_eq_true rfl) (fun s17 w12 hE13 hP14 => ?_) (fun s18 E15 q16 hE13 hP14 => ?_)
      rotate_left
      · exact False.elim hP14
      obtain ⟨r11, rfl, rfl, h⟩ := hP14
      refine X_tls ?_
      refine X_if_ne (tgt := 24) C dX4_tries_20 (by decide) (fun c19 => ?_) (fun c19 => ?_)
      · have h := h.1 c19
        refine X_aload_n C dX4_tries_24 rfl 0 rfl (isRV_r _) ?_
        refine X_callVS (ci := 4) (q := (RX4, TX4, 54)) (As := []) (rest := []) C rfl (LX_S hX (k := 175) rfl) q2136 q2138 qs92 q136 q2139 ⟨rfl, nm_X4_mixes⟩ rfl dX4_tries_25 (m_X4_mixes (Cx_l C) hX (d := d - 1) (by omega) s3 h) (by omega) (by decide) (Nat.le_of_ble_eq_true rfl) (fun s21 w22 hE23 hP24 => ?_) (fun s27 E25 q26 hE23 hP24 => ?_)
        rotate_left
        · exact False.elim hP24
        obtain ⟨rfl, h⟩ := hP24
        refine X_tln ?_
        refine X_aload_n C dX4_tries_28 rfl 0 rfl (isRV_r _) ?_
        refine X_getS (ci := 4) (j := 18) (q := (RX4, TX4, 54)) C rfl (by decide) q1784 rfl dX4_tries_29 (LX_S hX (k := 175) rfl) (v := .long (sL s21 175 18)) rfl ?_
        refine X_topl (fun v28 e29 => ?_)
        have h := h v28 e29
        refine X_lstore_n C dX4_tries_32 rfl (lo2 := [(2, _), (0, _), (1, _)]) (by decide) rfl ?_
        refine X_aload_n C dX4_tries_33 rfl 1 rfl (isRV_r _) ?_
        refine X_getS (ci := 4) (j := 19) (q := (RX4, TX4, 54)) C rfl (by decide) q1785 rfl dX4_tries_34 (LX_S hX (k := 175) rfl) (v := .long (sL s21 175 19)) rfl ?_
        refine X_topl (fun v30 e31 => ?_)
        have h := h v30 e31
        refine X_lstore C dX4_tries_37 (lo2 := [(4, _), (2, _), (0, _), (1, _)]) (by decide) rfl ?_
        refine X_aload_n C dX4_tries_39 rfl 2 rfl (isRV_r _) ?_
        refine X_getS (ci := 4) (j := 41) (q := (RX4, TX4, 54)) C rfl (by decide) q1807 rfl dX4_tries_40 (LX_S hX (k := 175) rfl) (v := .int (sI s21 175 41)) rfl ?_
        refine X_if_le (tgt := 68) C dX4_tries_43 (by decide) (fun c32 => ?_) (fun c32 => ?_)
        · have h := h.1 c32
          refine X_sub [2, 1, 0] (lo2 := [(0, _), (2, _), (4, _)]) rfl ?_
          exact t_X4_tries_b68 hX hd C hn s21 v28 v30 h
        · have h := h.2 c32
          refine X_aload_n C dX4_tries_46 rfl 2 rfl (isRV_r _) ?_
          refine X_getS (ci := 4) (j := 20) (q := (RX4, TX4, 54)) C rfl (by decide) q1786 rfl dX4_tries_47 (LX_S hX (k := 175) rfl) (v := .int (sI s21 175 20)) rfl ?_
          refine X_if_ne (tgt := 68) C dX4_tries_50 (by decide) (fun c51 => ?_) (fun c51 => ?_)
          · have h := h.1 c51
            refine X_sub [2, 1, 0] (lo2 := [(0, _), (2, _), (4, _)]) rfl ?_
            exact t_X4_tries_b68 hX hd C hn s21 v28 v30 h
          · have h := h.2 c51
            refine X_aload_n C dX4_tries_53 rfl 2 rfl (isRV_r _) ?_
            refine X_lload_n C dX4_tries_54 rfl 1 rfl ?_
            refine X_lload C dX4_tries_55 0 rfl ?_
            refine X_aload_n C dX4_tries_57 rfl 2 rfl (isRV_r _) ?_
            refine X_getS (ci := 4) (j := 43) (q := (RX4, TX4, 54)) C rfl (by decide) q1809 rfl dX4_tries_58 (LX_S hX (k := 175) rfl) (v := .long (sL s21 175 43)) rfl ?_
            refine X_aload_n C dX4_tries_61 rfl 2 rfl (isRV_r _) ?_
            refine X_getS (ci := 4) (j := 44) (q := (RX4, TX4, 54)) C rfl (by decide) q1810 rfl dX4_tries_62 (LX_S hX (k := 175) rfl) (v := .long (sL s21 175 44)) rfl ?_
            refine X_callVS (ci := 4) (q := (RX4, TX4, 54)) (As := [_, _, _, _]) (rest := []) C rfl (LX_S hX (k := 175) rfl) q2164 q2166 qs98 q136 q2167 ⟨rfl, nm_X4_less⟩ rfl dX4_tries_65 (m_X4_less (Cx_l C) hX (d := d - 1) (by omega) s21 v28 v30 (sL s21 175 43) (sL s21 175 44) h) (by omega) (by decide) (Nat.le_of_ble_eq_true rfl) (fun s53 w54 hE55 hP56 => ?_) (fun s59 E57 q58 hE55 hP56 => ?_)
            rotate_left
            · exact False.elim hP56
            obtain ⟨rfl, h⟩ := hP56
            refine X_tln ?_
            refine X_sub [2, 1, 0] (lo2 := [(0, _), (2, _), (4, _)]) rfl ?_
            exact t_X4_tries_b68 hX hd C hn s53 v28 v30 h
      · have h := h.2 c19
        exact X_vret C rfl dX4_tries_23 (hn s3 h)

def w_X4_hullOf_l17 (Φ : St → Prop) (E40 : St → Int32 → Int32 → Prop) : Nat → St → Int32 → Int32 → Int32 → Prop
  | 0, _, _, _, _ => False
  | n + 1, st, x1, x2, x3 => ((x2 ≤ x3) → E40 st x1 x2) ∧ ((¬ x2 ≤ x3) → ∀ s14, s14 = putI st 197 0 x3 → w_X4_tries s14 x1 (fun (s17 : St) => w_X4_hullOf_l17 Φ E40 n s17 x1 x2 (x3 + 1)))
theorem t_X4_hullOf_l17 {θ : Th} {κ : Kx} {Ph : Ph} (hX : LX θ) {d : Nat} (hd : 9 ≤ d) (C : Cx θ κ yX4_hullOf cX4_hullOf 6 (none : Option Jvm.ClassFile.FieldType) [] d) {Φ : St → Prop} (hn : ∀ st, Φ st → Ph.1 st none) {E40 : St → Int32 → Int32 → Prop} (hE40 : ∀ (st : St) (x1 : Int32) (x2 : Int32), E40 st x1 x2 → X θ κ Ph st 40 [(0, .ref (ad θ 175)), (1, .int x1), (2, .int x2)] []) : ∀ (n : Nat) (st : St) (x1 : Int32) (x2 : Int32) (x3 : Int32), w_X4_hullOf_l17 Φ E40 n st x1 x2 x3 → X θ κ Ph st 17 [(0, .ref (ad θ 175)), (1, .int x1), (2, .int x2), (3, .int x3)] [] := by
  intro n
  induction n with
  | zero => intro st x1 x2 x3 h; exact h.elim
  | succ n hK17 =>
    intro st x1 x2 x3 h
    rw [w_X4_hullOf_l17] at h
    refine X_iload_n C dX4_hullOf_17 rfl 3 rfl ?_
    refine X_iload_n C dX4_hullOf_18 rfl 2 rfl ?_
    refine X_icmp_ge (tgt := 40) C dX4_hullOf_19 (by decide) (fun c13 => ?_) (fun c13 => ?_)
    · have h := h.1 c13
      refine X_sub [0, 1, 2] (lo2 := [(0, _), (1, _), (2, _)]) rfl ?_
      exact hE40 st x1 x2 h
    · have h := h.2 c13
      refine X_aload_n C dX4_hullOf_22 rfl 0 rfl (isRV_r _) ?_
      refine X_getF (ci := 4) (j := 35) (q := (RX4, TX4, 54)) C rfl (by decide) q1801 rfl dX4_hullOf_23 (b := 197) (LX_S hX (k := 175) rfl) (LX_F hX (k := 175) (j := 35) rfl) rfl ?_
      refine X_iconst (v := 0) C dX4_hullOf_26 rfl ?_
      refine X_iload_n C dX4_hullOf_27 rfl 3 rfl ?_
      refine X_iastS C (LX_S hX (k := 197) rfl) (LX_L hX (k := 197) rfl) (vp_dec rfl) rfl dX4_hullOf_28 ?_
      refine X_nm (fun s14 e15 => ?_)
      have h := h s14 e15
      refine X_aload_n C dX4_hullOf_29 rfl 0 rfl (isRV_r _) ?_
      refine X_iload_n C dX4_hullOf_30 rfl 1 rfl ?_
      refine X_callVS (ci := 4) (q := (RX4, TX4, 54)) (As := [_]) (rest := []) C rfl (LX_S hX (k := 175) rfl) q2160 q2162 qs97 q136 q2163 ⟨rfl, nm_X4_tries⟩ rfl dX4_hullOf_31 (m_X4_tries (Cx_l C) hX (d := d - 1) (by omega) s14 x1 h) (by omega) (by decide) (Nat.le_of_ble_eq_true rfl) (fun s17 w18 hE19 hP20 => ?_) (fun s23 E21 q22 hE19 hP20 => ?_)
      rotate_left
      · exact False.elim hP20
      obtain ⟨rfl, h⟩ := hP20
      refine X_tln ?_
      refine X_iinc (v := (x3 + 1)) C (j := 3) dX4_hullOf_34 rfl rfl (lo2 := [(3, _), (0, _), (1, _), (2, _)]) (by decide) rfl ?_
      refine X_goto (tgt := 17) C dX4_hullOf_37 (by decide) ?_
      refine X_sub [1, 2, 3, 0] (lo2 := [(0, _), (1, _), (2, _), (3, _)]) rfl ?_
      exact hK17 s17 x1 x2 (x3 + 1) h
def w_X4_hullOf_l57 (Φ : St → Prop) (E89 : St → Int32 → Int32 → Int32 → Prop) : Nat → St → Int32 → Int32 → Int32 → Int32 → Prop
  | 0, _, _, _, _, _ => False
  | n + 1, st, x1, x2, x3, x4 => ((x2 ≤ x4) → E89 st x1 x2 x3) ∧ ((¬ x2 ≤ x4) → ∀ s31, s31 = putI st 197 0 x3 → ∀ s33, s33 = putI s31 197 1 x4 → w_X4_tries s33 x1 (fun (s36 : St) => w_X4_hullOf_l57 Φ E89 n s36 x1 x2 x3 (x4 + 1)))
theorem t_X4_hullOf_l57 {θ : Th} {κ : Kx} {Ph : Ph} (hX : LX θ) {d : Nat} (hd : 9 ≤ d) (C : Cx θ κ yX4_hullOf cX4_hullOf 6 (none : Option Jvm.ClassFile.FieldType) [] d) {Φ : St → Prop} (hn : ∀ st, Φ st → Ph.1 st none) {E89 : St → Int32 → Int32 → Int32 → Prop} (hE89 : ∀ (st : St) (x1 : Int32) (x2 : Int32) (x3 : Int32), E89 st x1 x2 x3 → X θ κ Ph st 89 [(0, .ref (ad θ 175)), (1, .int x1), (2, .int x2), (3, .int x3)] []) : ∀ (n : Nat) (st : St) (x1 : Int32) (x2 : Int32) (x3 : Int32) (x4 : Int32), w_X4_hullOf_l57 Φ E89 n st x1 x2 x3 x4 → X θ κ Ph st 57 [(0, .ref (ad θ 175)), (1, .int x1), (2, .int x2), (3, .int x3), (4, .int x4)] [] := by
  intro n
  induction n with
  | zero => intro st x1 x2 x3 x4 h; exact h.elim
  | succ n hK57 =>
    intro st x1 x2 x3 x4 h
    rw [w_X4_hullOf_l57] at h
    refine X_iload C dX4_hullOf_57 4 rfl ?_
    refine X_iload_n C dX4_hullOf_59 rfl 2 rfl ?_
    refine X_icmp_ge (tgt := 89) C dX4_hullOf_60 (by decide) (fun c30 => ?_) (fun c30 => ?_)
    · have h := h.1 c30
      refine X_sub [0, 1, 2, 3] (lo2 := [(0, _), (1, _), (2, _), (3, _)]) rfl ?_
      exact hE89 st x1 x2 x3 h
    · have h := h.2 c30
      refine X_aload_n C dX4_hullOf_63 rfl 0 rfl (isRV_r _) ?_
      refine X_getF (ci := 4) (j := 35) (q := (RX4, TX4, 54)) C rfl (by decide) q1801 rfl dX4_hullOf_64 (b := 197) (LX_S hX (k := 175) rfl) (LX_F hX (k := 175) (j := 35) rfl) rfl ?_
      refine X_iconst (v := 0) C dX4_hullOf_67 rfl ?_
      refine X_iload_n C dX4_hullOf_68 rfl 3 rfl ?_
      refine X_iastS C (LX_S hX (k := 197) rfl) (LX_L hX (k := 197) rfl) (vp_dec rfl) rfl dX4_hullOf_69 ?_
      refine X_nm (fun s31 e32 => ?_)
      have h := h s31 e32
      refine X_aload_n C dX4_hullOf_70 rfl 0 rfl (isRV_r _) ?_
      refine X_getF (ci := 4) (j := 35) (q := (RX4, TX4, 54)) C rfl (by decide) q1801 rfl dX4_hullOf_71 (b := 197) (LX_S hX (k := 175) rfl) (LX_F hX (k := 175) (j := 35) rfl) rfl ?_
      refine X_iconst (v := 1) C dX4_hullOf_74 rfl ?_
      refine X_iload C dX4_hullOf_75 4 rfl ?_
      refine X_iastS C (LX_S hX (k := 197) rfl) (LX_L hX (k := 197) rfl) (vp_dec rfl) rfl dX4_hullOf_77 ?_
      refine X_nm (fun s33 e34 => ?_)
      have h := h s33 e34
      refine X_aload_n C dX4_hullOf_78 rfl 0 rfl (isRV_r _) ?_
      refine X_iload_n C dX4_hullOf_79 rfl 1 rfl ?_
      refine X_callVS (ci := 4) (q := (RX4, TX4, 54)) (As := [_]) (rest := []) C rfl (LX_S hX (k := 175) rfl) q2160 q2162 qs97 q136 q2163 ⟨rfl, nm_X4_tries⟩ rfl dX4_hullOf_80 (m_X4_tries (Cx_l C) hX (d := d - 1) (by omega) s33 x1 h) (by omega) (by decide) (Nat.le_of_ble_eq_true rfl) (fun s36 w37 hE38 hP39 => ?_) (fun s42 E40 q41 hE38 hP39 => ?_)
      rotate_left
      · exact False.elim hP39
      obtain ⟨rfl, h⟩ := hP39
      refine X_tln ?_
      refine X_iinc (v := (x4 + 1)) C (j := 4) dX4_hullOf_83 rfl rfl (lo2 := [(4, _), (0, _), (1, _), (2, _), (3, _)]) (by decide) rfl ?_
      refine X_goto (tgt := 57) C dX4_hullOf_86 (by decide) ?_
      refine X_sub [1, 2, 3, 4, 0] (lo2 := [(0, _), (1, _), (2, _), (3, _), (4, _)]) rfl ?_
      exact hK57 s36 x1 x2 x3 (x4 + 1) h
def w_X4_hullOf_b89 (Φ : St → Prop) (K47 : St → Int32 → Int32 → Int32 → Prop) (st : St) (x1 : Int32) (x2 : Int32) (x3 : Int32) : Prop := K47 st x1 x2 (x3 + 1)
theorem t_X4_hullOf_b89 {θ : Th} {κ : Kx} {Ph : Ph} (hX : LX θ) {d : Nat} (hd : 9 ≤ d) (C : Cx θ κ yX4_hullOf cX4_hullOf 6 (none : Option Jvm.ClassFile.FieldType) [] d) {Φ : St → Prop} (hn : ∀ st, Φ st → Ph.1 st none) {K47 : St → Int32 → Int32 → Int32 → Prop} (hK47 : ∀ (st : St) (x1 : Int32) (x2 : Int32) (x3 : Int32), K47 st x1 x2 x3 → X θ κ Ph st 47 [(0, .ref (ad θ 175)), (1, .int x1), (2, .int x2), (3, .int x3)] []) (st : St) (x1 : Int32) (x2 : Int32) (x3 : Int32) (h : w_X4_hullOf_b89 Φ K47 st x1 x2 x3) : X θ κ Ph st 89 [(0, .ref (ad θ 175)), (1, .int x1), (2, .int x2), (3, .int x3)] [] := by
  unfold w_X4_hullOf_b89 at h
  refine X_iinc (v := (x3 + 1)) C (j := 3) dX4_hullOf_89 rfl rfl (lo2 := [(3, _), (0, _), (1, _), (2, _)]) (by decide) rfl ?_
  refine X_goto (tgt := 47) C dX4_hullOf_92 (by decide) ?_
  refine X_sub [1, 2, 3, 0] (lo2 := [(0, _), (1, _), (2, _), (3, _)]) rfl ?_
  exact hK47 st x1 x2 (x3 + 1) h
def w_X4_hullOf_l47 (Φ : St → Prop) (E95 : St → Int32 → Int32 → Prop) : Nat → St → Int32 → Int32 → Int32 → Prop
  | 0, _, _, _, _ => False
  | n + 1, st, x1, x2, x3 => ((x2 ≤ x3) → E95 st x1 x2) ∧ ((¬ x2 ≤ x3) → ∀ v28 : Int32, v28 = (x3 + 1) → w_X4_hullOf_l57 Φ (fun (s43 : St) (x1 : Int32) (x2 : Int32) (x3 : Int32) => w_X4_hullOf_b89 Φ (w_X4_hullOf_l47 Φ E95 n) s43 x1 x2 x3) gFU st x1 x2 x3 v28)
theorem t_X4_hullOf_l47 {θ : Th} {κ : Kx} {Ph : Ph} (hX : LX θ) {d : Nat} (hd : 9 ≤ d) (C : Cx θ κ yX4_hullOf cX4_hullOf 6 (none : Option Jvm.ClassFile.FieldType) [] d) {Φ : St → Prop} (hn : ∀ st, Φ st → Ph.1 st none) {E95 : St → Int32 → Int32 → Prop} (hE95 : ∀ (st : St) (x1 : Int32) (x2 : Int32), E95 st x1 x2 → X θ κ Ph st 95 [(0, .ref (ad θ 175)), (1, .int x1), (2, .int x2)] []) : ∀ (n : Nat) (st : St) (x1 : Int32) (x2 : Int32) (x3 : Int32), w_X4_hullOf_l47 Φ E95 n st x1 x2 x3 → X θ κ Ph st 47 [(0, .ref (ad θ 175)), (1, .int x1), (2, .int x2), (3, .int x3)] [] := by
  intro n
  induction n with
  | zero => intro st x1 x2 x3 h; exact h.elim
  | succ n hK47 =>
    intro st x1 x2 x3 h
    rw [w_X4_hullOf_l47] at h
    refine X_iload_n C dX4_hullOf_47 rfl 3 rfl ?_
    refine X_iload_n C dX4_hullOf_48 rfl 2 rfl ?_
    refine X_icmp_ge (tgt := 95) C dX4_hullOf_49 (by decide) (fun c27 => ?_) (fun c27 => ?_)
    · have h := h.1 c27
      refine X_sub [0, 1, 2] (lo2 := [(0, _), (1, _), (2, _)]) rfl ?_
      exact hE95 st x1 x2 h
    · have h := h.2 c27
      refine X_iload_n C dX4_hullOf_52 rfl 3 rfl ?_
      refine X_iconst (v := 1) C dX4_hullOf_53 rfl ?_
      refine X_iadd C dX4_hullOf_54 ?_
      refine X_topi (fun v28 e29 => ?_)
      have h := h v28 e29
      refine X_istore C dX4_hullOf_55 (lo2 := [(4, _), (0, _), (1, _), (2, _), (3, _)]) (by decide) rfl ?_
      refine X_sub [1, 2, 3, 4, 0] (lo2 := [(0, _), (1, _), (2, _), (3, _), (4, _)]) rfl ?_
      refine t_X4_hullOf_l57 hX hd C hn ?_ gFU st x1 x2 x3 v28 h
      · intro s43 x1 x2 x3 h
        exact t_X4_hullOf_b89 hX hd C hn hK47 s43 x1 x2 x3 h
def w_X4_hullOf_l134 (Φ : St → Prop) (E174 : St → Int32 → Int32 → Int32 → Int32 → Prop) : Nat → St → Int32 → Int32 → Int32 → Int32 → Int32 → Prop
  | 0, _, _, _, _, _, _ => False
  | n + 1, st, x1, x2, x3, x4, x5 => ((x2 ≤ x5) → E174 st x1 x2 x3 x4) ∧ ((¬ x2 ≤ x5) → ∀ s55, s55 = putI st 197 0 x3 → ∀ s57, s57 = putI s55 197 1 x4 → ∀ s59, s59 = putI s57 197 2 x5 → w_X4_tries s59 x1 (fun (s62 : St) => w_X4_hullOf_l134 Φ E174 n s62 x1 x2 x3 x4 (x5 + 1)))
theorem t_X4_hullOf_l134 {θ : Th} {κ : Kx} {Ph : Ph} (hX : LX θ) {d : Nat} (hd : 9 ≤ d) (C : Cx θ κ yX4_hullOf cX4_hullOf 6 (none : Option Jvm.ClassFile.FieldType) [] d) {Φ : St → Prop} (hn : ∀ st, Φ st → Ph.1 st none) {E174 : St → Int32 → Int32 → Int32 → Int32 → Prop} (hE174 : ∀ (st : St) (x1 : Int32) (x2 : Int32) (x3 : Int32) (x4 : Int32), E174 st x1 x2 x3 x4 → X θ κ Ph st 174 [(0, .ref (ad θ 175)), (1, .int x1), (2, .int x2), (3, .int x3), (4, .int x4)] []) : ∀ (n : Nat) (st : St) (x1 : Int32) (x2 : Int32) (x3 : Int32) (x4 : Int32) (x5 : Int32), w_X4_hullOf_l134 Φ E174 n st x1 x2 x3 x4 x5 → X θ κ Ph st 134 [(0, .ref (ad θ 175)), (1, .int x1), (2, .int x2), (3, .int x3), (4, .int x4), (5, .int x5)] [] := by
  intro n
  induction n with
  | zero => intro st x1 x2 x3 x4 x5 h; exact h.elim
  | succ n hK134 =>
    intro st x1 x2 x3 x4 x5 h
    rw [w_X4_hullOf_l134] at h
    refine X_iload C dX4_hullOf_134 5 rfl ?_
    refine X_iload_n C dX4_hullOf_136 rfl 2 rfl ?_
    refine X_icmp_ge (tgt := 174) C dX4_hullOf_137 (by decide) (fun c54 => ?_) (fun c54 => ?_)
    · have h := h.1 c54
      refine X_sub [0, 1, 2, 3, 4] (lo2 := [(0, _), (1, _), (2, _), (3, _), (4, _)]) rfl ?_
      exact hE174 st x1 x2 x3 x4 h
    · have h := h.2 c54
      refine X_aload_n C dX4_hullOf_140 rfl 0 rfl (isRV_r _) ?_
      refine X_getF (ci := 4) (j := 35) (q := (RX4, TX4, 54)) C rfl (by decide) q1801 rfl dX4_hullOf_141 (b := 197) (LX_S hX (k := 175) rfl) (LX_F hX (k := 175) (j := 35) rfl) rfl ?_
      refine X_iconst (v := 0) C dX4_hullOf_144 rfl ?_
      refine X_iload_n C dX4_hullOf_145 rfl 3 rfl ?_
      refine X_iastS C (LX_S hX (k := 197) rfl) (LX_L hX (k := 197) rfl) (vp_dec rfl) rfl dX4_hullOf_146 ?_
      refine X_nm (fun s55 e56 => ?_)
      have h := h s55 e56
      refine X_aload_n C dX4_hullOf_147 rfl 0 rfl (isRV_r _) ?_
      refine X_getF (ci := 4) (j := 35) (q := (RX4, TX4, 54)) C rfl (by decide) q1801 rfl dX4_hullOf_148 (b := 197) (LX_S hX (k := 175) rfl) (LX_F hX (k := 175) (j := 35) rfl) rfl ?_
      refine X_iconst (v := 1) C dX4_hullOf_151 rfl ?_
      refine X_iload C dX4_hullOf_152 4 rfl ?_
      refine X_iastS C (LX_S hX (k := 197) rfl) (LX_L hX (k := 197) rfl) (vp_dec rfl) rfl dX4_hullOf_154 ?_
      refine X_nm (fun s57 e58 => ?_)
      have h := h s57 e58
      refine X_aload_n C dX4_hullOf_155 rfl 0 rfl (isRV_r _) ?_
      refine X_getF (ci := 4) (j := 35) (q := (RX4, TX4, 54)) C rfl (by decide) q1801 rfl dX4_hullOf_156 (b := 197) (LX_S hX (k := 175) rfl) (LX_F hX (k := 175) (j := 35) rfl) rfl ?_
      refine X_iconst (v := 2) C dX4_hullOf_159 rfl ?_
      refine X_iload C dX4_hullOf_160 5 rfl ?_
      refine X_iastS C (LX_S hX (k := 197) rfl) (LX_L hX (k := 197) rfl) (vp_dec rfl) rfl dX4_hullOf_162 ?_
      refine X_nm (fun s59 e60 => ?_)
      have h := h s59 e60
      refine X_aload_n C dX4_hullOf_163 rfl 0 rfl (isRV_r _) ?_
      refine X_iload_n C dX4_hullOf_164 rfl 1 rfl ?_
      refine X_callVS (ci := 4) (q := (RX4, TX4, 54)) (As := [_]) (rest := []) C rfl (LX_S hX (k := 175) rfl) q2160 q2162 qs97 q136 q2163 ⟨rfl, nm_X4_tries⟩ rfl dX4_hullOf_165 (m_X4_tries (Cx_l C) hX (d := d - 1) (by omega) s59 x1 h) (by omega) (by decide) (Nat.le_of_ble_eq_true rfl) (fun s62 w63 hE64 hP65 => ?_) (fun s68 E66 q67 hE64 hP65 => ?_)
      rotate_left
      · exact False.elim hP65
      obtain ⟨rfl, h⟩ := hP65
      refine X_tln ?_
      refine X_iinc (v := (x5 + 1)) C (j := 5) dX4_hullOf_168 rfl rfl (lo2 := [(5, _), (0, _), (1, _), (2, _), (3, _), (4, _)]) (by decide) rfl ?_
      refine X_goto (tgt := 134) C dX4_hullOf_171 (by decide) ?_
      refine X_sub [1, 2, 3, 4, 5, 0] (lo2 := [(0, _), (1, _), (2, _), (3, _), (4, _), (5, _)]) rfl ?_
      exact hK134 s62 x1 x2 x3 x4 (x5 + 1) h
def w_X4_hullOf_b174 (Φ : St → Prop) (K122 : St → Int32 → Int32 → Int32 → Int32 → Prop) (st : St) (x1 : Int32) (x2 : Int32) (x3 : Int32) (x4 : Int32) : Prop := K122 st x1 x2 x3 (x4 + 1)
theorem t_X4_hullOf_b174 {θ : Th} {κ : Kx} {Ph : Ph} (hX : LX θ) {d : Nat} (hd : 9 ≤ d) (C : Cx θ κ yX4_hullOf cX4_hullOf 6 (none : Option Jvm.ClassFile.FieldType) [] d) {Φ : St → Prop} (hn : ∀ st, Φ st → Ph.1 st none) {K122 : St → Int32 → Int32 → Int32 → Int32 → Prop} (hK122 : ∀ (st : St) (x1 : Int32) (x2 : Int32) (x3 : Int32) (x4 : Int32), K122 st x1 x2 x3 x4 → X θ κ Ph st 122 [(0, .ref (ad θ 175)), (1, .int x1), (2, .int x2), (3, .int x3), (4, .int x4)] []) (st : St) (x1 : Int32) (x2 : Int32) (x3 : Int32) (x4 : Int32) (h : w_X4_hullOf_b174 Φ K122 st x1 x2 x3 x4) : X θ κ Ph st 174 [(0, .ref (ad θ 175)), (1, .int x1), (2, .int x2), (3, .int x3), (4, .int x4)] [] := by
  unfold w_X4_hullOf_b174 at h
  refine X_iinc (v := (x4 + 1)) C (j := 4) dX4_hullOf_174 rfl rfl (lo2 := [(4, _), (0, _), (1, _), (2, _), (3, _)]) (by decide) rfl ?_
  refine X_goto (tgt := 122) C dX4_hullOf_177 (by decide) ?_
  refine X_sub [1, 2, 3, 4, 0] (lo2 := [(0, _), (1, _), (2, _), (3, _), (4, _)]) rfl ?_
  exact hK122 st x1 x2 x3 (x4 + 1) h
def w_X4_hullOf_l122 (Φ : St → Prop) (E180 : St → Int32 → Int32 → Int32 → Prop) : Nat → St → Int32 → Int32 → Int32 → Int32 → Prop
  | 0, _, _, _, _, _ => False
  | n + 1, st, x1, x2, x3, x4 => ((x2 ≤ x4) → E180 st x1 x2 x3) ∧ ((¬ x2 ≤ x4) → ∀ v52 : Int32, v52 = (x4 + 1) → w_X4_hullOf_l134 Φ (fun (s69 : St) (x1 : Int32) (x2 : Int32) (x3 : Int32) (x4 : Int32) => w_X4_hullOf_b174 Φ (w_X4_hullOf_l122 Φ E180 n) s69 x1 x2 x3 x4) gFU st x1 x2 x3 x4 v52)
theorem t_X4_hullOf_l122 {θ : Th} {κ : Kx} {Ph : Ph} (hX : LX θ) {d : Nat} (hd : 9 ≤ d) (C : Cx θ κ yX4_hullOf cX4_hullOf 6 (none : Option Jvm.ClassFile.FieldType) [] d) {Φ : St → Prop} (hn : ∀ st, Φ st → Ph.1 st none) {E180 : St → Int32 → Int32 → Int32 → Prop} (hE180 : ∀ (st : St) (x1 : Int32) (x2 : Int32) (x3 : Int32), E180 st x1 x2 x3 → X θ κ Ph st 180 [(0, .ref (ad θ 175)), (1, .int x1), (2, .int x2), (3, .int x3)] []) : ∀ (n : Nat) (st : St) (x1 : Int32) (x2 : Int32) (x3 : Int32) (x4 : Int32), w_X4_hullOf_l122 Φ E180 n st x1 x2 x3 x4 → X θ κ Ph st 122 [(0, .ref (ad θ 175)), (1, .int x1), (2, .int x2), (3, .int x3), (4, .int x4)] [] := by
  intro n
  induction n with
  | zero => intro st x1 x2 x3 x4 h; exact h.elim
  | succ n hK122 =>
    intro st x1 x2 x3 x4 h
    rw [w_X4_hullOf_l122] at h
    refine X_iload C dX4_hullOf_122 4 rfl ?_
    refine X_iload_n C dX4_hullOf_124 rfl 2 rfl ?_
    refine X_icmp_ge (tgt := 180) C dX4_hullOf_125 (by decide) (fun c51 => ?_) (fun c51 => ?_)
    · have h := h.1 c51
      refine X_sub [0, 1, 2, 3] (lo2 := [(0, _), (1, _), (2, _), (3, _)]) rfl ?_
      exact hE180 st x1 x2 x3 h
    · have h := h.2 c51
      refine X_iload C dX4_hullOf_128 4 rfl ?_
      refine X_iconst (v := 1) C dX4_hullOf_130 rfl ?_
      refine X_iadd C dX4_hullOf_131 ?_
      refine X_topi (fun v52 e53 => ?_)
      have h := h v52 e53
      refine X_istore C dX4_hullOf_132 (lo2 := [(5, _), (0, _), (1, _), (2, _), (3, _), (4, _)]) (by decide) rfl ?_
      refine X_sub [1, 2, 3, 4, 5, 0] (lo2 := [(0, _), (1, _), (2, _), (3, _), (4, _), (5, _)]) rfl ?_
      refine t_X4_hullOf_l134 hX hd C hn ?_ gFU st x1 x2 x3 x4 v52 h
      · intro s69 x1 x2 x3 x4 h
        exact t_X4_hullOf_b174 hX hd C hn hK122 s69 x1 x2 x3 x4 h
def w_X4_hullOf_b180 (Φ : St → Prop) (K102 : St → Int32 → Int32 → Int32 → Prop) (st : St) (x1 : Int32) (x2 : Int32) (x3 : Int32) : Prop := K102 st x1 x2 (x3 + 1)
theorem t_X4_hullOf_b180 {θ : Th} {κ : Kx} {Ph : Ph} (hX : LX θ) {d : Nat} (hd : 9 ≤ d) (C : Cx θ κ yX4_hullOf cX4_hullOf 6 (none : Option Jvm.ClassFile.FieldType) [] d) {Φ : St → Prop} (hn : ∀ st, Φ st → Ph.1 st none) {K102 : St → Int32 → Int32 → Int32 → Prop} (hK102 : ∀ (st : St) (x1 : Int32) (x2 : Int32) (x3 : Int32), K102 st x1 x2 x3 → X θ κ Ph st 102 [(0, .ref (ad θ 175)), (1, .int x1), (2, .int x2), (3, .int x3)] []) (st : St) (x1 : Int32) (x2 : Int32) (x3 : Int32) (h : w_X4_hullOf_b180 Φ K102 st x1 x2 x3) : X θ κ Ph st 180 [(0, .ref (ad θ 175)), (1, .int x1), (2, .int x2), (3, .int x3)] [] := by
  unfold w_X4_hullOf_b180 at h
  refine X_iinc (v := (x3 + 1)) C (j := 3) dX4_hullOf_180 rfl rfl (lo2 := [(3, _), (0, _), (1, _), (2, _)]) (by decide) rfl ?_
  refine X_goto (tgt := 102) C dX4_hullOf_183 (by decide) ?_
  refine X_sub [1, 2, 3, 0] (lo2 := [(0, _), (1, _), (2, _), (3, _)]) rfl ?_
  exact hK102 st x1 x2 (x3 + 1) h
def w_X4_hullOf_l102 (Φ : St → Prop) (E186 : St → Prop) : Nat → St → Int32 → Int32 → Int32 → Prop
  | 0, _, _, _, _ => False
  | n + 1, st, x1, x2, x3 => ((x2 ≤ x3) → E186 st) ∧ ((¬ x2 ≤ x3) → (((sI st 177 0) ≠ 3) → E186 st) ∧ (((sI st 177 0) = 3) → ∀ v49 : Int32, v49 = (x3 + 1) → w_X4_hullOf_l122 Φ (fun (s70 : St) (x1 : Int32) (x2 : Int32) (x3 : Int32) => w_X4_hullOf_b180 Φ (w_X4_hullOf_l102 Φ E186 n) s70 x1 x2 x3) gFU st x1 x2 x3 v49))
theorem t_X4_hullOf_l102 {θ : Th} {κ : Kx} {Ph : Ph} (hX : LX θ) {d : Nat} (hd : 9 ≤ d) (C : Cx θ κ yX4_hullOf cX4_hullOf 6 (none : Option Jvm.ClassFile.FieldType) [] d) {Φ : St → Prop} (hn : ∀ st, Φ st → Ph.1 st none) {E186 : St → Prop} (hE186 : ∀ (st : St), E186 st → X θ κ Ph st 186 [(0, .ref (ad θ 175))] []) : ∀ (n : Nat) (st : St) (x1 : Int32) (x2 : Int32) (x3 : Int32), w_X4_hullOf_l102 Φ E186 n st x1 x2 x3 → X θ κ Ph st 102 [(0, .ref (ad θ 175)), (1, .int x1), (2, .int x2), (3, .int x3)] [] := by
  intro n
  induction n with
  | zero => intro st x1 x2 x3 h; exact h.elim
  | succ n hK102 =>
    intro st x1 x2 x3 h
    rw [w_X4_hullOf_l102] at h
    refine X_iload_n C dX4_hullOf_102 rfl 3 rfl ?_
    refine X_iload_n C dX4_hullOf_103 rfl 2 rfl ?_
    refine X_icmp_ge (tgt := 186) C dX4_hullOf_104 (by decide) (fun c47 => ?_) (fun c47 => ?_)
    · have h := h.1 c47
      refine X_sub [0] (lo2 := [(0, _)]) rfl ?_
      exact hE186 st h
    · have h := h.2 c47
      refine X_aload_n C dX4_hullOf_107 rfl 0 rfl (isRV_r _) ?_
      refine X_getF (ci := 4) (j := 1) (q := (RX4, TX4, 54)) C rfl (by decide) q1767 rfl dX4_hullOf_108 (b := 177) (LX_S hX (k := 175) rfl) (LX_F hX (k := 175) (j := 1) rfl) rfl ?_
      refine X_iconst (v := 0) C dX4_hullOf_111 rfl ?_
      refine X_ialdS C (LX_S hX (k := 177) rfl) (LX_L hX (k := 177) rfl) (vp_dec rfl) rfl dX4_hullOf_112 ?_
      refine X_iconst (v := 3) C dX4_hullOf_113 rfl ?_
      refine X_icmp_ne (tgt := 186) C dX4_hullOf_114 (by decide) (fun c48 => ?_) (fun c48 => ?_)
      · have h := h.1 c48
        refine X_sub [0] (lo2 := [(0, _)]) rfl ?_
        exact hE186 st h
      · have h := h.2 c48
        refine X_iload_n C dX4_hullOf_117 rfl 3 rfl ?_
        refine X_iconst (v := 1) C dX4_hullOf_118 rfl ?_
        refine X_iadd C dX4_hullOf_119 ?_
        refine X_topi (fun v49 e50 => ?_)
        have h := h v49 e50
        refine X_istore C dX4_hullOf_120 (lo2 := [(4, _), (0, _), (1, _), (2, _), (3, _)]) (by decide) rfl ?_
        refine X_sub [1, 2, 3, 4, 0] (lo2 := [(0, _), (1, _), (2, _), (3, _), (4, _)]) rfl ?_
        refine t_X4_hullOf_l122 hX hd C hn ?_ gFU st x1 x2 x3 v49 h
        · intro s70 x1 x2 x3 h
          exact t_X4_hullOf_b180 hX hd C hn hK102 s70 x1 x2 x3 h
def w_X4_hullOf_b186 (Φ : St → Prop) (st : St) : Prop := w_X4_is st (sL st 175 43) (sL st 175 44) (fun (s73 : St) => Φ s73)
theorem t_X4_hullOf_b186 {θ : Th} {κ : Kx} {Ph : Ph} (hX : LX θ) {d : Nat} (hd : 9 ≤ d) (C : Cx θ κ yX4_hullOf cX4_hullOf 6 (none : Option Jvm.ClassFile.FieldType) [] d) {Φ : St → Prop} (hn : ∀ st, Φ st → Ph.1 st none) (st : St) (h : w_X4_hullOf_b186 Φ st) : X θ κ Ph st 186 [(0, .ref (ad θ 175))] [] := by
  unfold w_X4_hullOf_b186 at h
  refine X_aload_n C dX4_hullOf_186 rfl 0 rfl (isRV_r _) ?_
  refine X_aload_n C dX4_hullOf_187 rfl 0 rfl (isRV_r _) ?_
  refine X_getS (ci := 4) (j := 43) (q := (RX4, TX4, 54)) C rfl (by decide) q1809 rfl dX4_hullOf_188 (LX_S hX (k := 175) rfl) (v := .long (sL st 175 43)) rfl ?_
  refine X_aload_n C dX4_hullOf_191 rfl 0 rfl (isRV_r _) ?_
  refine X_getS (ci := 4) (j := 44) (q := (RX4, TX4, 54)) C rfl (by decide) q1810 rfl dX4_hullOf_192 (LX_S hX (k := 175) rfl) (v := .long (sL st 175 44)) rfl ?_
  refine X_callVS (ci := 4) (q := (RX4, TX4, 54)) (As := [_, _]) (rest := []) C rfl (LX_S hX (k := 175) rfl) q2104 q2106 qs86 q136 q2107 ⟨rfl, nm_X4_is⟩ rfl dX4_hullOf_195 (m_X4_is (Cx_l C) hX (d := d - 1) (by omega) st (sL st 175 43) (sL st 175 44) h) (by omega) (by decide) (Nat.le_of_ble_eq_true rfl) (fun s73 w74 hE75 hP76 => ?_) (fun s79 E77 q78 hE75 hP76 => ?_)
  rotate_left
  · exact False.elim hP76
  obtain ⟨rfl, h⟩ := hP76
  refine X_tln ?_
  exact X_vret C rfl dX4_hullOf_198 (hn s73 h)
def w_X4_hullOf_b95 (Φ : St → Prop) (st : St) (x1 : Int32) (x2 : Int32) : Prop := ∀ s45, s45 = putI st 175 36 3 → w_X4_hullOf_l102 Φ (fun (s71 : St) => w_X4_hullOf_b186 Φ s71) gFU s45 x1 x2 0
theorem t_X4_hullOf_b95 {θ : Th} {κ : Kx} {Ph : Ph} (hX : LX θ) {d : Nat} (hd : 9 ≤ d) (C : Cx θ κ yX4_hullOf cX4_hullOf 6 (none : Option Jvm.ClassFile.FieldType) [] d) {Φ : St → Prop} (hn : ∀ st, Φ st → Ph.1 st none) (st : St) (x1 : Int32) (x2 : Int32) (h : w_X4_hullOf_b95 Φ st x1 x2) : X θ κ Ph st 95 [(0, .ref (ad θ 175)), (1, .int x1), (2, .int x2)] [] := by
  unfold w_X4_hullOf_b95 at h
  refine X_aload_n C dX4_hullOf_95 rfl 0 rfl (isRV_r _) ?_
  refine X_iconst (v := 3) C dX4_hullOf_96 rfl ?_
  refine X_putSI (ci := 4) (j := 36) (q := (RX4, TX4, 54)) C rfl (by decide) q1802 rfl rfl dX4_hullOf_97 (LX_S hX (k := 175) rfl) rfl rfl rfl ?_
  refine X_nm (fun s45 e46 => ?_)
  have h := h s45 e46
  refine X_iconst (v := 0) C dX4_hullOf_100 rfl ?_
  refine X_istore_n C dX4_hullOf_101 rfl (lo2 := [(3, _), (0, _), (1, _), (2, _)]) (by decide) rfl ?_
  refine X_sub [1, 2, 3, 0] (lo2 := [(0, _), (1, _), (2, _), (3, _)]) rfl ?_
  refine t_X4_hullOf_l102 hX hd C hn ?_ gFU s45 x1 x2 0 h
  · intro s71 h
    exact t_X4_hullOf_b186 hX hd C hn s71 h
def w_X4_hullOf_b40 (Φ : St → Prop) (st : St) (x1 : Int32) (x2 : Int32) : Prop := ∀ s25, s25 = putI st 175 36 2 → w_X4_hullOf_l47 Φ (fun (s44 : St) (x1 : Int32) (x2 : Int32) => w_X4_hullOf_b95 Φ s44 x1 x2) gFU s25 x1 x2 0
theorem t_X4_hullOf_b40 {θ : Th} {κ : Kx} {Ph : Ph} (hX : LX θ) {d : Nat} (hd : 9 ≤ d) (C : Cx θ κ yX4_hullOf cX4_hullOf 6 (none : Option Jvm.ClassFile.FieldType) [] d) {Φ : St → Prop} (hn : ∀ st, Φ st → Ph.1 st none) (st : St) (x1 : Int32) (x2 : Int32) (h : w_X4_hullOf_b40 Φ st x1 x2) : X θ κ Ph st 40 [(0, .ref (ad θ 175)), (1, .int x1), (2, .int x2)] [] := by
  unfold w_X4_hullOf_b40 at h
  refine X_aload_n C dX4_hullOf_40 rfl 0 rfl (isRV_r _) ?_
  refine X_iconst (v := 2) C dX4_hullOf_41 rfl ?_
  refine X_putSI (ci := 4) (j := 36) (q := (RX4, TX4, 54)) C rfl (by decide) q1802 rfl rfl dX4_hullOf_42 (LX_S hX (k := 175) rfl) rfl rfl rfl ?_
  refine X_nm (fun s25 e26 => ?_)
  have h := h s25 e26
  refine X_iconst (v := 0) C dX4_hullOf_45 rfl ?_
  refine X_istore_n C dX4_hullOf_46 rfl (lo2 := [(3, _), (0, _), (1, _), (2, _)]) (by decide) rfl ?_
  refine X_sub [1, 2, 3, 0] (lo2 := [(0, _), (1, _), (2, _), (3, _)]) rfl ?_
  refine t_X4_hullOf_l47 hX hd C hn ?_ gFU s25 x1 x2 0 h
  · intro s44 x1 x2 h
    exact t_X4_hullOf_b95 hX hd C hn s44 x1 x2 h
def w_X4_hullOf (st : St) (p1 : Int32) (Φ : St → Prop) : Prop := ∀ s1, s1 = putI st 175 41 0 → w_X4_points s1 (fun (r3 : Int32) => ∀ s11, s11 = putI s1 175 36 1 → w_X4_hullOf_l17 Φ (fun (s24 : St) (x1 : Int32) (x2 : Int32) => w_X4_hullOf_b40 Φ s24 x1 x2) gFU s11 p1 r3 0)
theorem nm_X4_hullOf : yX4_hullOf.cls ≠ "java/lang/invoke/MethodHandle" ∧ yX4_hullOf.cls ≠ "java/lang/invoke/VarHandle" ∧ (parseMethodDescriptor yX4_hullOf.desc).map (fun d => d.parameters.length) = some 1 := by decide +kernel
theorem e_X4_hullOf : plainFor yX4_hullOf = true := plainFor_of_name (by decide +kernel)
theorem m_X4_hullOf {θ : Th} {l : Launch} (hl0 : l.stackTraces = false) (hX : LX θ) {d : Nat} (hd : 9 ≤ d) (st : St) (p1 : Int32) {Φ : St → Prop} (h : w_X4_hullOf st p1 Φ) : Ct θ l yX4_hullOf (ws_ yX4_hullOf cX4_hullOf 6 (none : Option Jvm.ClassFile.FieldType)) d [.ref (ad θ 175), .int p1] st (pV Φ, noX) := by
  refine Ct_entry hl0 e_X4_hullOf (Nat.le_of_ble_eq_true rfl) (fun κ hκ _ C => ?_)
  have hn : ∀ st, Φ st → ((pV Φ, noX) : Ph).1 st none := fun st q => ⟨rfl, q⟩
  change X _ _ _ _ _ [(0, .ref (ad θ 175)), (1, .int p1)] _
  unfold w_X4_hullOf at h
  refine X_aload_n C dX4_hullOf_0 rfl 0 rfl (isRV_r _) ?_
  refine X_iconst (v := 0) C dX4_hullOf_1 rfl ?_
  refine X_putSI (ci := 4) (j := 41) (q := (RX4, TX4, 54)) C rfl (by decide) q1807 rfl rfl dX4_hullOf_2 (LX_S hX (k := 175) rfl) rfl rfl rfl ?_
  refine X_nm (fun s1 e2 => ?_)
  have h := h s1 e2
  refine X_aload_n C dX4_hullOf_5 rfl 0 rfl (isRV_r _) ?_
  refine X_callVS (ci := 4) (q := (RX4, TX4, 54)) (As := []) (rest := []) C rfl (LX_S hX (k := 175) rfl) q1996 q1998 qs68 q136 q1999 ⟨rfl, nm_X4_points⟩ rfl dX4_hullOf_6 (m_X4_points (Cx_l C) hX (d := d - 1) (by omega) s1 h) (by omega) (by decide) (Nat.le_of_ble_eq_true rfl) (fun s9 w4 hE5 hP6 => ?_) (fun s10 E7 q8 hE5 hP6 => ?_)
  rotate_left
  · exact False.elim hP6
  obtain ⟨r3, rfl, rfl, h⟩ := hP6
  refine X_tls ?_
  refine X_istore_n C dX4_hullOf_9 rfl (lo2 := [(2, _), (0, _), (1, _)]) (by decide) rfl ?_
  refine X_aload_n C dX4_hullOf_10 rfl 1 rfl (isRV_r _) ?_
  refine X_iconst (v := 1) C dX4_hullOf_11 rfl ?_
  refine X_putSI (ci := 4) (j := 36) (q := (RX4, TX4, 54)) C rfl (by decide) q1802 rfl rfl dX4_hullOf_12 (LX_S hX (k := 175) rfl) rfl rfl rfl ?_
  refine X_nm (fun s11 e12 => ?_)
  have h := h s11 e12
  refine X_iconst (v := 0) C dX4_hullOf_15 rfl ?_
  refine X_istore_n C dX4_hullOf_16 rfl (lo2 := [(3, _), (2, _), (0, _), (1, _)]) (by decide) rfl ?_
  refine X_sub [2, 3, 1, 0] (lo2 := [(0, _), (1, _), (2, _), (3, _)]) rfl ?_
  refine t_X4_hullOf_l17 hX hd C hn ?_ gFU s11 p1 r3 0 h
  · intro s24 x1 x2 h
    exact t_X4_hullOf_b40 hX hd C hn s24 x1 x2 h

def w_X4_hull_b15 (Φ : St → Int64 → Prop) (st : St) : Prop := w_X4_findsFar st 1 (fun (s11 : St) (r10 : Int64) => Φ s11 r10)
theorem t_X4_hull_b15 {θ : Th} {κ : Kx} {Ph : Ph} (hX : LX θ) {d : Nat} (hd : 10 ≤ d) (C : Cx θ κ yX4_hull cX4_hull 3 (some Jvm.ClassFile.FieldType.long) [] d) {Φ : St → Int64 → Prop} (hn : ∀ st r, Φ st r → Ph.1 st (some (.long r))) (st : St) (h : w_X4_hull_b15 Φ st) : X θ κ Ph st 15 [(0, .ref (ad θ 175))] [] := by
  unfold w_X4_hull_b15 at h
  refine X_aload_n C dX4_hull_15 rfl 0 rfl (isRV_r _) ?_
  refine X_iconst (v := 1) C dX4_hull_16 rfl ?_
  refine X_callVS (ci := 4) (q := (RX4, TX4, 54)) (As := [_]) (rest := []) C rfl (LX_S hX (k := 175) rfl) q2033 q2035 qs72 q136 q2036 ⟨rfl, nm_X4_findsFar⟩ rfl dX4_hull_17 (m_X4_findsFar (Cx_l C) hX (d := d - 1) (by omega) st 1 h) (by omega) (by decide) (Nat.le_of_ble_eq_true rfl) (fun s11 w12 hE13 hP14 => ?_) (fun s17 E15 q16 hE13 hP14 => ?_)
  rotate_left
  · exact False.elim hP14
  obtain ⟨r10, rfl, h⟩ := hP14
  refine X_tls ?_
  exact X_lret C rfl dX4_hull_20 (hn s11 _ h)
def w_X4_hull (st : St) (p1 : Int32) (p2 : Int32) (Φ : St → Int64 → Prop) : Prop := w_X4_isPoint st p1 (fun (r1 : Int32) => ((r1 = 0) → w_X4_hull_b15 Φ st) ∧ ((¬ r1 = 0) → w_X4_isPart p2 (fun (r18 : Int32) => ((r18 ≠ 0) → w_X4_begins st (fun (s28 : St) => w_X4_hullOf s28 p1 (fun (s36 : St) => (((sI s36 175 20) = 0) → ((p2 ≠ 0) → Φ s36 (sL s36 175 19)) ∧ ((p2 = 0) → Φ s36 (sL s36 175 18))) ∧ ((¬ (sI s36 175 20) = 0) → w_X4_findsFar s36 6 (fun (s46 : St) (r45 : Int64) => Φ s46 r45))))) ∧ ((r18 = 0) → w_X4_hull_b15 Φ st))))
theorem nm_X4_hull : yX4_hull.cls ≠ "java/lang/invoke/MethodHandle" ∧ yX4_hull.cls ≠ "java/lang/invoke/VarHandle" ∧ (parseMethodDescriptor yX4_hull.desc).map (fun d => d.parameters.length) = some 2 := by decide +kernel
theorem e_X4_hull : plainFor yX4_hull = true := plainFor_of_name (by decide +kernel)
theorem m_X4_hull {θ : Th} {l : Launch} (hl0 : l.stackTraces = false) (hX : LX θ) {d : Nat} (hd : 10 ≤ d) (st : St) (p1 : Int32) (p2 : Int32) {Φ : St → Int64 → Prop} (h : w_X4_hull st p1 p2 Φ) : Ct θ l yX4_hull (ws_ yX4_hull cX4_hull 3 (some Jvm.ClassFile.FieldType.long)) d [.ref (ad θ 175), .int p1, .int p2] st (pL Φ, noX) := by
  refine Ct_entry hl0 e_X4_hull (Nat.le_of_ble_eq_true rfl) (fun κ hκ _ C => ?_)
  have hn : ∀ st r, Φ st r → ((pL Φ, noX) : Ph).1 st (some (.long r)) := fun st r q => ⟨r, rfl, q⟩
  change X _ _ _ _ _ [(0, .ref (ad θ 175)), (1, .int p1), (2, .int p2)] _
  unfold w_X4_hull at h
  refine X_aload_n C dX4_hull_0 rfl 0 rfl (isRV_r _) ?_
  refine X_iload_n C dX4_hull_1 rfl 1 rfl ?_
  refine X_callVS (ci := 4) (q := (RX4, TX4, 54)) (As := [_]) (rest := []) C rfl (LX_S hX (k := 175) rfl) q1992 q1994 qs67 q136 q1995 ⟨rfl, nm_X4_isPoint⟩ rfl dX4_hull_2 (m_X4_isPoint (Cx_l C) hX (d := d - 1) (by omega) st p1 h) (by omega) (by decide) (Nat.le_of_ble_eq_true rfl) (fun s7 w2 hE3 hP4 => ?_) (fun s8 E5 q6 hE3 hP4 => ?_)
  rotate_left
  · exact False.elim hP4
  obtain ⟨r1, rfl, rfl, h⟩ := hP4
  refine X_tls ?_
  refine X_if_eq (tgt := 15) C dX4_hull_5 (by decide) (fun c9 => ?_) (fun c9 => ?_)
  · have h := h.1 c9
    refine X_sub [0] (lo2 := [(0, _)]) rfl ?_
    exact t_X4_hull_b15 hX hd C hn st h
  · have h := h.2 c9
    refine X_iload_n C dX4_hull_8 rfl 2 rfl ?_
    refine X_callS (As := [_]) (rest := []) C q2030 q2031 q136 q2032 nm_X4_isPart rfl dX4_hull_9 (m_X4_isPart (Cx_l C) hX (d := d - 1) (by omega) st p2 h) (by omega) (by decide) (Nat.le_of_ble_eq_true rfl) (fun s24 w19 hE20 hP21 => ?_) (fun s25 E22 q23 hE20 hP21 => ?_)
    rotate_left
    · exact False.elim hP21
    obtain ⟨r18, rfl, rfl, h⟩ := hP21
    refine X_tls ?_
    refine X_if_ne (tgt := 21) C dX4_hull_12 (by decide) (fun c26 => ?_) (fun c26 => ?_)
    · have h := h.1 c26
      refine X_aload_n C dX4_hull_21 rfl 0 rfl (isRV_r _) ?_
      refine X_callVS (ci := 4) (q := (RX4, TX4, 54)) (As := []) (rest := []) C rfl (LX_S hX (k := 175) rfl) q2038 q2040 qs73 q136 q2041 ⟨rfl, nm_X4_begins⟩ rfl dX4_hull_22 (m_X4_begins (Cx_l C) hX (d := d - 1) (by omega) st h) (by omega) (by decide) (Nat.le_of_ble_eq_true rfl) (fun s28 w29 hE30 hP31 => ?_) (fun s34 E32 q33 hE30 hP31 => ?_)
      rotate_left
      · exact False.elim hP31
      obtain ⟨rfl, h⟩ := hP31
      refine X_tln ?_
      refine X_aload_n C dX4_hull_25 rfl 0 rfl (isRV_r _) ?_
      refine X_iload_n C dX4_hull_26 rfl 1 rfl ?_
      refine X_callVS (ci := 4) (q := (RX4, TX4, 54)) (As := [_]) (rest := []) C rfl (LX_S hX (k := 175) rfl) q2156 q2158 qs96 q136 q2159 ⟨rfl, nm_X4_hullOf⟩ rfl dX4_hull_27 (m_X4_hullOf (Cx_l C) hX (d := d - 1) (by omega) s28 p1 h) (by omega) (by decide) (Nat.le_of_ble_eq_true rfl) (fun s36 w37 hE38 hP39 => ?_) (fun s42 E40 q41 hE38 hP39 => ?_)
      rotate_left
      · exact False.elim hP39
      obtain ⟨rfl, h⟩ := hP39
      refine X_tln ?_
      refine X_aload_n C dX4_hull_30 rfl 0 rfl (isRV_r _) ?_
      refine X_getS (ci := 4) (j := 20) (q := (RX4, TX4, 54)) C rfl (by decide) q1786 rfl dX4_hull_31 (LX_S hX (k := 175) rfl) (v := .int (sI s36 175 20)) rfl ?_
      refine X_if_eq (tgt := 46) C dX4_hull_34 (by decide) (fun c43 => ?_) (fun c43 => ?_)
      · have h := h.1 c43
        refine X_iload_n C dX4_hull_46 rfl 2 rfl ?_
        refine X_if_ne (tgt := 57) C dX4_hull_47 (by decide) (fun c44 => ?_) (fun c44 => ?_)
        · have h := h.1 c44
          refine X_aload_n C dX4_hull_57 rfl 0 rfl (isRV_r _) ?_
          refine X_getS (ci := 4) (j := 19) (q := (RX4, TX4, 54)) C rfl (by decide) q1785 rfl dX4_hull_58 (LX_S hX (k := 175) rfl) (v := .long (sL s36 175 19)) rfl ?_
          exact X_lret C rfl dX4_hull_61 (hn s36 _ h)
        · have h := h.2 c44
          refine X_aload_n C dX4_hull_50 rfl 0 rfl (isRV_r _) ?_
          refine X_getS (ci := 4) (j := 18) (q := (RX4, TX4, 54)) C rfl (by decide) q1784 rfl dX4_hull_51 (LX_S hX (k := 175) rfl) (v := .long (sL s36 175 18)) rfl ?_
          refine X_goto (tgt := 61) C dX4_hull_54 (by decide) ?_
          exact X_lret C rfl dX4_hull_61 (hn s36 _ h)
      · have h := h.2 c43
        refine X_aload_n C dX4_hull_37 rfl 0 rfl (isRV_r _) ?_
        refine X_bipush (v := 6) C dX4_hull_38 rfl ?_
        refine X_callVS (ci := 4) (q := (RX4, TX4, 54)) (As := [_]) (rest := []) C rfl (LX_S hX (k := 175) rfl) q2033 q2035 qs72 q136 q2036 ⟨rfl, nm_X4_findsFar⟩ rfl dX4_hull_40 (m_X4_findsFar (Cx_l C) hX (d := d - 1) (by omega) s36 6 h) (by omega) (by decide) (Nat.le_of_ble_eq_true rfl) (fun s46 w47 hE48 hP49 => ?_) (fun s52 E50 q51 hE48 hP49 => ?_)
        rotate_left
        · exact False.elim hP49
        obtain ⟨r45, rfl, h⟩ := hP49
        refine X_tls ?_
        refine X_goto (tgt := 61) C dX4_hull_43 (by decide) ?_
        exact X_lret C rfl dX4_hull_61 (hn s46 _ h)
    · have h := h.2 c26
      refine X_sub [0] (lo2 := [(0, _)]) rfl ?_
      exact t_X4_hull_b15 hX hd C hn st h

def w_X4_best_b20 (Φ : St → Int32 → Prop) (st : St) : Prop := w_X4_finds st 1 (fun (s11 : St) (r10 : Int32) => Φ s11 r10)
theorem t_X4_best_b20 {θ : Th} {κ : Kx} {Ph : Ph} (hX : LX θ) {d : Nat} (hd : 10 ≤ d) (C : Cx θ κ yX4_best cX4_best 3 (some Jvm.ClassFile.FieldType.int) [] d) {Φ : St → Int32 → Prop} (hn : ∀ st r, Φ st r → Ph.1 st (some (.int r))) (st : St) (h : w_X4_best_b20 Φ st) : X θ κ Ph st 20 [(0, .ref (ad θ 175))] [] := by
  unfold w_X4_best_b20 at h
  refine X_aload_n C dX4_best_20 rfl 0 rfl (isRV_r _) ?_
  refine X_iconst (v := 1) C dX4_best_21 rfl ?_
  refine X_callVS (ci := 4) (q := (RX4, TX4, 54)) (As := [_]) (rest := []) C rfl (LX_S hX (k := 175) rfl) q1939 q1941 qs63 q136 q1942 ⟨rfl, nm_X4_finds⟩ rfl dX4_best_22 (m_X4_finds (Cx_l C) hX (d := d - 1) (by omega) st 1 h) (by omega) (by decide) (Nat.le_of_ble_eq_true rfl) (fun s11 w12 hE13 hP14 => ?_) (fun s17 E15 q16 hE13 hP14 => ?_)
  rotate_left
  · exact False.elim hP14
  obtain ⟨r10, rfl, h⟩ := hP14
  refine X_tls ?_
  exact X_iret C rfl dX4_best_25 (hn s11 _ h)
def w_X4_best (st : St) (p1 : Int32) (p2 : Int32) (Φ : St → Int32 → Prop) : Prop := w_X4_isPoint st p1 (fun (r1 : Int32) => ((r1 = 0) → w_X4_best_b20 Φ st) ∧ ((¬ r1 = 0) → w_X4_isIn p2.toInt64 0 2 (fun (r18 : Int32) => ((r18 ≠ 0) → w_X4_begins st (fun (s28 : St) => w_X4_hullOf s28 p1 (fun (s36 : St) => (((sI s36 175 20) = 0) → ((p2 < (sI s36 175 41)) → vp_in p2 3 ∧ Φ s36 (sI s36 199 p2.toNatClampNeg)) ∧ ((¬ p2 < (sI s36 175 41)) → w_X4_finds s36 2 (fun (s47 : St) (r46 : Int32) => Φ s47 r46))) ∧ ((¬ (sI s36 175 20) = 0) → w_X4_finds s36 6 (fun (s55 : St) (r54 : Int32) => Φ s55 r54))))) ∧ ((r18 = 0) → w_X4_best_b20 Φ st))))
theorem nm_X4_best : yX4_best.cls ≠ "java/lang/invoke/MethodHandle" ∧ yX4_best.cls ≠ "java/lang/invoke/VarHandle" ∧ (parseMethodDescriptor yX4_best.desc).map (fun d => d.parameters.length) = some 2 := by decide +kernel
theorem e_X4_best : plainFor yX4_best = true := plainFor_of_name (by decide +kernel)
theorem m_X4_best {θ : Th} {l : Launch} (hl0 : l.stackTraces = false) (hX : LX θ) {d : Nat} (hd : 10 ≤ d) (st : St) (p1 : Int32) (p2 : Int32) {Φ : St → Int32 → Prop} (h : w_X4_best st p1 p2 Φ) : Ct θ l yX4_best (ws_ yX4_best cX4_best 3 (some Jvm.ClassFile.FieldType.int)) d [.ref (ad θ 175), .int p1, .int p2] st (pI Φ, noX) := by
  refine Ct_entry hl0 e_X4_best (Nat.le_of_ble_eq_true rfl) (fun κ hκ _ C => ?_)
  have hn : ∀ st r, Φ st r → ((pI Φ, noX) : Ph).1 st (some (.int r)) := fun st r q => ⟨r, rfl, q⟩
  change X _ _ _ _ _ [(0, .ref (ad θ 175)), (1, .int p1), (2, .int p2)] _
  unfold w_X4_best at h
  refine X_aload_n C dX4_best_0 rfl 0 rfl (isRV_r _) ?_
  refine X_iload_n C dX4_best_1 rfl 1 rfl ?_
  refine X_callVS (ci := 4) (q := (RX4, TX4, 54)) (As := [_]) (rest := []) C rfl (LX_S hX (k := 175) rfl) q1992 q1994 qs67 q136 q1995 ⟨rfl, nm_X4_isPoint⟩ rfl dX4_best_2 (m_X4_isPoint (Cx_l C) hX (d := d - 1) (by omega) st p1 h) (by omega) (by decide) (Nat.le_of_ble_eq_true rfl) (fun s7 w2 hE3 hP4 => ?_) (fun s8 E5 q6 hE3 hP4 => ?_)
  rotate_left
  · exact False.elim hP4
  obtain ⟨r1, rfl, rfl, h⟩ := hP4
  refine X_tls ?_
  refine X_if_eq (tgt := 20) C dX4_best_5 (by decide) (fun c9 => ?_) (fun c9 => ?_)
  · have h := h.1 c9
    refine X_sub [0] (lo2 := [(0, _)]) rfl ?_
    exact t_X4_best_b20 hX hd C hn st h
  · have h := h.2 c9
    refine X_iload_n C dX4_best_8 rfl 2 rfl ?_
    refine X_i2l C dX4_best_9 ?_
    refine X_lconst (v := 0) C dX4_best_10 rfl ?_
    refine X_ldc2 C q1934 dX4_best_11 ?_
    refine X_callS (As := [_, _, _]) (rest := []) C q1936 q1937 q136 q1938 nm_X4_isIn rfl dX4_best_14 (m_X4_isIn (Cx_l C) hX (d := d - 1) (by omega) st p2.toInt64 0 2 h) (by omega) (by decide) (Nat.le_of_ble_eq_true rfl) (fun s24 w19 hE20 hP21 => ?_) (fun s25 E22 q23 hE20 hP21 => ?_)
    rotate_left
    · exact False.elim hP21
    obtain ⟨r18, rfl, rfl, h⟩ := hP21
    refine X_tls ?_
    refine X_if_ne (tgt := 26) C dX4_best_17 (by decide) (fun c26 => ?_) (fun c26 => ?_)
    · have h := h.1 c26
      refine X_aload_n C dX4_best_26 rfl 0 rfl (isRV_r _) ?_
      refine X_callVS (ci := 4) (q := (RX4, TX4, 54)) (As := []) (rest := []) C rfl (LX_S hX (k := 175) rfl) q2038 q2040 qs73 q136 q2041 ⟨rfl, nm_X4_begins⟩ rfl dX4_best_27 (m_X4_begins (Cx_l C) hX (d := d - 1) (by omega) st h) (by omega) (by decide) (Nat.le_of_ble_eq_true rfl) (fun s28 w29 hE30 hP31 => ?_) (fun s34 E32 q33 hE30 hP31 => ?_)
      rotate_left
      · exact False.elim hP31
      obtain ⟨rfl, h⟩ := hP31
      refine X_tln ?_
      refine X_aload_n C dX4_best_30 rfl 0 rfl (isRV_r _) ?_
      refine X_iload_n C dX4_best_31 rfl 1 rfl ?_
      refine X_callVS (ci := 4) (q := (RX4, TX4, 54)) (As := [_]) (rest := []) C rfl (LX_S hX (k := 175) rfl) q2156 q2158 qs96 q136 q2159 ⟨rfl, nm_X4_hullOf⟩ rfl dX4_best_32 (m_X4_hullOf (Cx_l C) hX (d := d - 1) (by omega) s28 p1 h) (by omega) (by decide) (Nat.le_of_ble_eq_true rfl) (fun s36 w37 hE38 hP39 => ?_) (fun s42 E40 q41 hE38 hP39 => ?_)
      rotate_left
      · exact False.elim hP39
      obtain ⟨rfl, h⟩ := hP39
      refine X_tln ?_
      refine X_aload_n C dX4_best_35 rfl 0 rfl (isRV_r _) ?_
      refine X_getS (ci := 4) (j := 20) (q := (RX4, TX4, 54)) C rfl (by decide) q1786 rfl dX4_best_36 (LX_S hX (k := 175) rfl) (v := .int (sI s36 175 20)) rfl ?_
      refine X_if_eq (tgt := 51) C dX4_best_39 (by decide) (fun c43 => ?_) (fun c43 => ?_)
      · have h := h.1 c43
        refine X_iload_n C dX4_best_51 rfl 2 rfl ?_
        refine X_aload_n C dX4_best_52 rfl 0 rfl (isRV_r _) ?_
        refine X_getS (ci := 4) (j := 41) (q := (RX4, TX4, 54)) C rfl (by decide) q1807 rfl dX4_best_53 (LX_S hX (k := 175) rfl) (v := .int (sI s36 175 41)) rfl ?_
        refine X_icmp_lt (tgt := 67) C dX4_best_56 (by decide) (fun c44 => ?_) (fun c44 => ?_)
        · have h := h.1 c44
          refine X_aload_n C dX4_best_67 rfl 0 rfl (isRV_r _) ?_
          refine X_getF (ci := 4) (j := 39) (q := (RX4, TX4, 54)) C rfl (by decide) q1805 rfl dX4_best_68 (b := 199) (LX_S hX (k := 175) rfl) (LX_F hX (k := 175) (j := 39) rfl) rfl ?_
          refine X_iload_n C dX4_best_71 rfl 2 rfl ?_
          have g45 := h.1
          have h := h.2
          refine X_ialdS C (LX_S hX (k := 199) rfl) (LX_L hX (k := 199) rfl) g45 rfl dX4_best_72 ?_
          exact X_iret C rfl dX4_best_73 (hn s36 _ h)
        · have h := h.2 c44
          refine X_aload_n C dX4_best_59 rfl 0 rfl (isRV_r _) ?_
          refine X_iconst (v := 2) C dX4_best_60 rfl ?_
          refine X_callVS (ci := 4) (q := (RX4, TX4, 54)) (As := [_]) (rest := []) C rfl (LX_S hX (k := 175) rfl) q1939 q1941 qs63 q136 q1942 ⟨rfl, nm_X4_finds⟩ rfl dX4_best_61 (m_X4_finds (Cx_l C) hX (d := d - 1) (by omega) s36 2 h) (by omega) (by decide) (Nat.le_of_ble_eq_true rfl) (fun s47 w48 hE49 hP50 => ?_) (fun s53 E51 q52 hE49 hP50 => ?_)
          rotate_left
          · exact False.elim hP50
          obtain ⟨r46, rfl, h⟩ := hP50
          refine X_tls ?_
          refine X_goto (tgt := 73) C dX4_best_64 (by decide) ?_
          exact X_iret C rfl dX4_best_73 (hn s47 _ h)
      · have h := h.2 c43
        refine X_aload_n C dX4_best_42 rfl 0 rfl (isRV_r _) ?_
        refine X_bipush (v := 6) C dX4_best_43 rfl ?_
        refine X_callVS (ci := 4) (q := (RX4, TX4, 54)) (As := [_]) (rest := []) C rfl (LX_S hX (k := 175) rfl) q1939 q1941 qs63 q136 q1942 ⟨rfl, nm_X4_finds⟩ rfl dX4_best_45 (m_X4_finds (Cx_l C) hX (d := d - 1) (by omega) s36 6 h) (by omega) (by decide) (Nat.le_of_ble_eq_true rfl) (fun s55 w56 hE57 hP58 => ?_) (fun s61 E59 q60 hE57 hP58 => ?_)
        rotate_left
        · exact False.elim hP58
        obtain ⟨r54, rfl, h⟩ := hP58
        refine X_tls ?_
        refine X_goto (tgt := 73) C dX4_best_48 (by decide) ?_
        exact X_iret C rfl dX4_best_73 (hn s55 _ h)
    · have h := h.2 c26
      refine X_sub [0] (lo2 := [(0, _)]) rfl ?_
      exact t_X4_best_b20 hX hd C hn st h

def w_X4_weight_b27 (Φ : St → Int64 → Prop) (st : St) : Prop := w_X4_findsFar st 1 (fun (s11 : St) (r10 : Int64) => Φ s11 r10)
theorem t_X4_weight_b27 {θ : Th} {κ : Kx} {Ph : Ph} (hX : LX θ) {d : Nat} (hd : 10 ≤ d) (C : Cx θ κ yX4_weight cX4_weight 4 (some Jvm.ClassFile.FieldType.long) [] d) {Φ : St → Int64 → Prop} (hn : ∀ st r, Φ st r → Ph.1 st (some (.long r))) (st : St) (h : w_X4_weight_b27 Φ st) : X θ κ Ph st 27 [(0, .ref (ad θ 175))] [] := by
  unfold w_X4_weight_b27 at h
  refine X_aload_n C dX4_weight_27 rfl 0 rfl (isRV_r _) ?_
  refine X_iconst (v := 1) C dX4_weight_28 rfl ?_
  refine X_callVS (ci := 4) (q := (RX4, TX4, 54)) (As := [_]) (rest := []) C rfl (LX_S hX (k := 175) rfl) q2033 q2035 qs72 q136 q2036 ⟨rfl, nm_X4_findsFar⟩ rfl dX4_weight_29 (m_X4_findsFar (Cx_l C) hX (d := d - 1) (by omega) st 1 h) (by omega) (by decide) (Nat.le_of_ble_eq_true rfl) (fun s11 w12 hE13 hP14 => ?_) (fun s17 E15 q16 hE13 hP14 => ?_)
  rotate_left
  · exact False.elim hP14
  obtain ⟨r10, rfl, h⟩ := hP14
  refine X_tls ?_
  exact X_lret C rfl dX4_weight_32 (hn s11 _ h)
def w_X4_weight (st : St) (p1 : Int32) (p2 : Int32) (p3 : Int32) (Φ : St → Int64 → Prop) : Prop := w_X4_isPoint st p1 (fun (r1 : Int32) => ((r1 = 0) → w_X4_weight_b27 Φ st) ∧ ((¬ r1 = 0) → w_X4_isIn p2.toInt64 0 2 (fun (r18 : Int32) => ((r18 = 0) → w_X4_weight_b27 Φ st) ∧ ((¬ r18 = 0) → w_X4_isPart p3 (fun (r27 : Int32) => ((r27 ≠ 0) → w_X4_begins st (fun (s37 : St) => w_X4_hullOf s37 p1 (fun (s45 : St) => (((sI s45 175 20) = 0) → ((p2 < (sI s45 175 41)) → vp_in p2 3 ∧ w_X4_lowest s45 (sL s45 200 p2.toNatClampNeg) (sL s45 175 42) (fun (s56 : St) => ((p3 ≠ 0) → Φ s56 (sL s56 175 19)) ∧ ((p3 = 0) → Φ s56 (sL s56 175 18)))) ∧ ((¬ p2 < (sI s45 175 41)) → w_X4_findsFar s45 2 (fun (s65 : St) (r64 : Int64) => Φ s65 r64))) ∧ ((¬ (sI s45 175 20) = 0) → w_X4_findsFar s45 6 (fun (s73 : St) (r72 : Int64) => Φ s73 r72))))) ∧ ((r27 = 0) → w_X4_weight_b27 Φ st))))))
theorem nm_X4_weight : yX4_weight.cls ≠ "java/lang/invoke/MethodHandle" ∧ yX4_weight.cls ≠ "java/lang/invoke/VarHandle" ∧ (parseMethodDescriptor yX4_weight.desc).map (fun d => d.parameters.length) = some 3 := by decide +kernel
theorem e_X4_weight : plainFor yX4_weight = true := plainFor_of_name (by decide +kernel)
theorem m_X4_weight {θ : Th} {l : Launch} (hl0 : l.stackTraces = false) (hX : LX θ) {d : Nat} (hd : 10 ≤ d) (st : St) (p1 : Int32) (p2 : Int32) (p3 : Int32) {Φ : St → Int64 → Prop} (h : w_X4_weight st p1 p2 p3 Φ) : Ct θ l yX4_weight (ws_ yX4_weight cX4_weight 4 (some Jvm.ClassFile.FieldType.long)) d [.ref (ad θ 175), .int p1, .int p2, .int p3] st (pL Φ, noX) := by
  refine Ct_entry hl0 e_X4_weight (Nat.le_of_ble_eq_true rfl) (fun κ hκ _ C => ?_)
  have hn : ∀ st r, Φ st r → ((pL Φ, noX) : Ph).1 st (some (.long r)) := fun st r q => ⟨r, rfl, q⟩
  change X _ _ _ _ _ [(0, .ref (ad θ 175)), (1, .int p1), (2, .int p2), (3, .int p3)] _
  unfold w_X4_weight at h
  refine X_aload_n C dX4_weight_0 rfl 0 rfl (isRV_r _) ?_
  refine X_iload_n C dX4_weight_1 rfl 1 rfl ?_
  refine X_callVS (ci := 4) (q := (RX4, TX4, 54)) (As := [_]) (rest := []) C rfl (LX_S hX (k := 175) rfl) q1992 q1994 qs67 q136 q1995 ⟨rfl, nm_X4_isPoint⟩ rfl dX4_weight_2 (m_X4_isPoint (Cx_l C) hX (d := d - 1) (by omega) st p1 h) (by omega) (by decide) (Nat.le_of_ble_eq_true rfl) (fun s7 w2 hE3 hP4 => ?_) (fun s8 E5 q6 hE3 hP4 => ?_)
  rotate_left
  · exact False.elim hP4
  obtain ⟨r1, rfl, rfl, h⟩ := hP4
  refine X_tls ?_
  refine X_if_eq (tgt := 27) C dX4_weight_5 (by decide) (fun c9 => ?_) (fun c9 => ?_)
  · have h := h.1 c9
    refine X_sub [0] (lo2 := [(0, _)]) rfl ?_
    exact t_X4_weight_b27 hX hd C hn st h
  · have h := h.2 c9
    refine X_iload_n C dX4_weight_8 rfl 2 rfl ?_
    refine X_i2l C dX4_weight_9 ?_
    refine X_lconst (v := 0) C dX4_weight_10 rfl ?_
    refine X_ldc2 C q1934 dX4_weight_11 ?_
    refine X_callS (As := [_, _, _]) (rest := []) C q1936 q1937 q136 q1938 nm_X4_isIn rfl dX4_weight_14 (m_X4_isIn (Cx_l C) hX (d := d - 1) (by omega) st p2.toInt64 0 2 h) (by omega) (by decide) (Nat.le_of_ble_eq_true rfl) (fun s24 w19 hE20 hP21 => ?_) (fun s25 E22 q23 hE20 hP21 => ?_)
    rotate_left
    · exact False.elim hP21
    obtain ⟨r18, rfl, rfl, h⟩ := hP21
    refine X_tls ?_
    refine X_if_eq (tgt := 27) C dX4_weight_17 (by decide) (fun c26 => ?_) (fun c26 => ?_)
    · have h := h.1 c26
      refine X_sub [0] (lo2 := [(0, _)]) rfl ?_
      exact t_X4_weight_b27 hX hd C hn st h
    · have h := h.2 c26
      refine X_iload_n C dX4_weight_20 rfl 3 rfl ?_
      refine X_callS (As := [_]) (rest := []) C q2030 q2031 q136 q2032 nm_X4_isPart rfl dX4_weight_21 (m_X4_isPart (Cx_l C) hX (d := d - 1) (by omega) st p3 h) (by omega) (by decide) (Nat.le_of_ble_eq_true rfl) (fun s33 w28 hE29 hP30 => ?_) (fun s34 E31 q32 hE29 hP30 => ?_)
      rotate_left
      · exact False.elim hP30
      obtain ⟨r27, rfl, rfl, h⟩ := hP30
      refine X_tls ?_
      refine X_if_ne (tgt := 33) C dX4_weight_24 (by decide) (fun c35 => ?_) (fun c35 => ?_)
      · have h := h.1 c35
        refine X_aload_n C dX4_weight_33 rfl 0 rfl (isRV_r _) ?_
        refine X_callVS (ci := 4) (q := (RX4, TX4, 54)) (As := []) (rest := []) C rfl (LX_S hX (k := 175) rfl) q2038 q2040 qs73 q136 q2041 ⟨rfl, nm_X4_begins⟩ rfl dX4_weight_34 (m_X4_begins (Cx_l C) hX (d := d - 1) (by omega) st h) (by omega) (by decide) (Nat.le_of_ble_eq_true rfl) (fun s37 w38 hE39 hP40 => ?_) (fun s43 E41 q42 hE39 hP40 => ?_)
        rotate_left
        · exact False.elim hP40
        obtain ⟨rfl, h⟩ := hP40
        refine X_tln ?_
        refine X_aload_n C dX4_weight_37 rfl 0 rfl (isRV_r _) ?_
        refine X_iload_n C dX4_weight_38 rfl 1 rfl ?_
        refine X_callVS (ci := 4) (q := (RX4, TX4, 54)) (As := [_]) (rest := []) C rfl (LX_S hX (k := 175) rfl) q2156 q2158 qs96 q136 q2159 ⟨rfl, nm_X4_hullOf⟩ rfl dX4_weight_39 (m_X4_hullOf (Cx_l C) hX (d := d - 1) (by omega) s37 p1 h) (by omega) (by decide) (Nat.le_of_ble_eq_true rfl) (fun s45 w46 hE47 hP48 => ?_) (fun s51 E49 q50 hE47 hP48 => ?_)
        rotate_left
        · exact False.elim hP48
        obtain ⟨rfl, h⟩ := hP48
        refine X_tln ?_
        refine X_aload_n C dX4_weight_42 rfl 0 rfl (isRV_r _) ?_
        refine X_getS (ci := 4) (j := 20) (q := (RX4, TX4, 54)) C rfl (by decide) q1786 rfl dX4_weight_43 (LX_S hX (k := 175) rfl) (v := .int (sI s45 175 20)) rfl ?_
        refine X_if_eq (tgt := 56) C dX4_weight_46 (by decide) (fun c52 => ?_) (fun c52 => ?_)
        · have h := h.1 c52
          refine X_iload_n C dX4_weight_56 rfl 2 rfl ?_
          refine X_aload_n C dX4_weight_57 rfl 0 rfl (isRV_r _) ?_
          refine X_getS (ci := 4) (j := 41) (q := (RX4, TX4, 54)) C rfl (by decide) q1807 rfl dX4_weight_58 (LX_S hX (k := 175) rfl) (v := .int (sI s45 175 41)) rfl ?_
          refine X_icmp_lt (tgt := 70) C dX4_weight_61 (by decide) (fun c53 => ?_) (fun c53 => ?_)
          · have h := h.1 c53
            refine X_aload_n C dX4_weight_70 rfl 0 rfl (isRV_r _) ?_
            refine X_aload_n C dX4_weight_71 rfl 0 rfl (isRV_r _) ?_
            refine X_getF (ci := 4) (j := 40) (q := (RX4, TX4, 54)) C rfl (by decide) q1806 rfl dX4_weight_72 (b := 200) (LX_S hX (k := 175) rfl) (LX_F hX (k := 175) (j := 40) rfl) rfl ?_
            refine X_iload_n C dX4_weight_75 rfl 2 rfl ?_
            have g54 := h.1
            have h := h.2
            refine X_laldS C (LX_S hX (k := 200) rfl) (LX_L hX (k := 200) rfl) g54 rfl dX4_weight_76 ?_
            refine X_aload_n C dX4_weight_77 rfl 0 rfl (isRV_r _) ?_
            refine X_getS (ci := 4) (j := 42) (q := (RX4, TX4, 54)) C rfl (by decide) q1808 rfl dX4_weight_78 (LX_S hX (k := 175) rfl) (v := .long (sL s45 175 42)) rfl ?_
            refine X_callVS (ci := 4) (q := (RX4, TX4, 54)) (As := [_, _]) (rest := []) C rfl (LX_S hX (k := 175) rfl) q2081 q2083 qs82 q136 q2084 ⟨rfl, nm_X4_lowest⟩ rfl dX4_weight_81 (m_X4_lowest (Cx_l C) hX (d := d - 1) (by omega) s45 (sL s45 200 p2.toNatClampNeg) (sL s45 175 42) h) (by omega) (by decide) (Nat.le_of_ble_eq_true rfl) (fun s56 w57 hE58 hP59 => ?_) (fun s62 E60 q61 hE58 hP59 => ?_)
            rotate_left
            · exact False.elim hP59
            obtain ⟨rfl, h⟩ := hP59
            refine X_tln ?_
            refine X_iload_n C dX4_weight_84 rfl 3 rfl ?_
            refine X_if_ne (tgt := 95) C dX4_weight_85 (by decide) (fun c63 => ?_) (fun c63 => ?_)
            · have h := h.1 c63
              refine X_aload_n C dX4_weight_95 rfl 0 rfl (isRV_r _) ?_
              refine X_getS (ci := 4) (j := 19) (q := (RX4, TX4, 54)) C rfl (by decide) q1785 rfl dX4_weight_96 (LX_S hX (k := 175) rfl) (v := .long (sL s56 175 19)) rfl ?_
              exact X_lret C rfl dX4_weight_99 (hn s56 _ h)
            · have h := h.2 c63
              refine X_aload_n C dX4_weight_88 rfl 0 rfl (isRV_r _) ?_
              refine X_getS (ci := 4) (j := 18) (q := (RX4, TX4, 54)) C rfl (by decide) q1784 rfl dX4_weight_89 (LX_S hX (k := 175) rfl) (v := .long (sL s56 175 18)) rfl ?_
              refine X_goto (tgt := 99) C dX4_weight_92 (by decide) ?_
              exact X_lret C rfl dX4_weight_99 (hn s56 _ h)
          · have h := h.2 c53
            refine X_aload_n C dX4_weight_64 rfl 0 rfl (isRV_r _) ?_
            refine X_iconst (v := 2) C dX4_weight_65 rfl ?_
            refine X_callVS (ci := 4) (q := (RX4, TX4, 54)) (As := [_]) (rest := []) C rfl (LX_S hX (k := 175) rfl) q2033 q2035 qs72 q136 q2036 ⟨rfl, nm_X4_findsFar⟩ rfl dX4_weight_66 (m_X4_findsFar (Cx_l C) hX (d := d - 1) (by omega) s45 2 h) (by omega) (by decide) (Nat.le_of_ble_eq_true rfl) (fun s65 w66 hE67 hP68 => ?_) (fun s71 E69 q70 hE67 hP68 => ?_)
            rotate_left
            · exact False.elim hP68
            obtain ⟨r64, rfl, h⟩ := hP68
            refine X_tls ?_
            exact X_lret C rfl dX4_weight_69 (hn s65 _ h)
        · have h := h.2 c52
          refine X_aload_n C dX4_weight_49 rfl 0 rfl (isRV_r _) ?_
          refine X_bipush (v := 6) C dX4_weight_50 rfl ?_
          refine X_callVS (ci := 4) (q := (RX4, TX4, 54)) (As := [_]) (rest := []) C rfl (LX_S hX (k := 175) rfl) q2033 q2035 qs72 q136 q2036 ⟨rfl, nm_X4_findsFar⟩ rfl dX4_weight_52 (m_X4_findsFar (Cx_l C) hX (d := d - 1) (by omega) s45 6 h) (by omega) (by decide) (Nat.le_of_ble_eq_true rfl) (fun s73 w74 hE75 hP76 => ?_) (fun s79 E77 q78 hE75 hP76 => ?_)
          rotate_left
          · exact False.elim hP76
          obtain ⟨r72, rfl, h⟩ := hP76
          refine X_tls ?_
          exact X_lret C rfl dX4_weight_55 (hn s73 _ h)
      · have h := h.2 c35
        refine X_sub [0] (lo2 := [(0, _)]) rfl ?_
        exact t_X4_weight_b27 hX hd C hn st h

def w_X4_points_2_b164 (Φ : St → Int32 → Prop) (K41 : St → Int32 → Int32 → Int32 → Int32 → Int32 → Prop) (st : St) (x1 : Int32) (x2 : Int32) (x3 : Int32) (x4 : Int32) (x5 : Int32) : Prop := K41 st x1 x2 x3 x4 (x5 + 1)
theorem t_X4_points_2_b164 {θ : Th} {κ : Kx} {Ph : Ph} (hX : LX θ) {d : Nat} (hd : 10 ≤ d) (C : Cx θ κ yX4_points_2 cX4_points_2 10 (some Jvm.ClassFile.FieldType.int) [] d) {Φ : St → Int32 → Prop} (hn : ∀ st r, Φ st r → Ph.1 st (some (.int r))) {K41 : St → Int32 → Int32 → Int32 → Int32 → Int32 → Prop} (hK41 : ∀ (st : St) (x1 : Int32) (x2 : Int32) (x3 : Int32) (x4 : Int32) (x5 : Int32), K41 st x1 x2 x3 x4 x5 → X θ κ Ph st 41 [(0, .ref (ad θ 175)), (1, .int x1), (2, .int x2), (3, .int x3), (4, .int x4), (5, .int x5)] []) (st : St) (x1 : Int32) (x2 : Int32) (x3 : Int32) (x4 : Int32) (x5 : Int32) (h : w_X4_points_2_b164 Φ K41 st x1 x2 x3 x4 x5) : X θ κ Ph st 164 [(0, .ref (ad θ 175)), (1, .int x1), (2, .int x2), (3, .int x3), (4, .int x4), (5, .int x5)] [] := by
  unfold w_X4_points_2_b164 at h
  refine X_iinc (v := (x5 + 1)) C (j := 5) dX4_points_2_164 rfl rfl (lo2 := [(5, _), (0, _), (1, _), (2, _), (3, _), (4, _)]) (by decide) rfl ?_
  refine X_goto (tgt := 41) C dX4_points_2_167 (by decide) ?_
  refine X_sub [1, 2, 3, 4, 5, 0] (lo2 := [(0, _), (1, _), (2, _), (3, _), (4, _), (5, _)]) rfl ?_
  exact hK41 st x1 x2 x3 x4 (x5 + 1) h
def w_X4_points_2_b163 (Φ : St → Int32 → Prop) (K41 : St → Int32 → Int32 → Int32 → Int32 → Int32 → Prop) (st : St) (x1 : Int32) (x2 : Int32) (x4 : Int32) (x5 : Int32) (z0 : Int32) : Prop := w_X4_points_2_b164 Φ K41 st x1 x2 z0 x4 x5
theorem t_X4_points_2_b163 {θ : Th} {κ : Kx} {Ph : Ph} (hX : LX θ) {d : Nat} (hd : 10 ≤ d) (C : Cx θ κ yX4_points_2 cX4_points_2 10 (some Jvm.ClassFile.FieldType.int) [] d) {Φ : St → Int32 → Prop} (hn : ∀ st r, Φ st r → Ph.1 st (some (.int r))) {K41 : St → Int32 → Int32 → Int32 → Int32 → Int32 → Prop} (hK41 : ∀ (st : St) (x1 : Int32) (x2 : Int32) (x3 : Int32) (x4 : Int32) (x5 : Int32), K41 st x1 x2 x3 x4 x5 → X θ κ Ph st 41 [(0, .ref (ad θ 175)), (1, .int x1), (2, .int x2), (3, .int x3), (4, .int x4), (5, .int x5)] []) (st : St) (x1 : Int32) (x2 : Int32) (x4 : Int32) (x5 : Int32) (z0 : Int32) (h : w_X4_points_2_b163 Φ K41 st x1 x2 x4 x5 z0) : X θ κ Ph st 163 [(0, .ref (ad θ 175)), (1, .int x1), (2, .int x2), (4, .int x4), (5, .int x5)] [.int z0] := by
  unfold w_X4_points_2_b163 at h
  refine X_istore_n C dX4_points_2_163 rfl (lo2 := [(3, _), (0, _), (1, _), (2, _), (4, _), (5, _)]) (by decide) rfl ?_
  refine X_sub [1, 2, 3, 0, 4, 5] (lo2 := [(0, _), (1, _), (2, _), (3, _), (4, _), (5, _)]) rfl ?_
  exact t_X4_points_2_b164 hX hd C hn hK41 st x1 x2 z0 x4 x5 h
def w_X4_points_2_b162 (Φ : St → Int32 → Prop) (K41 : St → Int32 → Int32 → Int32 → Int32 → Int32 → Prop) (st : St) (x1 : Int32) (x2 : Int32) (x3 : Int32) (x4 : Int32) (x5 : Int32) : Prop := w_X4_points_2_b163 Φ K41 st x1 x2 x4 x5 x3
theorem t_X4_points_2_b162 {θ : Th} {κ : Kx} {Ph : Ph} (hX : LX θ) {d : Nat} (hd : 10 ≤ d) (C : Cx θ κ yX4_points_2 cX4_points_2 10 (some Jvm.ClassFile.FieldType.int) [] d) {Φ : St → Int32 → Prop} (hn : ∀ st r, Φ st r → Ph.1 st (some (.int r))) {K41 : St → Int32 → Int32 → Int32 → Int32 → Int32 → Prop} (hK41 : ∀ (st : St) (x1 : Int32) (x2 : Int32) (x3 : Int32) (x4 : Int32) (x5 : Int32), K41 st x1 x2 x3 x4 x5 → X θ κ Ph st 41 [(0, .ref (ad θ 175)), (1, .int x1), (2, .int x2), (3, .int x3), (4, .int x4), (5, .int x5)] []) (st : St) (x1 : Int32) (x2 : Int32) (x3 : Int32) (x4 : Int32) (x5 : Int32) (h : w_X4_points_2_b162 Φ K41 st x1 x2 x3 x4 x5) : X θ κ Ph st 162 [(0, .ref (ad θ 175)), (1, .int x1), (2, .int x2), (3, .int x3), (4, .int x4), (5, .int x5)] [] := by
  unfold w_X4_points_2_b162 at h
  refine X_iload_n C dX4_points_2_162 rfl 3 rfl ?_
  refine X_sub [0, 1, 2, 4, 5] (lo2 := [(0, _), (1, _), (2, _), (4, _), (5, _)]) rfl ?_
  exact t_X4_points_2_b163 hX hd C hn hK41 st x1 x2 x4 x5 x3 h
def w_X4_points_2_b142 (Φ : St → Int32 → Prop) (K41 : St → Int32 → Int32 → Int32 → Int32 → Int32 → Prop) (st : St) (x1 : Int32) (x3 : Int32) (x4 : Int32) (x5 : Int32) (z0 : Int32) (z1 : Int32) : Prop := ∀ v63 : Int32, v63 = (z1 + z0) → ((0 ≤ x3) → w_X4_points_2_b162 Φ K41 st x1 v63 x3 x4 x5) ∧ ((¬ 0 ≤ x3) → (((sL st 175 18) ≤ 0) → w_X4_points_2_b162 Φ K41 st x1 v63 x3 x4 x5) ∧ ((¬ (sL st 175 18) ≤ 0) → w_X4_points_2_b163 Φ K41 st x1 v63 x4 x5 x5))
theorem t_X4_points_2_b142 {θ : Th} {κ : Kx} {Ph : Ph} (hX : LX θ) {d : Nat} (hd : 10 ≤ d) (C : Cx θ κ yX4_points_2 cX4_points_2 10 (some Jvm.ClassFile.FieldType.int) [] d) {Φ : St → Int32 → Prop} (hn : ∀ st r, Φ st r → Ph.1 st (some (.int r))) {K41 : St → Int32 → Int32 → Int32 → Int32 → Int32 → Prop} (hK41 : ∀ (st : St) (x1 : Int32) (x2 : Int32) (x3 : Int32) (x4 : Int32) (x5 : Int32), K41 st x1 x2 x3 x4 x5 → X θ κ Ph st 41 [(0, .ref (ad θ 175)), (1, .int x1), (2, .int x2), (3, .int x3), (4, .int x4), (5, .int x5)] []) (st : St) (x1 : Int32) (x3 : Int32) (x4 : Int32) (x5 : Int32) (z0 : Int32) (z1 : Int32) (h : w_X4_points_2_b142 Φ K41 st x1 x3 x4 x5 z0 z1) : X θ κ Ph st 142 [(0, .ref (ad θ 175)), (1, .int x1), (3, .int x3), (4, .int x4), (5, .int x5)] [.int z0, .int z1] := by
  unfold w_X4_points_2_b142 at h
  refine X_iadd C dX4_points_2_142 ?_
  refine X_topi (fun v63 e64 => ?_)
  have h := h v63 e64
  refine X_istore_n C dX4_points_2_143 rfl (lo2 := [(2, _), (0, _), (1, _), (3, _), (4, _), (5, _)]) (by decide) rfl ?_
  refine X_iload_n C dX4_points_2_144 rfl 3 rfl ?_
  refine X_if_ge (tgt := 162) C dX4_points_2_145 (by decide) (fun c65 => ?_) (fun c65 => ?_)
  · have h := h.1 c65
    refine X_sub [1, 2, 0, 3, 4, 5] (lo2 := [(0, _), (1, _), (2, _), (3, _), (4, _), (5, _)]) rfl ?_
    exact t_X4_points_2_b162 hX hd C hn hK41 st x1 v63 x3 x4 x5 h
  · have h := h.2 c65
    refine X_aload_n C dX4_points_2_148 rfl 1 rfl (isRV_r _) ?_
    refine X_getS (ci := 4) (j := 18) (q := (RX4, TX4, 54)) C rfl (by decide) q1784 rfl dX4_points_2_149 (LX_S hX (k := 175) rfl) (v := .long (sL st 175 18)) rfl ?_
    refine X_lconst (v := 0) C dX4_points_2_152 rfl ?_
    refine X_lcmp_le (tgt := 162) C dX4_points_2_153 dX4_points_2_154 (by decide) (fun c66 => ?_) (fun c66 => ?_)
    · have h := h.1 c66
      refine X_sub [1, 2, 0, 3, 4, 5] (lo2 := [(0, _), (1, _), (2, _), (3, _), (4, _), (5, _)]) rfl ?_
      exact t_X4_points_2_b162 hX hd C hn hK41 st x1 v63 x3 x4 x5 h
    · have h := h.2 c66
      refine X_iload C dX4_points_2_157 5 rfl ?_
      refine X_goto (tgt := 163) C dX4_points_2_159 (by decide) ?_
      refine X_sub [1, 2, 0, 4, 5] (lo2 := [(0, _), (1, _), (2, _), (4, _), (5, _)]) rfl ?_
      exact t_X4_points_2_b163 hX hd C hn hK41 st x1 v63 x4 x5 x5 h
def w_X4_points_2_b78 (Φ : St → Int32 → Prop) (K41 : St → Int32 → Int32 → Int32 → Int32 → Int32 → Prop) (st : St) (x1 : Int32) (x2 : Int32) (x3 : Int32) (x5 : Int32) (z0 : Int32) (z1 : Int32) : Prop := ∀ v38 : Int32, v38 = (z1 + z0) → ((3 ≤ x1) → w_X4_points_2_b164 Φ K41 st x1 x2 x3 v38 x5) ∧ ((¬ 3 ≤ x1) → (((sI st 175 20) ≠ 0) → w_X4_points_2_b164 Φ K41 st x1 x2 x3 v38 x5) ∧ (((sI st 175 20) = 0) → ∀ v42 : Int64, v42 = (sL st 175 18) → ∀ v44 : Int64, v44 = (sL st 175 19) → w_X4_u st x5 (fun (s47 : St) => w_X4_less s47 v42 v44 (sL s47 175 18) (sL s47 175 19) (fun (s55 : St) => (((sL s55 175 18) ≤ 0) → w_X4_points_2_b142 Φ K41 s55 x1 x3 v38 x5 0 x2) ∧ ((¬ (sL s55 175 18) ≤ 0) → w_X4_points_2_b142 Φ K41 s55 x1 x3 v38 x5 1 x2)))))
theorem t_X4_points_2_b78 {θ : Th} {κ : Kx} {Ph : Ph} (hX : LX θ) {d : Nat} (hd : 10 ≤ d) (C : Cx θ κ yX4_points_2 cX4_points_2 10 (some Jvm.ClassFile.FieldType.int) [] d) {Φ : St → Int32 → Prop} (hn : ∀ st r, Φ st r → Ph.1 st (some (.int r))) {K41 : St → Int32 → Int32 → Int32 → Int32 → Int32 → Prop} (hK41 : ∀ (st : St) (x1 : Int32) (x2 : Int32) (x3 : Int32) (x4 : Int32) (x5 : Int32), K41 st x1 x2 x3 x4 x5 → X θ κ Ph st 41 [(0, .ref (ad θ 175)), (1, .int x1), (2, .int x2), (3, .int x3), (4, .int x4), (5, .int x5)] []) (st : St) (x1 : Int32) (x2 : Int32) (x3 : Int32) (x5 : Int32) (z0 : Int32) (z1 : Int32) (h : w_X4_points_2_b78 Φ K41 st x1 x2 x3 x5 z0 z1) : X θ κ Ph st 78 [(0, .ref (ad θ 175)), (1, .int x1), (2, .int x2), (3, .int x3), (5, .int x5)] [.int z0, .int z1] := by
  unfold w_X4_points_2_b78 at h
  refine X_iadd C dX4_points_2_78 ?_
  refine X_topi (fun v38 e39 => ?_)
  have h := h v38 e39
  refine X_istore C dX4_points_2_79 (lo2 := [(4, _), (0, _), (1, _), (2, _), (3, _), (5, _)]) (by decide) rfl ?_
  refine X_iload_n C dX4_points_2_81 rfl 2 rfl ?_
  refine X_iconst (v := 3) C dX4_points_2_82 rfl ?_
  refine X_icmp_ge (tgt := 164) C dX4_points_2_83 (by decide) (fun c40 => ?_) (fun c40 => ?_)
  · have h := h.1 c40
    refine X_sub [1, 2, 3, 4, 0, 5] (lo2 := [(0, _), (1, _), (2, _), (3, _), (4, _), (5, _)]) rfl ?_
    exact t_X4_points_2_b164 hX hd C hn hK41 st x1 x2 x3 v38 x5 h
  · have h := h.2 c40
    refine X_aload_n C dX4_points_2_86 rfl 1 rfl (isRV_r _) ?_
    refine X_getS (ci := 4) (j := 20) (q := (RX4, TX4, 54)) C rfl (by decide) q1786 rfl dX4_points_2_87 (LX_S hX (k := 175) rfl) (v := .int (sI st 175 20)) rfl ?_
    refine X_if_ne (tgt := 164) C dX4_points_2_90 (by decide) (fun c41 => ?_) (fun c41 => ?_)
    · have h := h.1 c41
      refine X_sub [1, 2, 3, 4, 0, 5] (lo2 := [(0, _), (1, _), (2, _), (3, _), (4, _), (5, _)]) rfl ?_
      exact t_X4_points_2_b164 hX hd C hn hK41 st x1 x2 x3 v38 x5 h
    · have h := h.2 c41
      refine X_aload_n C dX4_points_2_93 rfl 1 rfl (isRV_r _) ?_
      refine X_getS (ci := 4) (j := 18) (q := (RX4, TX4, 54)) C rfl (by decide) q1784 rfl dX4_points_2_94 (LX_S hX (k := 175) rfl) (v := .long (sL st 175 18)) rfl ?_
      refine X_topl (fun v42 e43 => ?_)
      have h := h v42 e43
      refine X_lstore C dX4_points_2_97 (lo2 := [(6, _), (4, _), (0, _), (1, _), (2, _), (3, _), (5, _)]) (by decide) rfl ?_
      refine X_aload_n C dX4_points_2_99 rfl 2 rfl (isRV_r _) ?_
      refine X_getS (ci := 4) (j := 19) (q := (RX4, TX4, 54)) C rfl (by decide) q1785 rfl dX4_points_2_100 (LX_S hX (k := 175) rfl) (v := .long (sL st 175 19)) rfl ?_
      refine X_topl (fun v44 e45 => ?_)
      have h := h v44 e45
      refine X_lstore C dX4_points_2_103 (lo2 := [(8, _), (6, _), (4, _), (0, _), (1, _), (2, _), (3, _), (5, _)]) (by decide) rfl ?_
      refine X_aload_n C dX4_points_2_105 rfl 3 rfl (isRV_r _) ?_
      refine X_iload C dX4_points_2_106 7 rfl ?_
      refine X_callVS (ci := 4) (q := (RX4, TX4, 54)) (As := [_]) (rest := []) C rfl (LX_S hX (k := 175) rfl) q2042 q2044 qs74 q136 q2045 ⟨rfl, nm_X4_u⟩ rfl dX4_points_2_108 (m_X4_u (Cx_l C) hX (d := d - 1) (by omega) st x5 h) (by omega) (by decide) (Nat.le_of_ble_eq_true rfl) (fun s47 w48 hE49 hP50 => ?_) (fun s53 E51 q52 hE49 hP50 => ?_)
      rotate_left
      · exact False.elim hP50
      obtain ⟨rfl, h⟩ := hP50
      refine X_tln ?_
      refine X_aload_n C dX4_points_2_111 rfl 3 rfl (isRV_r _) ?_
      refine X_lload C dX4_points_2_112 1 rfl ?_
      refine X_lload C dX4_points_2_114 0 rfl ?_
      refine X_aload_n C dX4_points_2_116 rfl 3 rfl (isRV_r _) ?_
      refine X_getS (ci := 4) (j := 18) (q := (RX4, TX4, 54)) C rfl (by decide) q1784 rfl dX4_points_2_117 (LX_S hX (k := 175) rfl) (v := .long (sL s47 175 18)) rfl ?_
      refine X_aload_n C dX4_points_2_120 rfl 3 rfl (isRV_r _) ?_
      refine X_getS (ci := 4) (j := 19) (q := (RX4, TX4, 54)) C rfl (by decide) q1785 rfl dX4_points_2_121 (LX_S hX (k := 175) rfl) (v := .long (sL s47 175 19)) rfl ?_
      refine X_callVS (ci := 4) (q := (RX4, TX4, 54)) (As := [_, _, _, _]) (rest := []) C rfl (LX_S hX (k := 175) rfl) q2164 q2166 qs98 q136 q2167 ⟨rfl, nm_X4_less⟩ rfl dX4_points_2_124 (m_X4_less (Cx_l C) hX (d := d - 1) (by omega) s47 v42 v44 (sL s47 175 18) (sL s47 175 19) h) (by omega) (by decide) (Nat.le_of_ble_eq_true rfl) (fun s55 w56 hE57 hP58 => ?_) (fun s61 E59 q60 hE57 hP58 => ?_)
      rotate_left
      · exact False.elim hP58
      obtain ⟨rfl, h⟩ := hP58
      refine X_tln ?_
      refine X_iload_n C dX4_points_2_127 rfl 5 rfl ?_
      refine X_aload_n C dX4_points_2_128 rfl 3 rfl (isRV_r _) ?_
      refine X_getS (ci := 4) (j := 18) (q := (RX4, TX4, 54)) C rfl (by decide) q1784 rfl dX4_points_2_129 (LX_S hX (k := 175) rfl) (v := .long (sL s55 175 18)) rfl ?_
      refine X_lconst (v := 0) C dX4_points_2_132 rfl ?_
      refine X_lcmp_le (tgt := 141) C dX4_points_2_133 dX4_points_2_134 (by decide) (fun c62 => ?_) (fun c62 => ?_)
      · have h := h.1 c62
        refine X_iconst (v := 0) C dX4_points_2_141 rfl ?_
        refine X_sub [3, 4, 6, 2, 7] (lo2 := [(0, _), (1, _), (3, _), (4, _), (5, _)]) rfl ?_
        exact t_X4_points_2_b142 hX hd C hn hK41 s55 x1 x3 v38 x5 0 x2 h
      · have h := h.2 c62
        refine X_iconst (v := 1) C dX4_points_2_137 rfl ?_
        refine X_goto (tgt := 142) C dX4_points_2_138 (by decide) ?_
        refine X_sub [3, 4, 6, 2, 7] (lo2 := [(0, _), (1, _), (3, _), (4, _), (5, _)]) rfl ?_
        exact t_X4_points_2_b142 hX hd C hn hK41 s55 x1 x3 v38 x5 1 x2 h
def w_X4_points_2_l41 (Φ : St → Int32 → Prop) (E170 : St → Int32 → Int32 → Int32 → Int32 → Prop) : Nat → St → Int32 → Int32 → Int32 → Int32 → Int32 → Prop
  | 0, _, _, _, _, _, _ => False
  | n + 1, st, x1, x2, x3, x4, x5 => w_X4_points st (fun (r19 : Int32) => ((r19 ≤ x5) → E170 st x1 x2 x3 x4) ∧ ((¬ r19 ≤ x5) → (((sI st 175 20) ≠ 0) → E170 st x1 x2 x3 x4) ∧ (((sI st 175 20) = 0) → w_X4_hullOf st x5 (fun (s30 : St) => (((sI s30 175 41) ≠ 1) → w_X4_points_2_b78 Φ (w_X4_points_2_l41 Φ E170 n) s30 x1 x2 x3 x5 0 x4) ∧ (((sI s30 175 41) = 1) → w_X4_points_2_b78 Φ (w_X4_points_2_l41 Φ E170 n) s30 x1 x2 x3 x5 1 x4)))))
theorem t_X4_points_2_l41 {θ : Th} {κ : Kx} {Ph : Ph} (hX : LX θ) {d : Nat} (hd : 10 ≤ d) (C : Cx θ κ yX4_points_2 cX4_points_2 10 (some Jvm.ClassFile.FieldType.int) [] d) {Φ : St → Int32 → Prop} (hn : ∀ st r, Φ st r → Ph.1 st (some (.int r))) {E170 : St → Int32 → Int32 → Int32 → Int32 → Prop} (hE170 : ∀ (st : St) (x1 : Int32) (x2 : Int32) (x3 : Int32) (x4 : Int32), E170 st x1 x2 x3 x4 → X θ κ Ph st 170 [(0, .ref (ad θ 175)), (1, .int x1), (2, .int x2), (3, .int x3), (4, .int x4)] []) : ∀ (n : Nat) (st : St) (x1 : Int32) (x2 : Int32) (x3 : Int32) (x4 : Int32) (x5 : Int32), w_X4_points_2_l41 Φ E170 n st x1 x2 x3 x4 x5 → X θ κ Ph st 41 [(0, .ref (ad θ 175)), (1, .int x1), (2, .int x2), (3, .int x3), (4, .int x4), (5, .int x5)] [] := by
  intro n
  induction n with
  | zero => intro st x1 x2 x3 x4 x5 h; exact h.elim
  | succ n hK41 =>
    intro st x1 x2 x3 x4 x5 h
    rw [w_X4_points_2_l41] at h
    refine X_iload C dX4_points_2_41 5 rfl ?_
    refine X_aload_n C dX4_points_2_43 rfl 0 rfl (isRV_r _) ?_
    refine X_callVS (ci := 4) (q := (RX4, TX4, 54)) (As := []) (rest := [_]) C rfl (LX_S hX (k := 175) rfl) q1996 q1998 qs68 q136 q1999 ⟨rfl, nm_X4_points⟩ rfl dX4_points_2_44 (m_X4_points (Cx_l C) hX (d := d - 1) (by omega) st h) (by omega) (by decide) (Nat.le_of_ble_eq_true rfl) (fun s25 w20 hE21 hP22 => ?_) (fun s26 E23 q24 hE21 hP22 => ?_)
    rotate_left
    · exact False.elim hP22
    obtain ⟨r19, rfl, rfl, h⟩ := hP22
    refine X_tls ?_
    refine X_icmp_ge (tgt := 170) C dX4_points_2_47 (by decide) (fun c27 => ?_) (fun c27 => ?_)
    · have h := h.1 c27
      refine X_sub [0, 1, 2, 3, 4] (lo2 := [(0, _), (1, _), (2, _), (3, _), (4, _)]) rfl ?_
      exact hE170 st x1 x2 x3 x4 h
    · have h := h.2 c27
      refine X_aload_n C dX4_points_2_50 rfl 0 rfl (isRV_r _) ?_
      refine X_getS (ci := 4) (j := 20) (q := (RX4, TX4, 54)) C rfl (by decide) q1786 rfl dX4_points_2_51 (LX_S hX (k := 175) rfl) (v := .int (sI st 175 20)) rfl ?_
      refine X_if_ne (tgt := 170) C dX4_points_2_54 (by decide) (fun c28 => ?_) (fun c28 => ?_)
      · have h := h.1 c28
        refine X_sub [0, 1, 2, 3, 4] (lo2 := [(0, _), (1, _), (2, _), (3, _), (4, _)]) rfl ?_
        exact hE170 st x1 x2 x3 x4 h
      · have h := h.2 c28
        refine X_aload_n C dX4_points_2_57 rfl 0 rfl (isRV_r _) ?_
        refine X_iload C dX4_points_2_58 5 rfl ?_
        refine X_callVS (ci := 4) (q := (RX4, TX4, 54)) (As := [_]) (rest := []) C rfl (LX_S hX (k := 175) rfl) q2156 q2158 qs96 q136 q2159 ⟨rfl, nm_X4_hullOf⟩ rfl dX4_points_2_60 (m_X4_hullOf (Cx_l C) hX (d := d - 1) (by omega) st x5 h) (by omega) (by decide) (Nat.le_of_ble_eq_true rfl) (fun s30 w31 hE32 hP33 => ?_) (fun s36 E34 q35 hE32 hP33 => ?_)
        rotate_left
        · exact False.elim hP33
        obtain ⟨rfl, h⟩ := hP33
        refine X_tln ?_
        refine X_iload C dX4_points_2_63 4 rfl ?_
        refine X_aload_n C dX4_points_2_65 rfl 0 rfl (isRV_r _) ?_
        refine X_getS (ci := 4) (j := 41) (q := (RX4, TX4, 54)) C rfl (by decide) q1807 rfl dX4_points_2_66 (LX_S hX (k := 175) rfl) (v := .int (sI s30 175 41)) rfl ?_
        refine X_iconst (v := 1) C dX4_points_2_69 rfl ?_
        refine X_icmp_ne (tgt := 77) C dX4_points_2_70 (by decide) (fun c37 => ?_) (fun c37 => ?_)
        · have h := h.1 c37
          refine X_iconst (v := 0) C dX4_points_2_77 rfl ?_
          refine X_sub [0, 1, 2, 3, 5] (lo2 := [(0, _), (1, _), (2, _), (3, _), (5, _)]) rfl ?_
          exact t_X4_points_2_b78 hX hd C hn hK41 s30 x1 x2 x3 x5 0 x4 h
        · have h := h.2 c37
          refine X_iconst (v := 1) C dX4_points_2_73 rfl ?_
          refine X_goto (tgt := 78) C dX4_points_2_74 (by decide) ?_
          refine X_sub [0, 1, 2, 3, 5] (lo2 := [(0, _), (1, _), (2, _), (3, _), (5, _)]) rfl ?_
          exact t_X4_points_2_b78 hX hd C hn hK41 s30 x1 x2 x3 x5 1 x4 h
def w_X4_points_2_b170 (Φ : St → Int32 → Prop) (st : St) (x1 : Int32) (x2 : Int32) (x3 : Int32) (x4 : Int32) : Prop := (((sI st 175 20) = 0) → ((x1 ≠ 1) → ((x1 ≠ 3) → ((0 ≤ x3) → Φ st x3) ∧ ((¬ 0 ≤ x3) → w_X4_finds st 2 (fun (s73 : St) (r72 : Int32) => Φ s73 r72))) ∧ ((x1 = 3) → Φ st x4)) ∧ ((x1 = 1) → Φ st x2)) ∧ ((¬ (sI st 175 20) = 0) → w_X4_finds st 6 (fun (s81 : St) (r80 : Int32) => Φ s81 r80))
theorem t_X4_points_2_b170 {θ : Th} {κ : Kx} {Ph : Ph} (hX : LX θ) {d : Nat} (hd : 10 ≤ d) (C : Cx θ κ yX4_points_2 cX4_points_2 10 (some Jvm.ClassFile.FieldType.int) [] d) {Φ : St → Int32 → Prop} (hn : ∀ st r, Φ st r → Ph.1 st (some (.int r))) (st : St) (x1 : Int32) (x2 : Int32) (x3 : Int32) (x4 : Int32) (h : w_X4_points_2_b170 Φ st x1 x2 x3 x4) : X θ κ Ph st 170 [(0, .ref (ad θ 175)), (1, .int x1), (2, .int x2), (3, .int x3), (4, .int x4)] [] := by
  unfold w_X4_points_2_b170 at h
  refine X_aload_n C dX4_points_2_170 rfl 0 rfl (isRV_r _) ?_
  refine X_getS (ci := 4) (j := 20) (q := (RX4, TX4, 54)) C rfl (by decide) q1786 rfl dX4_points_2_171 (LX_S hX (k := 175) rfl) (v := .int (sI st 175 20)) rfl ?_
  refine X_if_eq (tgt := 184) C dX4_points_2_174 (by decide) (fun c68 => ?_) (fun c68 => ?_)
  · have h := h.1 c68
    refine X_iload_n C dX4_points_2_184 rfl 1 rfl ?_
    refine X_iconst (v := 1) C dX4_points_2_185 rfl ?_
    refine X_icmp_ne (tgt := 193) C dX4_points_2_186 (by decide) (fun c69 => ?_) (fun c69 => ?_)
    · have h := h.1 c69
      refine X_iload_n C dX4_points_2_193 rfl 1 rfl ?_
      refine X_iconst (v := 3) C dX4_points_2_194 rfl ?_
      refine X_icmp_ne (tgt := 203) C dX4_points_2_195 (by decide) (fun c70 => ?_) (fun c70 => ?_)
      · have h := h.1 c70
        refine X_iload_n C dX4_points_2_203 rfl 3 rfl ?_
        refine X_if_ge (tgt := 215) C dX4_points_2_204 (by decide) (fun c71 => ?_) (fun c71 => ?_)
        · have h := h.1 c71
          refine X_iload_n C dX4_points_2_215 rfl 3 rfl ?_
          exact X_iret C rfl dX4_points_2_216 (hn st _ h)
        · have h := h.2 c71
          refine X_aload_n C dX4_points_2_207 rfl 0 rfl (isRV_r _) ?_
          refine X_iconst (v := 2) C dX4_points_2_208 rfl ?_
          refine X_callVS (ci := 4) (q := (RX4, TX4, 54)) (As := [_]) (rest := []) C rfl (LX_S hX (k := 175) rfl) q1939 q1941 qs63 q136 q1942 ⟨rfl, nm_X4_finds⟩ rfl dX4_points_2_209 (m_X4_finds (Cx_l C) hX (d := d - 1) (by omega) st 2 h) (by omega) (by decide) (Nat.le_of_ble_eq_true rfl) (fun s73 w74 hE75 hP76 => ?_) (fun s79 E77 q78 hE75 hP76 => ?_)
          rotate_left
          · exact False.elim hP76
          obtain ⟨r72, rfl, h⟩ := hP76
          refine X_tls ?_
          refine X_goto (tgt := 216) C dX4_points_2_212 (by decide) ?_
          exact X_iret C rfl dX4_points_2_216 (hn s73 _ h)
      · have h := h.2 c70
        refine X_iload C dX4_points_2_198 4 rfl ?_
        refine X_goto (tgt := 216) C dX4_points_2_200 (by decide) ?_
        exact X_iret C rfl dX4_points_2_216 (hn st _ h)
    · have h := h.2 c69
      refine X_iload_n C dX4_points_2_189 rfl 2 rfl ?_
      refine X_goto (tgt := 216) C dX4_points_2_190 (by decide) ?_
      exact X_iret C rfl dX4_points_2_216 (hn st _ h)
  · have h := h.2 c68
    refine X_aload_n C dX4_points_2_177 rfl 0 rfl (isRV_r _) ?_
    refine X_bipush (v := 6) C dX4_points_2_178 rfl ?_
    refine X_callVS (ci := 4) (q := (RX4, TX4, 54)) (As := [_]) (rest := []) C rfl (LX_S hX (k := 175) rfl) q1939 q1941 qs63 q136 q1942 ⟨rfl, nm_X4_finds⟩ rfl dX4_points_2_180 (m_X4_finds (Cx_l C) hX (d := d - 1) (by omega) st 6 h) (by omega) (by decide) (Nat.le_of_ble_eq_true rfl) (fun s81 w82 hE83 hP84 => ?_) (fun s87 E85 q86 hE83 hP84 => ?_)
    rotate_left
    · exact False.elim hP84
    obtain ⟨r80, rfl, h⟩ := hP84
    refine X_tls ?_
    exact X_iret C rfl dX4_points_2_183 (hn s81 _ h)
def w_X4_points_2 (st : St) (p1 : Int32) (Φ : St → Int32 → Prop) : Prop := w_X4_isIn p1.toInt64 0 3 (fun (r1 : Int32) => ((r1 ≠ 0) → ((p1 ≠ 0) → w_X4_begins st (fun (s12 : St) => w_X4_points_2_l41 Φ (fun (s67 : St) (x1 : Int32) (x2 : Int32) (x3 : Int32) (x4 : Int32) => w_X4_points_2_b170 Φ s67 x1 x2 x3 x4) gFU s12 p1 0 (-1) 0 0)) ∧ ((p1 = 0) → w_X4_points st (fun (r88 : Int32) => Φ st r88))) ∧ ((r1 = 0) → w_X4_finds st 1 (fun (s97 : St) (r96 : Int32) => Φ s97 r96)))
theorem nm_X4_points_2 : yX4_points_2.cls ≠ "java/lang/invoke/MethodHandle" ∧ yX4_points_2.cls ≠ "java/lang/invoke/VarHandle" ∧ (parseMethodDescriptor yX4_points_2.desc).map (fun d => d.parameters.length) = some 1 := by decide +kernel
theorem e_X4_points_2 : plainFor yX4_points_2 = true := plainFor_of_name (by decide +kernel)
theorem m_X4_points_2 {θ : Th} {l : Launch} (hl0 : l.stackTraces = false) (hX : LX θ) {d : Nat} (hd : 10 ≤ d) (st : St) (p1 : Int32) {Φ : St → Int32 → Prop} (h : w_X4_points_2 st p1 Φ) : Ct θ l yX4_points_2 (ws_ yX4_points_2 cX4_points_2 10 (some Jvm.ClassFile.FieldType.int)) d [.ref (ad θ 175), .int p1] st (pI Φ, noX) := by
  refine Ct_entry hl0 e_X4_points_2 (Nat.le_of_ble_eq_true rfl) (fun κ hκ _ C => ?_)
  have hn : ∀ st r, Φ st r → ((pI Φ, noX) : Ph).1 st (some (.int r)) := fun st r q => ⟨r, rfl, q⟩
  change X _ _ _ _ _ [(0, .ref (ad θ 175)), (1, .int p1)] _
  unfold w_X4_points_2 at h
  refine X_iload_n C dX4_points_2_0 rfl 1 rfl ?_
  refine X_i2l C dX4_points_2_1 ?_
  refine X_lconst (v := 0) C dX4_points_2_2 rfl ?_
  refine X_ldc2 C q1935 dX4_points_2_3 ?_
  refine X_callS (As := [_, _, _]) (rest := []) C q1936 q1937 q136 q1938 nm_X4_isIn rfl dX4_points_2_6 (m_X4_isIn (Cx_l C) hX (d := d - 1) (by omega) st p1.toInt64 0 3 h) (by omega) (by decide) (Nat.le_of_ble_eq_true rfl) (fun s7 w2 hE3 hP4 => ?_) (fun s8 E5 q6 hE3 hP4 => ?_)
  rotate_left
  · exact False.elim hP4
  obtain ⟨r1, rfl, rfl, h⟩ := hP4
  refine X_tls ?_
  refine X_if_ne (tgt := 18) C dX4_points_2_9 (by decide) (fun c9 => ?_) (fun c9 => ?_)
  · have h := h.1 c9
    refine X_iload_n C dX4_points_2_18 rfl 1 rfl ?_
    refine X_if_ne (tgt := 27) C dX4_points_2_19 (by decide) (fun c10 => ?_) (fun c10 => ?_)
    · have h := h.1 c10
      refine X_aload_n C dX4_points_2_27 rfl 0 rfl (isRV_r _) ?_
      refine X_callVS (ci := 4) (q := (RX4, TX4, 54)) (As := []) (rest := []) C rfl (LX_S hX (k := 175) rfl) q2038 q2040 qs73 q136 q2041 ⟨rfl, nm_X4_begins⟩ rfl dX4_points_2_28 (m_X4_begins (Cx_l C) hX (d := d - 1) (by omega) st h) (by omega) (by decide) (Nat.le_of_ble_eq_true rfl) (fun s12 w13 hE14 hP15 => ?_) (fun s18 E16 q17 hE14 hP15 => ?_)
      rotate_left
      · exact False.elim hP15
      obtain ⟨rfl, h⟩ := hP15
      refine X_tln ?_
      refine X_iconst (v := 0) C dX4_points_2_31 rfl ?_
      refine X_istore_n C dX4_points_2_32 rfl (lo2 := [(2, _), (0, _), (1, _)]) (by decide) rfl ?_
      refine X_iconst (v := (-1)) C dX4_points_2_33 rfl ?_
      refine X_istore_n C dX4_points_2_34 rfl (lo2 := [(3, _), (2, _), (0, _), (1, _)]) (by decide) rfl ?_
      refine X_iconst (v := 0) C dX4_points_2_35 rfl ?_
      refine X_istore C dX4_points_2_36 (lo2 := [(4, _), (3, _), (2, _), (0, _), (1, _)]) (by decide) rfl ?_
      refine X_iconst (v := 0) C dX4_points_2_38 rfl ?_
      refine X_istore C dX4_points_2_39 (lo2 := [(5, _), (4, _), (3, _), (2, _), (0, _), (1, _)]) (by decide) rfl ?_
      refine X_sub [4, 5, 3, 2, 1, 0] (lo2 := [(0, _), (1, _), (2, _), (3, _), (4, _), (5, _)]) rfl ?_
      refine t_X4_points_2_l41 hX hd C hn ?_ gFU s12 p1 0 (-1) 0 0 h
      · intro s67 x1 x2 x3 x4 h
        exact t_X4_points_2_b170 hX hd C hn s67 x1 x2 x3 x4 h
    · have h := h.2 c10
      refine X_aload_n C dX4_points_2_22 rfl 0 rfl (isRV_r _) ?_
      refine X_callVS (ci := 4) (q := (RX4, TX4, 54)) (As := []) (rest := []) C rfl (LX_S hX (k := 175) rfl) q1996 q1998 qs68 q136 q1999 ⟨rfl, nm_X4_points⟩ rfl dX4_points_2_23 (m_X4_points (Cx_l C) hX (d := d - 1) (by omega) st h) (by omega) (by decide) (Nat.le_of_ble_eq_true rfl) (fun s94 w89 hE90 hP91 => ?_) (fun s95 E92 q93 hE90 hP91 => ?_)
      rotate_left
      · exact False.elim hP91
      obtain ⟨r88, rfl, rfl, h⟩ := hP91
      refine X_tls ?_
      exact X_iret C rfl dX4_points_2_26 (hn st _ h)
  · have h := h.2 c9
    refine X_aload_n C dX4_points_2_12 rfl 0 rfl (isRV_r _) ?_
    refine X_iconst (v := 1) C dX4_points_2_13 rfl ?_
    refine X_callVS (ci := 4) (q := (RX4, TX4, 54)) (As := [_]) (rest := []) C rfl (LX_S hX (k := 175) rfl) q1939 q1941 qs63 q136 q1942 ⟨rfl, nm_X4_finds⟩ rfl dX4_points_2_14 (m_X4_finds (Cx_l C) hX (d := d - 1) (by omega) st 1 h) (by omega) (by decide) (Nat.le_of_ble_eq_true rfl) (fun s97 w98 hE99 hP100 => ?_) (fun s103 E101 q102 hE99 hP100 => ?_)
    rotate_left
    · exact False.elim hP100
    obtain ⟨r96, rfl, h⟩ := hP100
    refine X_tls ?_
    exact X_iret C rfl dX4_points_2_17 (hn s97 _ h)

def w_X4_holds_l2 (Φ : St → Int32 → Prop) (E38 : St → Prop) (E76 : St → Prop) (E84 : St → Prop) : Nat → St → Int32 → Prop
  | 0, _, _ => False
  | n + 1, st, x1 => w_X4_points st (fun (r1 : Int32) => ((r1 ≤ x1) → E84 st) ∧ ((¬ r1 ≤ x1) → w_X4_weighs st x1 (fun (s11 : St) (r10 : Int32) => w_X4_mixes s11 (fun (s19 : St) => ∀ v26 : Int64, v26 = (sL s19 175 18) → ∀ v28 : Int64, v28 = (sL s19 175 19) → (((sI s19 175 20) = 0) → w_X4_u s19 x1 (fun (s32 : St) => w_X4_less s32 v26 v28 (sL s32 175 18) (sL s32 175 19) (fun (s40 : St) => (((sI s40 175 20) ≠ 0) → E76 s40) ∧ (((sI s40 175 20) = 0) → ((0 ≤ (sL s40 175 18)) → w_X4_holds_l2 Φ E38 E76 E84 n s40 (x1 + 1)) ∧ ((¬ 0 ≤ (sL s40 175 18)) → E76 s40))))) ∧ ((¬ (sI s19 175 20) = 0) → E38 s19)))))
theorem t_X4_holds_l2 {θ : Th} {κ : Kx} {Ph : Ph} (hX : LX θ) {d : Nat} (hd : 8 ≤ d) (C : Cx θ κ yX4_holds cX4_holds 6 (some Jvm.ClassFile.FieldType.boolean) [] d) {Φ : St → Int32 → Prop} (hn : ∀ st r, Φ st r → Ph.1 st (some (.int r))) {E38 : St → Prop} {E76 : St → Prop} {E84 : St → Prop} (hE38 : ∀ (st : St), E38 st → X θ κ Ph st 38 [] []) (hE76 : ∀ (st : St), E76 st → X θ κ Ph st 76 [] []) (hE84 : ∀ (st : St), E84 st → X θ κ Ph st 84 [] []) : ∀ (n : Nat) (st : St) (x1 : Int32), w_X4_holds_l2 Φ E38 E76 E84 n st x1 → X θ κ Ph st 2 [(0, .ref (ad θ 175)), (1, .int x1)] [] := by
  intro n
  induction n with
  | zero => intro st x1 h; exact h.elim
  | succ n hK2 =>
    intro st x1 h
    rw [w_X4_holds_l2] at h
    refine X_iload_n C dX4_holds_2 rfl 1 rfl ?_
    refine X_aload_n C dX4_holds_3 rfl 0 rfl (isRV_r _) ?_
    refine X_callVS (ci := 4) (q := (RX4, TX4, 54)) (As := []) (rest := [_]) C rfl (LX_S hX (k := 175) rfl) q1996 q1998 qs68 q136 q1999 ⟨rfl, nm_X4_points⟩ rfl dX4_holds_4 (m_X4_points (Cx_l C) hX (d := d - 1) (by omega) st h) (by omega) (by decide) (Nat.le_of_ble_eq_true rfl) (fun s7 w2 hE3 hP4 => ?_) (fun s8 E5 q6 hE3 hP4 => ?_)
    rotate_left
    · exact False.elim hP4
    obtain ⟨r1, rfl, rfl, h⟩ := hP4
    refine X_tls ?_
    refine X_icmp_ge (tgt := 84) C dX4_holds_7 (by decide) (fun c9 => ?_) (fun c9 => ?_)
    · have h := h.1 c9
      refine X_sub [] (lo2 := []) rfl ?_
      exact hE84 st h
    · have h := h.2 c9
      refine X_aload_n C dX4_holds_10 rfl 0 rfl (isRV_r _) ?_
      refine X_iload_n C dX4_holds_11 rfl 1 rfl ?_
      refine X_callVS (ci := 4) (q := (RX4, TX4, 54)) (As := [_]) (rest := []) C rfl (LX_S hX (k := 175) rfl) q2116 q2118 qs87 q136 q2119 ⟨rfl, nm_X4_weighs⟩ rfl dX4_holds_12 (m_X4_weighs (Cx_l C) hX (d := d - 1) (by omega) st x1 h) (by omega) (by decide) (Nat.le_of_ble_eq_true rfl) (fun s11 w12 hE13 hP14 => ?_) (fun s17 E15 q16 hE13 hP14 => ?_)
      rotate_left
      · exact False.elim hP14
      obtain ⟨r10, rfl, h⟩ := hP14
      refine X_tls ?_
      refine X_pop C dX4_holds_15 rfl ?_
      refine X_aload_n C dX4_holds_16 rfl 0 rfl (isRV_r _) ?_
      refine X_callVS (ci := 4) (q := (RX4, TX4, 54)) (As := []) (rest := []) C rfl (LX_S hX (k := 175) rfl) q2136 q2138 qs92 q136 q2139 ⟨rfl, nm_X4_mixes⟩ rfl dX4_holds_17 (m_X4_mixes (Cx_l C) hX (d := d - 1) (by omega) s11 h) (by omega) (by decide) (Nat.le_of_ble_eq_true rfl) (fun s19 w20 hE21 hP22 => ?_) (fun s25 E23 q24 hE21 hP22 => ?_)
      rotate_left
      · exact False.elim hP22
      obtain ⟨rfl, h⟩ := hP22
      refine X_tln ?_
      refine X_aload_n C dX4_holds_20 rfl 0 rfl (isRV_r _) ?_
      refine X_getS (ci := 4) (j := 18) (q := (RX4, TX4, 54)) C rfl (by decide) q1784 rfl dX4_holds_21 (LX_S hX (k := 175) rfl) (v := .long (sL s19 175 18)) rfl ?_
      refine X_topl (fun v26 e27 => ?_)
      have h := h v26 e27
      refine X_lstore_n C dX4_holds_24 rfl (lo2 := [(2, _), (0, _), (1, _)]) (by decide) rfl ?_
      refine X_aload_n C dX4_holds_25 rfl 1 rfl (isRV_r _) ?_
      refine X_getS (ci := 4) (j := 19) (q := (RX4, TX4, 54)) C rfl (by decide) q1785 rfl dX4_holds_26 (LX_S hX (k := 175) rfl) (v := .long (sL s19 175 19)) rfl ?_
      refine X_topl (fun v28 e29 => ?_)
      have h := h v28 e29
      refine X_lstore C dX4_holds_29 (lo2 := [(4, _), (2, _), (0, _), (1, _)]) (by decide) rfl ?_
      refine X_aload_n C dX4_holds_31 rfl 2 rfl (isRV_r _) ?_
      refine X_getS (ci := 4) (j := 20) (q := (RX4, TX4, 54)) C rfl (by decide) q1786 rfl dX4_holds_32 (LX_S hX (k := 175) rfl) (v := .int (sI s19 175 20)) rfl ?_
      refine X_if_eq (tgt := 40) C dX4_holds_35 (by decide) (fun c30 => ?_) (fun c30 => ?_)
      · have h := h.1 c30
        refine X_aload_n C dX4_holds_40 rfl 2 rfl (isRV_r _) ?_
        refine X_iload_n C dX4_holds_41 rfl 3 rfl ?_
        refine X_callVS (ci := 4) (q := (RX4, TX4, 54)) (As := [_]) (rest := []) C rfl (LX_S hX (k := 175) rfl) q2042 q2044 qs74 q136 q2045 ⟨rfl, nm_X4_u⟩ rfl dX4_holds_42 (m_X4_u (Cx_l C) hX (d := d - 1) (by omega) s19 x1 h) (by omega) (by decide) (Nat.le_of_ble_eq_true rfl) (fun s32 w33 hE34 hP35 => ?_) (fun s38 E36 q37 hE34 hP35 => ?_)
        rotate_left
        · exact False.elim hP35
        obtain ⟨rfl, h⟩ := hP35
        refine X_tln ?_
        refine X_aload_n C dX4_holds_45 rfl 2 rfl (isRV_r _) ?_
        refine X_lload_n C dX4_holds_46 rfl 1 rfl ?_
        refine X_lload C dX4_holds_47 0 rfl ?_
        refine X_aload_n C dX4_holds_49 rfl 2 rfl (isRV_r _) ?_
        refine X_getS (ci := 4) (j := 18) (q := (RX4, TX4, 54)) C rfl (by decide) q1784 rfl dX4_holds_50 (LX_S hX (k := 175) rfl) (v := .long (sL s32 175 18)) rfl ?_
        refine X_aload_n C dX4_holds_53 rfl 2 rfl (isRV_r _) ?_
        refine X_getS (ci := 4) (j := 19) (q := (RX4, TX4, 54)) C rfl (by decide) q1785 rfl dX4_holds_54 (LX_S hX (k := 175) rfl) (v := .long (sL s32 175 19)) rfl ?_
        refine X_callVS (ci := 4) (q := (RX4, TX4, 54)) (As := [_, _, _, _]) (rest := []) C rfl (LX_S hX (k := 175) rfl) q2164 q2166 qs98 q136 q2167 ⟨rfl, nm_X4_less⟩ rfl dX4_holds_57 (m_X4_less (Cx_l C) hX (d := d - 1) (by omega) s32 v26 v28 (sL s32 175 18) (sL s32 175 19) h) (by omega) (by decide) (Nat.le_of_ble_eq_true rfl) (fun s40 w41 hE42 hP43 => ?_) (fun s46 E44 q45 hE42 hP43 => ?_)
        rotate_left
        · exact False.elim hP43
        obtain ⟨rfl, h⟩ := hP43
        refine X_tln ?_
        refine X_aload_n C dX4_holds_60 rfl 2 rfl (isRV_r _) ?_
        refine X_getS (ci := 4) (j := 20) (q := (RX4, TX4, 54)) C rfl (by decide) q1786 rfl dX4_holds_61 (LX_S hX (k := 175) rfl) (v := .int (sI s40 175 20)) rfl ?_
        refine X_if_ne (tgt := 76) C dX4_holds_64 (by decide) (fun c47 => ?_) (fun c47 => ?_)
        · have h := h.1 c47
          refine X_sub [] (lo2 := []) rfl ?_
          exact hE76 s40 h
        · have h := h.2 c47
          refine X_aload_n C dX4_holds_67 rfl 2 rfl (isRV_r _) ?_
          refine X_getS (ci := 4) (j := 18) (q := (RX4, TX4, 54)) C rfl (by decide) q1784 rfl dX4_holds_68 (LX_S hX (k := 175) rfl) (v := .long (sL s40 175 18)) rfl ?_
          refine X_lconst (v := 0) C dX4_holds_71 rfl ?_
          refine X_lcmp_ge (tgt := 78) C dX4_holds_72 dX4_holds_73 (by decide) (fun c48 => ?_) (fun c48 => ?_)
          · have h := h.1 c48
            refine X_iinc (v := (x1 + 1)) C (j := 3) dX4_holds_78 rfl rfl (lo2 := [(1, _), (4, _), (2, _), (0, _)]) (by decide) rfl ?_
            refine X_goto (tgt := 2) C dX4_holds_81 (by decide) ?_
            refine X_sub [3, 0] (lo2 := [(0, _), (1, _)]) rfl ?_
            exact hK2 s40 (x1 + 1) h
          · have h := h.2 c48
            refine X_sub [] (lo2 := []) rfl ?_
            exact hE76 s40 h
      · have h := h.2 c30
        refine X_sub [] (lo2 := []) rfl ?_
        exact hE38 s19 h
def w_X4_holds_b38 (Φ : St → Int32 → Prop) (st : St) : Prop := Φ st 0
theorem t_X4_holds_b38 {θ : Th} {κ : Kx} {Ph : Ph} (hX : LX θ) {d : Nat} (hd : 8 ≤ d) (C : Cx θ κ yX4_holds cX4_holds 6 (some Jvm.ClassFile.FieldType.boolean) [] d) {Φ : St → Int32 → Prop} (hn : ∀ st r, Φ st r → Ph.1 st (some (.int r))) (st : St) (h : w_X4_holds_b38 Φ st) : X θ κ Ph st 38 [] [] := by
  unfold w_X4_holds_b38 at h
  refine X_iconst (v := 0) C dX4_holds_38 rfl ?_
  exact X_zret C rfl rfl dX4_holds_39 (hn st _ h)
def w_X4_holds_b76 (Φ : St → Int32 → Prop) (st : St) : Prop := Φ st 0
theorem t_X4_holds_b76 {θ : Th} {κ : Kx} {Ph : Ph} (hX : LX θ) {d : Nat} (hd : 8 ≤ d) (C : Cx θ κ yX4_holds cX4_holds 6 (some Jvm.ClassFile.FieldType.boolean) [] d) {Φ : St → Int32 → Prop} (hn : ∀ st r, Φ st r → Ph.1 st (some (.int r))) (st : St) (h : w_X4_holds_b76 Φ st) : X θ κ Ph st 76 [] [] := by
  unfold w_X4_holds_b76 at h
  refine X_iconst (v := 0) C dX4_holds_76 rfl ?_
  exact X_zret C rfl rfl dX4_holds_77 (hn st _ h)
def w_X4_holds_b84 (Φ : St → Int32 → Prop) (st : St) : Prop := Φ st 1
theorem t_X4_holds_b84 {θ : Th} {κ : Kx} {Ph : Ph} (hX : LX θ) {d : Nat} (hd : 8 ≤ d) (C : Cx θ κ yX4_holds cX4_holds 6 (some Jvm.ClassFile.FieldType.boolean) [] d) {Φ : St → Int32 → Prop} (hn : ∀ st r, Φ st r → Ph.1 st (some (.int r))) (st : St) (h : w_X4_holds_b84 Φ st) : X θ κ Ph st 84 [] [] := by
  unfold w_X4_holds_b84 at h
  refine X_iconst (v := 1) C dX4_holds_84 rfl ?_
  exact X_zret C rfl rfl dX4_holds_85 (hn st _ h)
def w_X4_holds (st : St) (Φ : St → Int32 → Prop) : Prop := w_X4_holds_l2 Φ (fun (s49 : St) => w_X4_holds_b38 Φ s49) (fun (s50 : St) => w_X4_holds_b76 Φ s50) (fun (s51 : St) => w_X4_holds_b84 Φ s51) gFU st 0
theorem nm_X4_holds : yX4_holds.cls ≠ "java/lang/invoke/MethodHandle" ∧ yX4_holds.cls ≠ "java/lang/invoke/VarHandle" ∧ (parseMethodDescriptor yX4_holds.desc).map (fun d => d.parameters.length) = some 0 := by decide +kernel
theorem e_X4_holds : plainFor yX4_holds = true := plainFor_of_name (by decide +kernel)
theorem m_X4_holds {θ : Th} {l : Launch} (hl0 : l.stackTraces = false) (hX : LX θ) {d : Nat} (hd : 8 ≤ d) (st : St) {Φ : St → Int32 → Prop} (h : w_X4_holds st Φ) : Ct θ l yX4_holds (ws_ yX4_holds cX4_holds 6 (some Jvm.ClassFile.FieldType.boolean)) d [.ref (ad θ 175)] st (pI Φ, noX) := by
  refine Ct_entry hl0 e_X4_holds (Nat.le_of_ble_eq_true rfl) (fun κ hκ _ C => ?_)
  have hn : ∀ st r, Φ st r → ((pI Φ, noX) : Ph).1 st (some (.int r)) := fun st r q => ⟨r, rfl, q⟩
  change X _ _ _ _ _ [(0, .ref (ad θ 175))] _
  unfold w_X4_holds at h
  refine X_iconst (v := 0) C dX4_holds_0 rfl ?_
  refine X_istore_n C dX4_holds_1 rfl (lo2 := [(1, _), (0, _)]) (by decide) rfl ?_
  refine X_sub [1, 0] (lo2 := [(0, _), (1, _)]) rfl ?_
  refine t_X4_holds_l2 hX hd C hn ?_ ?_ ?_ gFU st 0 h
  · intro s49 h
    exact t_X4_holds_b38 hX hd C hn s49 h
  · intro s50 h
    exact t_X4_holds_b76 hX hd C hn s50 h
  · intro s51 h
    exact t_X4_holds_b84 hX hd C hn s51 h

def w_X4_isPriced_b110 (Φ : St → Int32 → Prop) (E117 : St → Prop) (K39 : St → Int32 → Int32 → Int32 → Int32 → Int32 → Prop) (st : St) (x1 : Int32) (x2 : Int32) (x3 : Int32) (x4 : Int32) (x5 : Int32) : Prop := (((sI st 175 20) = 0) → K39 st x1 x2 x3 x4 (x5 + 1)) ∧ ((¬ (sI st 175 20) = 0) → E117 st)
theorem t_X4_isPriced_b110 {θ : Th} {κ : Kx} {Ph : Ph} (hX : LX θ) {d : Nat} (hd : 9 ≤ d) (C : Cx θ κ yX4_isPriced cX4_isPriced 6 (some Jvm.ClassFile.FieldType.boolean) [] d) {Φ : St → Int32 → Prop} (hn : ∀ st r, Φ st r → Ph.1 st (some (.int r))) {E117 : St → Prop} {K39 : St → Int32 → Int32 → Int32 → Int32 → Int32 → Prop} (hE117 : ∀ (st : St), E117 st → X θ κ Ph st 117 [] []) (hK39 : ∀ (st : St) (x1 : Int32) (x2 : Int32) (x3 : Int32) (x4 : Int32) (x5 : Int32), K39 st x1 x2 x3 x4 x5 → X θ κ Ph st 39 [(0, .ref (ad θ 175)), (1, .int x1), (2, .int x2), (3, .int x3), (4, .int x4), (5, .int x5)] []) (st : St) (x1 : Int32) (x2 : Int32) (x3 : Int32) (x4 : Int32) (x5 : Int32) (h : w_X4_isPriced_b110 Φ E117 K39 st x1 x2 x3 x4 x5) : X θ κ Ph st 110 [(0, .ref (ad θ 175)), (1, .int x1), (2, .int x2), (3, .int x3), (4, .int x4), (5, .int x5)] [] := by
  unfold w_X4_isPriced_b110 at h
  refine X_aload_n C dX4_isPriced_110 rfl 0 rfl (isRV_r _) ?_
  refine X_getS (ci := 4) (j := 20) (q := (RX4, TX4, 54)) C rfl (by decide) q1786 rfl dX4_isPriced_111 (LX_S hX (k := 175) rfl) (v := .int (sI st 175 20)) rfl ?_
  refine X_if_eq (tgt := 119) C dX4_isPriced_114 (by decide) (fun c34 => ?_) (fun c34 => ?_)
  · have h := h.1 c34
    refine X_iinc (v := (x5 + 1)) C (j := 5) dX4_isPriced_119 rfl rfl (lo2 := [(5, _), (0, _), (1, _), (2, _), (3, _), (4, _)]) (by decide) rfl ?_
    refine X_goto (tgt := 39) C dX4_isPriced_122 (by decide) ?_
    refine X_sub [1, 2, 3, 4, 5, 0] (lo2 := [(0, _), (1, _), (2, _), (3, _), (4, _), (5, _)]) rfl ?_
    exact hK39 st x1 x2 x3 x4 (x5 + 1) h
  · have h := h.2 c34
    refine X_sub [] (lo2 := []) rfl ?_
    exact hE117 st h
def w_X4_isPriced_b59 (Φ : St → Int32 → Prop) (E108 : St → Prop) (E117 : St → Prop) (E125 : St → Int32 → Int32 → Int32 → Int32 → Prop) (K39 : St → Int32 → Int32 → Int32 → Int32 → Int32 → Prop) (st : St) (x1 : Int32) (x2 : Int32) (x3 : Int32) (x4 : Int32) (x5 : Int32) (z0 : Int32) (z1 : Int32) : Prop := ((z0 ≤ z1) → E125 st x1 x2 x3 x4) ∧ ((¬ z0 ≤ z1) → ∀ s19, s19 = putI st 197 0 x3 → ∀ s21, s21 = putI s19 197 1 x4 → ∀ s23, s23 = putI s21 197 2 x5 → w_X4_weighs s23 x1 (fun (s26 : St) (r25 : Int32) => ((r25 = 0) → w_X4_isPriced_b110 Φ E117 K39 s26 x1 x2 x3 x4 x5) ∧ ((¬ r25 = 0) → w_X4_areAbove s26 0 (fun (r35 : Int32) => ((r35 = 0) → w_X4_isPriced_b110 Φ E117 K39 s26 x1 x2 x3 x4 x5) ∧ ((¬ r35 = 0) → w_X4_holds s26 (fun (s45 : St) (r44 : Int32) => ((r44 = 0) → w_X4_isPriced_b110 Φ E117 K39 s45 x1 x2 x3 x4 x5) ∧ ((¬ r44 = 0) → E108 s45)))))))
theorem t_X4_isPriced_b59 {θ : Th} {κ : Kx} {Ph : Ph} (hX : LX θ) {d : Nat} (hd : 9 ≤ d) (C : Cx θ κ yX4_isPriced cX4_isPriced 6 (some Jvm.ClassFile.FieldType.boolean) [] d) {Φ : St → Int32 → Prop} (hn : ∀ st r, Φ st r → Ph.1 st (some (.int r))) {E108 : St → Prop} {E117 : St → Prop} {E125 : St → Int32 → Int32 → Int32 → Int32 → Prop} {K39 : St → Int32 → Int32 → Int32 → Int32 → Int32 → Prop} (hE108 : ∀ (st : St), E108 st → X θ κ Ph st 108 [] []) (hE117 : ∀ (st : St), E117 st → X θ κ Ph st 117 [] []) (hE125 : ∀ (st : St) (x1 : Int32) (x2 : Int32) (x3 : Int32) (x4 : Int32), E125 st x1 x2 x3 x4 → X θ κ Ph st 125 [(0, .ref (ad θ 175)), (1, .int x1), (2, .int x2), (3, .int x3), (4, .int x4)] []) (hK39 : ∀ (st : St) (x1 : Int32) (x2 : Int32) (x3 : Int32) (x4 : Int32) (x5 : Int32), K39 st x1 x2 x3 x4 x5 → X θ κ Ph st 39 [(0, .ref (ad θ 175)), (1, .int x1), (2, .int x2), (3, .int x3), (4, .int x4), (5, .int x5)] []) (st : St) (x1 : Int32) (x2 : Int32) (x3 : Int32) (x4 : Int32) (x5 : Int32) (z0 : Int32) (z1 : Int32) (h : w_X4_isPriced_b59 Φ E108 E117 E125 K39 st x1 x2 x3 x4 x5 z0 z1) : X θ κ Ph st 59 [(0, .ref (ad θ 175)), (1, .int x1), (2, .int x2), (3, .int x3), (4, .int x4), (5, .int x5)] [.int z0, .int z1] := by
  unfold w_X4_isPriced_b59 at h
  refine X_icmp_ge (tgt := 125) C dX4_isPriced_59 (by decide) (fun c18 => ?_) (fun c18 => ?_)
  · have h := h.1 c18
    refine X_sub [0, 1, 2, 3, 4] (lo2 := [(0, _), (1, _), (2, _), (3, _), (4, _)]) rfl ?_
    exact hE125 st x1 x2 x3 x4 h
  · have h := h.2 c18
    refine X_aload_n C dX4_isPriced_62 rfl 0 rfl (isRV_r _) ?_
    refine X_getF (ci := 4) (j := 35) (q := (RX4, TX4, 54)) C rfl (by decide) q1801 rfl dX4_isPriced_63 (b := 197) (LX_S hX (k := 175) rfl) (LX_F hX (k := 175) (j := 35) rfl) rfl ?_
    refine X_iconst (v := 0) C dX4_isPriced_66 rfl ?_
    refine X_iload_n C dX4_isPriced_67 rfl 3 rfl ?_
    refine X_iastS C (LX_S hX (k := 197) rfl) (LX_L hX (k := 197) rfl) (vp_dec rfl) rfl dX4_isPriced_68 ?_
    refine X_nm (fun s19 e20 => ?_)
    have h := h s19 e20
    refine X_aload_n C dX4_isPriced_69 rfl 0 rfl (isRV_r _) ?_
    refine X_getF (ci := 4) (j := 35) (q := (RX4, TX4, 54)) C rfl (by decide) q1801 rfl dX4_isPriced_70 (b := 197) (LX_S hX (k := 175) rfl) (LX_F hX (k := 175) (j := 35) rfl) rfl ?_
    refine X_iconst (v := 1) C dX4_isPriced_73 rfl ?_
    refine X_iload C dX4_isPriced_74 4 rfl ?_
    refine X_iastS C (LX_S hX (k := 197) rfl) (LX_L hX (k := 197) rfl) (vp_dec rfl) rfl dX4_isPriced_76 ?_
    refine X_nm (fun s21 e22 => ?_)
    have h := h s21 e22
    refine X_aload_n C dX4_isPriced_77 rfl 0 rfl (isRV_r _) ?_
    refine X_getF (ci := 4) (j := 35) (q := (RX4, TX4, 54)) C rfl (by decide) q1801 rfl dX4_isPriced_78 (b := 197) (LX_S hX (k := 175) rfl) (LX_F hX (k := 175) (j := 35) rfl) rfl ?_
    refine X_iconst (v := 2) C dX4_isPriced_81 rfl ?_
    refine X_iload C dX4_isPriced_82 5 rfl ?_
    refine X_iastS C (LX_S hX (k := 197) rfl) (LX_L hX (k := 197) rfl) (vp_dec rfl) rfl dX4_isPriced_84 ?_
    refine X_nm (fun s23 e24 => ?_)
    have h := h s23 e24
    refine X_aload_n C dX4_isPriced_85 rfl 0 rfl (isRV_r _) ?_
    refine X_iload_n C dX4_isPriced_86 rfl 1 rfl ?_
    refine X_callVS (ci := 4) (q := (RX4, TX4, 54)) (As := [_]) (rest := []) C rfl (LX_S hX (k := 175) rfl) q2116 q2118 qs87 q136 q2119 ⟨rfl, nm_X4_weighs⟩ rfl dX4_isPriced_87 (m_X4_weighs (Cx_l C) hX (d := d - 1) (by omega) s23 x1 h) (by omega) (by decide) (Nat.le_of_ble_eq_true rfl) (fun s26 w27 hE28 hP29 => ?_) (fun s32 E30 q31 hE28 hP29 => ?_)
    rotate_left
    · exact False.elim hP29
    obtain ⟨r25, rfl, h⟩ := hP29
    refine X_tls ?_
    refine X_if_eq (tgt := 110) C dX4_isPriced_90 (by decide) (fun c33 => ?_) (fun c33 => ?_)
    · have h := h.1 c33
      exact t_X4_isPriced_b110 hX hd C hn hE117 hK39 s26 x1 x2 x3 x4 x5 h
    · have h := h.2 c33
      refine X_aload_n C dX4_isPriced_93 rfl 0 rfl (isRV_r _) ?_
      refine X_lconst (v := 0) C dX4_isPriced_94 rfl ?_
      refine X_callVS (ci := 4) (q := (RX4, TX4, 54)) (As := [_]) (rest := []) C rfl (LX_S hX (k := 175) rfl) q2132 q2134 qs91 q136 q2135 ⟨rfl, nm_X4_areAbove⟩ rfl dX4_isPriced_95 (m_X4_areAbove (Cx_l C) hX (d := d - 1) (by omega) s26 0 h) (by omega) (by decide) (Nat.le_of_ble_eq_true rfl) (fun s41 w36 hE37 hP38 => ?_) (fun s42 E39 q40 hE37 hP38 => ?_)
      rotate_left
      · exact False.elim hP38
      obtain ⟨r35, rfl, rfl, h⟩ := hP38
      refine X_tls ?_
      refine X_if_eq (tgt := 110) C dX4_isPriced_98 (by decide) (fun c43 => ?_) (fun c43 => ?_)
      · have h := h.1 c43
        exact t_X4_isPriced_b110 hX hd C hn hE117 hK39 s26 x1 x2 x3 x4 x5 h
      · have h := h.2 c43
        refine X_aload_n C dX4_isPriced_101 rfl 0 rfl (isRV_r _) ?_
        refine X_callVS (ci := 4) (q := (RX4, TX4, 54)) (As := []) (rest := []) C rfl (LX_S hX (k := 175) rfl) q2188 q2190 qs100 q136 q2191 ⟨rfl, nm_X4_holds⟩ rfl dX4_isPriced_102 (m_X4_holds (Cx_l C) hX (d := d - 1) (by omega) s26 h) (by omega) (by decide) (Nat.le_of_ble_eq_true rfl) (fun s45 w46 hE47 hP48 => ?_) (fun s51 E49 q50 hE47 hP48 => ?_)
        rotate_left
        · exact False.elim hP48
        obtain ⟨r44, rfl, h⟩ := hP48
        refine X_tls ?_
        refine X_if_eq (tgt := 110) C dX4_isPriced_105 (by decide) (fun c52 => ?_) (fun c52 => ?_)
        · have h := h.1 c52
          exact t_X4_isPriced_b110 hX hd C hn hE117 hK39 s45 x1 x2 x3 x4 x5 h
        · have h := h.2 c52
          refine X_sub [] (lo2 := []) rfl ?_
          exact hE108 s45 h
def w_X4_isPriced_l39 (Φ : St → Int32 → Prop) (E108 : St → Prop) (E117 : St → Prop) (E125 : St → Int32 → Int32 → Int32 → Int32 → Prop) : Nat → St → Int32 → Int32 → Int32 → Int32 → Int32 → Prop
  | 0, _, _, _, _, _, _ => False
  | n + 1, st, x1, x2, x3, x4, x5 => (((sI st 177 0) ≠ 2) → w_X4_isPriced_b59 Φ E108 E117 E125 (w_X4_isPriced_l39 Φ E108 E117 E125 n) st x1 x2 x3 x4 x5 x2 x5) ∧ (((sI st 177 0) = 2) → w_X4_isPriced_b59 Φ E108 E117 E125 (w_X4_isPriced_l39 Φ E108 E117 E125 n) st x1 x2 x3 x4 x5 (x4 + 2) x5)
theorem t_X4_isPriced_l39 {θ : Th} {κ : Kx} {Ph : Ph} (hX : LX θ) {d : Nat} (hd : 9 ≤ d) (C : Cx θ κ yX4_isPriced cX4_isPriced 6 (some Jvm.ClassFile.FieldType.boolean) [] d) {Φ : St → Int32 → Prop} (hn : ∀ st r, Φ st r → Ph.1 st (some (.int r))) {E108 : St → Prop} {E117 : St → Prop} {E125 : St → Int32 → Int32 → Int32 → Int32 → Prop} (hE108 : ∀ (st : St), E108 st → X θ κ Ph st 108 [] []) (hE117 : ∀ (st : St), E117 st → X θ κ Ph st 117 [] []) (hE125 : ∀ (st : St) (x1 : Int32) (x2 : Int32) (x3 : Int32) (x4 : Int32), E125 st x1 x2 x3 x4 → X θ κ Ph st 125 [(0, .ref (ad θ 175)), (1, .int x1), (2, .int x2), (3, .int x3), (4, .int x4)] []) : ∀ (n : Nat) (st : St) (x1 : Int32) (x2 : Int32) (x3 : Int32) (x4 : Int32) (x5 : Int32), w_X4_isPriced_l39 Φ E108 E117 E125 n st x1 x2 x3 x4 x5 → X θ κ Ph st 39 [(0, .ref (ad θ 175)), (1, .int x1), (2, .int x2), (3, .int x3), (4, .int x4), (5, .int x5)] [] := by
  intro n
  induction n with
  | zero => intro st x1 x2 x3 x4 x5 h; exact h.elim
  | succ n hK39 =>
    intro st x1 x2 x3 x4 x5 h
    rw [w_X4_isPriced_l39] at h
    refine X_iload C dX4_isPriced_39 5 rfl ?_
    refine X_aload_n C dX4_isPriced_41 rfl 0 rfl (isRV_r _) ?_
    refine X_getF (ci := 4) (j := 1) (q := (RX4, TX4, 54)) C rfl (by decide) q1767 rfl dX4_isPriced_42 (b := 177) (LX_S hX (k := 175) rfl) (LX_F hX (k := 175) (j := 1) rfl) rfl ?_
    refine X_iconst (v := 0) C dX4_isPriced_45 rfl ?_
    refine X_ialdS C (LX_S hX (k := 177) rfl) (LX_L hX (k := 177) rfl) (vp_dec rfl) rfl dX4_isPriced_46 ?_
    refine X_iconst (v := 2) C dX4_isPriced_47 rfl ?_
    refine X_icmp_ne (tgt := 58) C dX4_isPriced_48 (by decide) (fun c17 => ?_) (fun c17 => ?_)
    · have h := h.1 c17
      refine X_iload_n C dX4_isPriced_58 rfl 2 rfl ?_
      exact t_X4_isPriced_b59 hX hd C hn hE108 hE117 hE125 hK39 st x1 x2 x3 x4 x5 x2 x5 h
    · have h := h.2 c17
      refine X_iload C dX4_isPriced_51 4 rfl ?_
      refine X_iconst (v := 2) C dX4_isPriced_53 rfl ?_
      refine X_iadd C dX4_isPriced_54 ?_
      refine X_goto (tgt := 59) C dX4_isPriced_55 (by decide) ?_
      exact t_X4_isPriced_b59 hX hd C hn hE108 hE117 hE125 hK39 st x1 x2 x3 x4 x5 (x4 + 2) x5 h
def w_X4_isPriced_b125 (Φ : St → Int32 → Prop) (K27 : St → Int32 → Int32 → Int32 → Int32 → Prop) (st : St) (x1 : Int32) (x2 : Int32) (x3 : Int32) (x4 : Int32) : Prop := K27 st x1 x2 x3 (x4 + 1)
theorem t_X4_isPriced_b125 {θ : Th} {κ : Kx} {Ph : Ph} (hX : LX θ) {d : Nat} (hd : 9 ≤ d) (C : Cx θ κ yX4_isPriced cX4_isPriced 6 (some Jvm.ClassFile.FieldType.boolean) [] d) {Φ : St → Int32 → Prop} (hn : ∀ st r, Φ st r → Ph.1 st (some (.int r))) {K27 : St → Int32 → Int32 → Int32 → Int32 → Prop} (hK27 : ∀ (st : St) (x1 : Int32) (x2 : Int32) (x3 : Int32) (x4 : Int32), K27 st x1 x2 x3 x4 → X θ κ Ph st 27 [(0, .ref (ad θ 175)), (1, .int x1), (2, .int x2), (3, .int x3), (4, .int x4)] []) (st : St) (x1 : Int32) (x2 : Int32) (x3 : Int32) (x4 : Int32) (h : w_X4_isPriced_b125 Φ K27 st x1 x2 x3 x4) : X θ κ Ph st 125 [(0, .ref (ad θ 175)), (1, .int x1), (2, .int x2), (3, .int x3), (4, .int x4)] [] := by
  unfold w_X4_isPriced_b125 at h
  refine X_iinc (v := (x4 + 1)) C (j := 4) dX4_isPriced_125 rfl rfl (lo2 := [(4, _), (0, _), (1, _), (2, _), (3, _)]) (by decide) rfl ?_
  refine X_goto (tgt := 27) C dX4_isPriced_128 (by decide) ?_
  refine X_sub [1, 2, 3, 4, 0] (lo2 := [(0, _), (1, _), (2, _), (3, _), (4, _)]) rfl ?_
  exact hK27 st x1 x2 x3 (x4 + 1) h
def w_X4_isPriced_l27 (Φ : St → Int32 → Prop) (E108 : St → Prop) (E117 : St → Prop) (E131 : St → Int32 → Int32 → Int32 → Prop) : Nat → St → Int32 → Int32 → Int32 → Int32 → Prop
  | 0, _, _, _, _, _ => False
  | n + 1, st, x1, x2, x3, x4 => ((x2 ≤ x4) → E131 st x1 x2 x3) ∧ ((¬ x2 ≤ x4) → ∀ v15 : Int32, v15 = (x4 + 1) → w_X4_isPriced_l39 Φ (fun (s53 : St) => E108 s53) (fun (s54 : St) => E117 s54) (fun (s55 : St) (x1 : Int32) (x2 : Int32) (x3 : Int32) (x4 : Int32) => w_X4_isPriced_b125 Φ (w_X4_isPriced_l27 Φ E108 E117 E131 n) s55 x1 x2 x3 x4) gFU st x1 x2 x3 x4 v15)
theorem t_X4_isPriced_l27 {θ : Th} {κ : Kx} {Ph : Ph} (hX : LX θ) {d : Nat} (hd : 9 ≤ d) (C : Cx θ κ yX4_isPriced cX4_isPriced 6 (some Jvm.ClassFile.FieldType.boolean) [] d) {Φ : St → Int32 → Prop} (hn : ∀ st r, Φ st r → Ph.1 st (some (.int r))) {E108 : St → Prop} {E117 : St → Prop} {E131 : St → Int32 → Int32 → Int32 → Prop} (hE108 : ∀ (st : St), E108 st → X θ κ Ph st 108 [] []) (hE117 : ∀ (st : St), E117 st → X θ κ Ph st 117 [] []) (hE131 : ∀ (st : St) (x1 : Int32) (x2 : Int32) (x3 : Int32), E131 st x1 x2 x3 → X θ κ Ph st 131 [(0, .ref (ad θ 175)), (1, .int x1), (2, .int x2), (3, .int x3)] []) : ∀ (n : Nat) (st : St) (x1 : Int32) (x2 : Int32) (x3 : Int32) (x4 : Int32), w_X4_isPriced_l27 Φ E108 E117 E131 n st x1 x2 x3 x4 → X θ κ Ph st 27 [(0, .ref (ad θ 175)), (1, .int x1), (2, .int x2), (3, .int x3), (4, .int x4)] [] := by
  intro n
  induction n with
  | zero => intro st x1 x2 x3 x4 h; exact h.elim
  | succ n hK27 =>
    intro st x1 x2 x3 x4 h
    rw [w_X4_isPriced_l27] at h
    refine X_iload C dX4_isPriced_27 4 rfl ?_
    refine X_iload_n C dX4_isPriced_29 rfl 2 rfl ?_
    refine X_icmp_ge (tgt := 131) C dX4_isPriced_30 (by decide) (fun c14 => ?_) (fun c14 => ?_)
    · have h := h.1 c14
      refine X_sub [0, 1, 2, 3] (lo2 := [(0, _), (1, _), (2, _), (3, _)]) rfl ?_
      exact hE131 st x1 x2 x3 h
    · have h := h.2 c14
      refine X_iload C dX4_isPriced_33 4 rfl ?_
      refine X_iconst (v := 1) C dX4_isPriced_35 rfl ?_
      refine X_iadd C dX4_isPriced_36 ?_
      refine X_topi (fun v15 e16 => ?_)
      have h := h v15 e16
      refine X_istore C dX4_isPriced_37 (lo2 := [(5, _), (0, _), (1, _), (2, _), (3, _), (4, _)]) (by decide) rfl ?_
      refine X_sub [1, 2, 3, 4, 5, 0] (lo2 := [(0, _), (1, _), (2, _), (3, _), (4, _), (5, _)]) rfl ?_
      refine t_X4_isPriced_l39 hX hd C hn ?_ ?_ ?_ gFU st x1 x2 x3 x4 v15 h
      · intro s53 h
        exact hE108 s53 h
      · intro s54 h
        exact hE117 s54 h
      · intro s55 x1 x2 x3 x4 h
        exact t_X4_isPriced_b125 hX hd C hn hK27 s55 x1 x2 x3 x4 h
def w_X4_isPriced_b131 (Φ : St → Int32 → Prop) (K17 : St → Int32 → Int32 → Int32 → Prop) (st : St) (x1 : Int32) (x2 : Int32) (x3 : Int32) : Prop := K17 st x1 x2 (x3 + 1)
theorem t_X4_isPriced_b131 {θ : Th} {κ : Kx} {Ph : Ph} (hX : LX θ) {d : Nat} (hd : 9 ≤ d) (C : Cx θ κ yX4_isPriced cX4_isPriced 6 (some Jvm.ClassFile.FieldType.boolean) [] d) {Φ : St → Int32 → Prop} (hn : ∀ st r, Φ st r → Ph.1 st (some (.int r))) {K17 : St → Int32 → Int32 → Int32 → Prop} (hK17 : ∀ (st : St) (x1 : Int32) (x2 : Int32) (x3 : Int32), K17 st x1 x2 x3 → X θ κ Ph st 17 [(0, .ref (ad θ 175)), (1, .int x1), (2, .int x2), (3, .int x3)] []) (st : St) (x1 : Int32) (x2 : Int32) (x3 : Int32) (h : w_X4_isPriced_b131 Φ K17 st x1 x2 x3) : X θ κ Ph st 131 [(0, .ref (ad θ 175)), (1, .int x1), (2, .int x2), (3, .int x3)] [] := by
  unfold w_X4_isPriced_b131 at h
  refine X_iinc (v := (x3 + 1)) C (j := 3) dX4_isPriced_131 rfl rfl (lo2 := [(3, _), (0, _), (1, _), (2, _)]) (by decide) rfl ?_
  refine X_goto (tgt := 17) C dX4_isPriced_134 (by decide) ?_
  refine X_sub [1, 2, 3, 0] (lo2 := [(0, _), (1, _), (2, _), (3, _)]) rfl ?_
  exact hK17 st x1 x2 (x3 + 1) h
def w_X4_isPriced_l17 (Φ : St → Int32 → Prop) (E108 : St → Prop) (E117 : St → Prop) (E137 : St → Prop) : Nat → St → Int32 → Int32 → Int32 → Prop
  | 0, _, _, _, _ => False
  | n + 1, st, x1, x2, x3 => ((x2 ≤ x3) → E137 st) ∧ ((¬ x2 ≤ x3) → ∀ v12 : Int32, v12 = (x3 + 1) → w_X4_isPriced_l27 Φ (fun (s56 : St) => E108 s56) (fun (s57 : St) => E117 s57) (fun (s58 : St) (x1 : Int32) (x2 : Int32) (x3 : Int32) => w_X4_isPriced_b131 Φ (w_X4_isPriced_l17 Φ E108 E117 E137 n) s58 x1 x2 x3) gFU st x1 x2 x3 v12)
theorem t_X4_isPriced_l17 {θ : Th} {κ : Kx} {Ph : Ph} (hX : LX θ) {d : Nat} (hd : 9 ≤ d) (C : Cx θ κ yX4_isPriced cX4_isPriced 6 (some Jvm.ClassFile.FieldType.boolean) [] d) {Φ : St → Int32 → Prop} (hn : ∀ st r, Φ st r → Ph.1 st (some (.int r))) {E108 : St → Prop} {E117 : St → Prop} {E137 : St → Prop} (hE108 : ∀ (st : St), E108 st → X θ κ Ph st 108 [] []) (hE117 : ∀ (st : St), E117 st → X θ κ Ph st 117 [] []) (hE137 : ∀ (st : St), E137 st → X θ κ Ph st 137 [] []) : ∀ (n : Nat) (st : St) (x1 : Int32) (x2 : Int32) (x3 : Int32), w_X4_isPriced_l17 Φ E108 E117 E137 n st x1 x2 x3 → X θ κ Ph st 17 [(0, .ref (ad θ 175)), (1, .int x1), (2, .int x2), (3, .int x3)] [] := by
  intro n
  induction n with
  | zero => intro st x1 x2 x3 h; exact h.elim
  | succ n hK17 =>
    intro st x1 x2 x3 h
    rw [w_X4_isPriced_l17] at h
    refine X_iload_n C dX4_isPriced_17 rfl 3 rfl ?_
    refine X_iload_n C dX4_isPriced_18 rfl 2 rfl ?_
    refine X_icmp_ge (tgt := 137) C dX4_isPriced_19 (by decide) (fun c11 => ?_) (fun c11 => ?_)
    · have h := h.1 c11
      refine X_sub [] (lo2 := []) rfl ?_
      exact hE137 st h
    · have h := h.2 c11
      refine X_iload_n C dX4_isPriced_22 rfl 3 rfl ?_
      refine X_iconst (v := 1) C dX4_isPriced_23 rfl ?_
      refine X_iadd C dX4_isPriced_24 ?_
      refine X_topi (fun v12 e13 => ?_)
      have h := h v12 e13
      refine X_istore C dX4_isPriced_25 (lo2 := [(4, _), (0, _), (1, _), (2, _), (3, _)]) (by decide) rfl ?_
      refine X_sub [1, 2, 3, 4, 0] (lo2 := [(0, _), (1, _), (2, _), (3, _), (4, _)]) rfl ?_
      refine t_X4_isPriced_l27 hX hd C hn ?_ ?_ ?_ gFU st x1 x2 x3 v12 h
      · intro s56 h
        exact hE108 s56 h
      · intro s57 h
        exact hE117 s57 h
      · intro s58 x1 x2 x3 h
        exact t_X4_isPriced_b131 hX hd C hn hK17 s58 x1 x2 x3 h
def w_X4_isPriced_b108 (Φ : St → Int32 → Prop) (st : St) : Prop := Φ st 1
theorem t_X4_isPriced_b108 {θ : Th} {κ : Kx} {Ph : Ph} (hX : LX θ) {d : Nat} (hd : 9 ≤ d) (C : Cx θ κ yX4_isPriced cX4_isPriced 6 (some Jvm.ClassFile.FieldType.boolean) [] d) {Φ : St → Int32 → Prop} (hn : ∀ st r, Φ st r → Ph.1 st (some (.int r))) (st : St) (h : w_X4_isPriced_b108 Φ st) : X θ κ Ph st 108 [] [] := by
  unfold w_X4_isPriced_b108 at h
  refine X_iconst (v := 1) C dX4_isPriced_108 rfl ?_
  exact X_zret C rfl rfl dX4_isPriced_109 (hn st _ h)
def w_X4_isPriced_b117 (Φ : St → Int32 → Prop) (st : St) : Prop := Φ st 0
theorem t_X4_isPriced_b117 {θ : Th} {κ : Kx} {Ph : Ph} (hX : LX θ) {d : Nat} (hd : 9 ≤ d) (C : Cx θ κ yX4_isPriced cX4_isPriced 6 (some Jvm.ClassFile.FieldType.boolean) [] d) {Φ : St → Int32 → Prop} (hn : ∀ st r, Φ st r → Ph.1 st (some (.int r))) (st : St) (h : w_X4_isPriced_b117 Φ st) : X θ κ Ph st 117 [] [] := by
  unfold w_X4_isPriced_b117 at h
  refine X_iconst (v := 0) C dX4_isPriced_117 rfl ?_
  exact X_zret C rfl rfl dX4_isPriced_118 (hn st _ h)
def w_X4_isPriced_b137 (Φ : St → Int32 → Prop) (st : St) : Prop := Φ st 0
theorem t_X4_isPriced_b137 {θ : Th} {κ : Kx} {Ph : Ph} (hX : LX θ) {d : Nat} (hd : 9 ≤ d) (C : Cx θ κ yX4_isPriced cX4_isPriced 6 (some Jvm.ClassFile.FieldType.boolean) [] d) {Φ : St → Int32 → Prop} (hn : ∀ st r, Φ st r → Ph.1 st (some (.int r))) (st : St) (h : w_X4_isPriced_b137 Φ st) : X θ κ Ph st 137 [] [] := by
  unfold w_X4_isPriced_b137 at h
  refine X_iconst (v := 0) C dX4_isPriced_137 rfl ?_
  exact X_zret C rfl rfl dX4_isPriced_138 (hn st _ h)
def w_X4_isPriced (st : St) (p1 : Int32) (Φ : St → Int32 → Prop) : Prop := ∀ s1, s1 = putI st 175 36 (sI st 177 0) → w_X4_points s1 (fun (r3 : Int32) => w_X4_isPriced_l17 Φ (fun (s59 : St) => w_X4_isPriced_b108 Φ s59) (fun (s60 : St) => w_X4_isPriced_b117 Φ s60) (fun (s61 : St) => w_X4_isPriced_b137 Φ s61) gFU s1 p1 r3 0)
theorem nm_X4_isPriced : yX4_isPriced.cls ≠ "java/lang/invoke/MethodHandle" ∧ yX4_isPriced.cls ≠ "java/lang/invoke/VarHandle" ∧ (parseMethodDescriptor yX4_isPriced.desc).map (fun d => d.parameters.length) = some 1 := by decide +kernel
theorem e_X4_isPriced : plainFor yX4_isPriced = true := plainFor_of_name (by decide +kernel)
theorem m_X4_isPriced {θ : Th} {l : Launch} (hl0 : l.stackTraces = false) (hX : LX θ) {d : Nat} (hd : 9 ≤ d) (st : St) (p1 : Int32) {Φ : St → Int32 → Prop} (h : w_X4_isPriced st p1 Φ) : Ct θ l yX4_isPriced (ws_ yX4_isPriced cX4_isPriced 6 (some Jvm.ClassFile.FieldType.boolean)) d [.ref (ad θ 175), .int p1] st (pI Φ, noX) := by
  refine Ct_entry hl0 e_X4_isPriced (Nat.le_of_ble_eq_true rfl) (fun κ hκ _ C => ?_)
  have hn : ∀ st r, Φ st r → ((pI Φ, noX) : Ph).1 st (some (.int r)) := fun st r q => ⟨r, rfl, q⟩
  change X _ _ _ _ _ [(0, .ref (ad θ 175)), (1, .int p1)] _
  unfold w_X4_isPriced at h
  refine X_aload_n C dX4_isPriced_0 rfl 0 rfl (isRV_r _) ?_
  refine X_aload_n C dX4_isPriced_1 rfl 0 rfl (isRV_r _) ?_
  refine X_getF (ci := 4) (j := 1) (q := (RX4, TX4, 54)) C rfl (by decide) q1767 rfl dX4_isPriced_2 (b := 177) (LX_S hX (k := 175) rfl) (LX_F hX (k := 175) (j := 1) rfl) rfl ?_
  refine X_iconst (v := 0) C dX4_isPriced_5 rfl ?_
  refine X_ialdS C (LX_S hX (k := 177) rfl) (LX_L hX (k := 177) rfl) (vp_dec rfl) rfl dX4_isPriced_6 ?_
  refine X_putSI (ci := 4) (j := 36) (q := (RX4, TX4, 54)) C rfl (by decide) q1802 rfl rfl dX4_isPriced_7 (LX_S hX (k := 175) rfl) rfl rfl rfl ?_
  refine X_nm (fun s1 e2 => ?_)
  have h := h s1 e2
  refine X_aload_n C dX4_isPriced_10 rfl 0 rfl (isRV_r _) ?_
  refine X_callVS (ci := 4) (q := (RX4, TX4, 54)) (As := []) (rest := []) C rfl (LX_S hX (k := 175) rfl) q1996 q1998 qs68 q136 q1999 ⟨rfl, nm_X4_points⟩ rfl dX4_isPriced_11 (m_X4_points (Cx_l C) hX (d := d - 1) (by omega) s1 h) (by omega) (by decide) (Nat.le_of_ble_eq_true rfl) (fun s9 w4 hE5 hP6 => ?_) (fun s10 E7 q8 hE5 hP6 => ?_)
  rotate_left
  · exact False.elim hP6
  obtain ⟨r3, rfl, rfl, h⟩ := hP6
  refine X_tls ?_
  refine X_istore_n C dX4_isPriced_14 rfl (lo2 := [(2, _), (0, _), (1, _)]) (by decide) rfl ?_
  refine X_iconst (v := 0) C dX4_isPriced_15 rfl ?_
  refine X_istore_n C dX4_isPriced_16 rfl (lo2 := [(3, _), (2, _), (0, _), (1, _)]) (by decide) rfl ?_
  refine X_sub [2, 3, 1, 0] (lo2 := [(0, _), (1, _), (2, _), (3, _)]) rfl ?_
  refine t_X4_isPriced_l17 hX hd C hn ?_ ?_ ?_ gFU s1 p1 r3 0 h
  · intro s59 h
    exact t_X4_isPriced_b108 hX hd C hn s59 h
  · intro s60 h
    exact t_X4_isPriced_b117 hX hd C hn s60 h
  · intro s61 h
    exact t_X4_isPriced_b137 hX hd C hn s61 h

def w_X4_corner_b32 (Φ : Int32 → Prop) (K4 : St → Int32 → Int32 → Int32 → Prop) (st0 : St) (x1 : Int32) (x3 : Int32) (z0 : Int32) : Prop := K4 st0 x1 z0 (x3 + 1)
theorem t_X4_corner_b32 {θ : Th} {κ : Kx} {Ph : Ph} (hX : LX θ) {st0 : St} {d : Nat} (hd : 1 ≤ d) (C : Cx θ κ yX4_corner cX4_corner 4 (some Jvm.ClassFile.FieldType.int) [] d) {Φ : Int32 → Prop} (hn : ∀ r, Φ r → Ph.1 st0 (some (.int r))) {K4 : St → Int32 → Int32 → Int32 → Prop} (hK4 : ∀ (x1 : Int32) (x2 : Int32) (x3 : Int32), K4 st0 x1 x2 x3 → X θ κ Ph st0 4 [(0, .ref (ad θ 175)), (1, .int x1), (2, .int x2), (3, .int x3)] []) (x1 : Int32) (x3 : Int32) (z0 : Int32) (h : w_X4_corner_b32 Φ K4 st0 x1 x3 z0) : X θ κ Ph st0 32 [(0, .ref (ad θ 175)), (1, .int x1), (3, .int x3)] [.int z0] := by
  unfold w_X4_corner_b32 at h
  refine X_istore_n C dX4_corner_32 rfl (lo2 := [(2, _), (0, _), (1, _), (3, _)]) (by decide) rfl ?_
  refine X_iinc (v := (x3 + 1)) C (j := 3) dX4_corner_33 rfl rfl (lo2 := [(3, _), (2, _), (0, _), (1, _)]) (by decide) rfl ?_
  refine X_goto (tgt := 4) C dX4_corner_36 (by decide) ?_
  refine X_sub [2, 3, 1, 0] (lo2 := [(0, _), (1, _), (2, _), (3, _)]) rfl ?_
  exact hK4 x1 z0 (x3 + 1) h
def w_X4_corner_l4 (Φ : Int32 → Prop) (E39 : St → Int32 → Prop) : Nat → St → Int32 → Int32 → Int32 → Prop
  | 0, _, _, _, _ => False
  | n + 1, st0, x1, x2, x3 => w_X4_points st0 (fun (r1 : Int32) => ((r1 ≤ x3) → E39 st0 x2) ∧ ((¬ r1 ≤ x3) → w_X4_gives st0 x3 x1 (fun (r10 : Int32) => ((r10 ≠ (sI st0 177 1)) → w_X4_corner_b32 Φ (w_X4_corner_l4 Φ E39 n) st0 x1 x3 x2) ∧ ((r10 = (sI st0 177 1)) → w_X4_corner_b32 Φ (w_X4_corner_l4 Φ E39 n) st0 x1 x3 x3))))
theorem t_X4_corner_l4 {θ : Th} {κ : Kx} {Ph : Ph} (hX : LX θ) {st0 : St} {d : Nat} (hd : 1 ≤ d) (C : Cx θ κ yX4_corner cX4_corner 4 (some Jvm.ClassFile.FieldType.int) [] d) {Φ : Int32 → Prop} (hn : ∀ r, Φ r → Ph.1 st0 (some (.int r))) {E39 : St → Int32 → Prop} (hE39 : ∀ (x2 : Int32), E39 st0 x2 → X θ κ Ph st0 39 [(2, .int x2)] []) : ∀ (n : Nat) (x1 : Int32) (x2 : Int32) (x3 : Int32), w_X4_corner_l4 Φ E39 n st0 x1 x2 x3 → X θ κ Ph st0 4 [(0, .ref (ad θ 175)), (1, .int x1), (2, .int x2), (3, .int x3)] [] := by
  intro n
  induction n with
  | zero => intro x1 x2 x3 h; exact h.elim
  | succ n hK4 =>
    intro x1 x2 x3 h
    rw [w_X4_corner_l4] at h
    refine X_iload_n C dX4_corner_4 rfl 3 rfl ?_
    refine X_aload_n C dX4_corner_5 rfl 0 rfl (isRV_r _) ?_
    refine X_callVS (ci := 4) (q := (RX4, TX4, 54)) (As := []) (rest := [_]) C rfl (LX_S hX (k := 175) rfl) q1996 q1998 qs68 q136 q1999 ⟨rfl, nm_X4_points⟩ rfl dX4_corner_6 (m_X4_points (Cx_l C) hX (d := d - 1) (by omega) st0 h) (by omega) (by decide) (Nat.le_of_ble_eq_true rfl) (fun s7 w2 hE3 hP4 => ?_) (fun s8 E5 q6 hE3 hP4 => ?_)
    rotate_left
    · exact False.elim hP4
    obtain ⟨r1, rfl, rfl, h⟩ := hP4
    refine X_tls ?_
    refine X_icmp_ge (tgt := 39) C dX4_corner_9 (by decide) (fun c9 => ?_) (fun c9 => ?_)
    · have h := h.1 c9
      refine X_sub [2] (lo2 := [(2, _)]) rfl ?_
      exact hE39 x2 h
    · have h := h.2 c9
      refine X_aload_n C dX4_corner_12 rfl 0 rfl (isRV_r _) ?_
      refine X_iload_n C dX4_corner_13 rfl 3 rfl ?_
      refine X_iload_n C dX4_corner_14 rfl 1 rfl ?_
      refine X_callVS (ci := 4) (q := (RX4, TX4, 54)) (As := [_, _]) (rest := []) C rfl (LX_S hX (k := 175) rfl) q2014 q2016 qs70 q136 q2017 ⟨rfl, nm_X4_gives⟩ rfl dX4_corner_15 (m_X4_gives (Cx_l C) hX (d := d - 1) (by omega) st0 x3 x1 h) (by omega) (by decide) (Nat.le_of_ble_eq_true rfl) (fun s16 w11 hE12 hP13 => ?_) (fun s17 E14 q15 hE12 hP13 => ?_)
      rotate_left
      · exact False.elim hP13
      obtain ⟨r10, rfl, rfl, h⟩ := hP13
      refine X_tls ?_
      refine X_aload_n C dX4_corner_18 rfl 0 rfl (isRV_r _) ?_
      refine X_getF (ci := 4) (j := 1) (q := (RX4, TX4, 54)) C rfl (by decide) q1767 rfl dX4_corner_19 (b := 177) (LX_S hX (k := 175) rfl) (LX_F hX (k := 175) (j := 1) rfl) rfl ?_
      refine X_iconst (v := 1) C dX4_corner_22 rfl ?_
      refine X_ialdS C (LX_S hX (k := 177) rfl) (LX_L hX (k := 177) rfl) (vp_dec rfl) rfl dX4_corner_23 ?_
      refine X_icmp_ne (tgt := 31) C dX4_corner_24 (by decide) (fun c18 => ?_) (fun c18 => ?_)
      · have h := h.1 c18
        refine X_iload_n C dX4_corner_31 rfl 2 rfl ?_
        refine X_sub [0, 1, 3] (lo2 := [(0, _), (1, _), (3, _)]) rfl ?_
        exact t_X4_corner_b32 hX hd C hn hK4 x1 x3 x2 h
      · have h := h.2 c18
        refine X_iload_n C dX4_corner_27 rfl 3 rfl ?_
        refine X_goto (tgt := 32) C dX4_corner_28 (by decide) ?_
        refine X_sub [0, 1, 3] (lo2 := [(0, _), (1, _), (3, _)]) rfl ?_
        exact t_X4_corner_b32 hX hd C hn hK4 x1 x3 x3 h
def w_X4_corner_b39 (Φ : Int32 → Prop) (st0 : St) (x2 : Int32) : Prop := Φ x2
theorem t_X4_corner_b39 {θ : Th} {κ : Kx} {Ph : Ph} (hX : LX θ) {st0 : St} {d : Nat} (hd : 1 ≤ d) (C : Cx θ κ yX4_corner cX4_corner 4 (some Jvm.ClassFile.FieldType.int) [] d) {Φ : Int32 → Prop} (hn : ∀ r, Φ r → Ph.1 st0 (some (.int r))) (x2 : Int32) (h : w_X4_corner_b39 Φ st0 x2) : X θ κ Ph st0 39 [(2, .int x2)] [] := by
  unfold w_X4_corner_b39 at h
  refine X_iload_n C dX4_corner_39 rfl 0 rfl ?_
  exact X_iret C rfl dX4_corner_40 (hn _ h)
def w_X4_corner (st0 : St) (p1 : Int32) (Φ : Int32 → Prop) : Prop := w_X4_corner_l4 Φ (fun (_ : St) (x2 : Int32) => w_X4_corner_b39 Φ st0 x2) gFU st0 p1 0 0
theorem nm_X4_corner : yX4_corner.cls ≠ "java/lang/invoke/MethodHandle" ∧ yX4_corner.cls ≠ "java/lang/invoke/VarHandle" ∧ (parseMethodDescriptor yX4_corner.desc).map (fun d => d.parameters.length) = some 1 := by decide +kernel
theorem e_X4_corner : plainFor yX4_corner = true := plainFor_of_name (by decide +kernel)
theorem m_X4_corner {θ : Th} {l : Launch} (hl0 : l.stackTraces = false) (hX : LX θ) {d : Nat} (hd : 1 ≤ d) (st0 : St) (p1 : Int32) {Φ : Int32 → Prop} (h : w_X4_corner st0 p1 Φ) : Ct θ l yX4_corner (ws_ yX4_corner cX4_corner 4 (some Jvm.ClassFile.FieldType.int)) d [.ref (ad θ 175), .int p1] st0 (rI st0 Φ, noX) := by
  refine Ct_entry hl0 e_X4_corner (Nat.le_of_ble_eq_true rfl) (fun κ hκ _ C => ?_)
  have hn : ∀ r, Φ r → ((rI st0 Φ, noX) : Ph).1 st0 (some (.int r)) := fun r q => ⟨r, rfl, rfl, q⟩
  change X _ _ _ _ _ [(0, .ref (ad θ 175)), (1, .int p1)] _
  unfold w_X4_corner at h
  refine X_iconst (v := 0) C dX4_corner_0 rfl ?_
  refine X_istore_n C dX4_corner_1 rfl (lo2 := [(2, _), (0, _), (1, _)]) (by decide) rfl ?_
  refine X_iconst (v := 0) C dX4_corner_2 rfl ?_
  refine X_istore_n C dX4_corner_3 rfl (lo2 := [(3, _), (2, _), (0, _), (1, _)]) (by decide) rfl ?_
  refine X_sub [2, 3, 1, 0] (lo2 := [(0, _), (1, _), (2, _), (3, _)]) rfl ?_
  refine t_X4_corner_l4 hX hd C hn ?_ gFU p1 0 0 h
  · intro x2 h
    exact t_X4_corner_b39 hX hd C hn x2 h

def w_X4_price_b23 (Φ : St → Int64 → Prop) (st : St) : Prop := w_X4_findsFar st 1 (fun (s11 : St) (r10 : Int64) => Φ s11 r10)
theorem t_X4_price_b23 {θ : Th} {κ : Kx} {Ph : Ph} (hX : LX θ) {d : Nat} (hd : 10 ≤ d) (C : Cx θ κ yX4_price cX4_price 5 (some Jvm.ClassFile.FieldType.long) [] d) {Φ : St → Int64 → Prop} (hn : ∀ st r, Φ st r → Ph.1 st (some (.long r))) (st : St) (h : w_X4_price_b23 Φ st) : X θ κ Ph st 23 [(0, .ref (ad θ 175))] [] := by
  unfold w_X4_price_b23 at h
  refine X_aload_n C dX4_price_23 rfl 0 rfl (isRV_r _) ?_
  refine X_iconst (v := 1) C dX4_price_24 rfl ?_
  refine X_callVS (ci := 4) (q := (RX4, TX4, 54)) (As := [_]) (rest := []) C rfl (LX_S hX (k := 175) rfl) q2033 q2035 qs72 q136 q2036 ⟨rfl, nm_X4_findsFar⟩ rfl dX4_price_25 (m_X4_findsFar (Cx_l C) hX (d := d - 1) (by omega) st 1 h) (by omega) (by decide) (Nat.le_of_ble_eq_true rfl) (fun s11 w12 hE13 hP14 => ?_) (fun s17 E15 q16 hE13 hP14 => ?_)
  rotate_left
  · exact False.elim hP14
  obtain ⟨r10, rfl, h⟩ := hP14
  refine X_tls ?_
  exact X_lret C rfl dX4_price_28 (hn s11 _ h)
def w_X4_price_b59 (Φ : St → Int64 → Prop) (st : St) (x3 : Int32) (x4 : Int32) : Prop := (((sI st 175 20) = 0) → ((x4 ≠ 0) → ((x3 ≠ 0) → Φ st (sL st 175 19)) ∧ ((x3 = 0) → Φ st (sL st 175 18))) ∧ ((x4 = 0) → w_X4_findsFar st 5 (fun (s57 : St) (r56 : Int64) => Φ s57 r56))) ∧ ((¬ (sI st 175 20) = 0) → w_X4_findsFar st 6 (fun (s65 : St) (r64 : Int64) => Φ s65 r64))
theorem t_X4_price_b59 {θ : Th} {κ : Kx} {Ph : Ph} (hX : LX θ) {d : Nat} (hd : 10 ≤ d) (C : Cx θ κ yX4_price cX4_price 5 (some Jvm.ClassFile.FieldType.long) [] d) {Φ : St → Int64 → Prop} (hn : ∀ st r, Φ st r → Ph.1 st (some (.long r))) (st : St) (x3 : Int32) (x4 : Int32) (h : w_X4_price_b59 Φ st x3 x4) : X θ κ Ph st 59 [(0, .ref (ad θ 175)), (3, .int x3), (4, .int x4)] [] := by
  unfold w_X4_price_b59 at h
  refine X_aload_n C dX4_price_59 rfl 0 rfl (isRV_r _) ?_
  refine X_getS (ci := 4) (j := 20) (q := (RX4, TX4, 54)) C rfl (by decide) q1786 rfl dX4_price_60 (LX_S hX (k := 175) rfl) (v := .int (sI st 175 20)) rfl ?_
  refine X_if_eq (tgt := 75) C dX4_price_63 (by decide) (fun c53 => ?_) (fun c53 => ?_)
  · have h := h.1 c53
    refine X_iload C dX4_price_75 2 rfl ?_
    refine X_if_ne (tgt := 88) C dX4_price_77 (by decide) (fun c54 => ?_) (fun c54 => ?_)
    · have h := h.1 c54
      refine X_iload_n C dX4_price_88 rfl 1 rfl ?_
      refine X_if_ne (tgt := 99) C dX4_price_89 (by decide) (fun c55 => ?_) (fun c55 => ?_)
      · have h := h.1 c55
        refine X_aload_n C dX4_price_99 rfl 0 rfl (isRV_r _) ?_
        refine X_getS (ci := 4) (j := 19) (q := (RX4, TX4, 54)) C rfl (by decide) q1785 rfl dX4_price_100 (LX_S hX (k := 175) rfl) (v := .long (sL st 175 19)) rfl ?_
        exact X_lret C rfl dX4_price_103 (hn st _ h)
      · have h := h.2 c55
        refine X_aload_n C dX4_price_92 rfl 0 rfl (isRV_r _) ?_
        refine X_getS (ci := 4) (j := 18) (q := (RX4, TX4, 54)) C rfl (by decide) q1784 rfl dX4_price_93 (LX_S hX (k := 175) rfl) (v := .long (sL st 175 18)) rfl ?_
        refine X_goto (tgt := 103) C dX4_price_96 (by decide) ?_
        exact X_lret C rfl dX4_price_103 (hn st _ h)
    · have h := h.2 c54
      refine X_aload_n C dX4_price_80 rfl 0 rfl (isRV_r _) ?_
      refine X_iconst (v := 5) C dX4_price_81 rfl ?_
      refine X_callVS (ci := 4) (q := (RX4, TX4, 54)) (As := [_]) (rest := []) C rfl (LX_S hX (k := 175) rfl) q2033 q2035 qs72 q136 q2036 ⟨rfl, nm_X4_findsFar⟩ rfl dX4_price_82 (m_X4_findsFar (Cx_l C) hX (d := d - 1) (by omega) st 5 h) (by omega) (by decide) (Nat.le_of_ble_eq_true rfl) (fun s57 w58 hE59 hP60 => ?_) (fun s63 E61 q62 hE59 hP60 => ?_)
      rotate_left
      · exact False.elim hP60
      obtain ⟨r56, rfl, h⟩ := hP60
      refine X_tls ?_
      refine X_goto (tgt := 103) C dX4_price_85 (by decide) ?_
      exact X_lret C rfl dX4_price_103 (hn s57 _ h)
  · have h := h.2 c53
    refine X_aload_n C dX4_price_66 rfl 0 rfl (isRV_r _) ?_
    refine X_bipush (v := 6) C dX4_price_67 rfl ?_
    refine X_callVS (ci := 4) (q := (RX4, TX4, 54)) (As := [_]) (rest := []) C rfl (LX_S hX (k := 175) rfl) q2033 q2035 qs72 q136 q2036 ⟨rfl, nm_X4_findsFar⟩ rfl dX4_price_69 (m_X4_findsFar (Cx_l C) hX (d := d - 1) (by omega) st 6 h) (by omega) (by decide) (Nat.le_of_ble_eq_true rfl) (fun s65 w66 hE67 hP68 => ?_) (fun s71 E69 q70 hE67 hP68 => ?_)
    rotate_left
    · exact False.elim hP68
    obtain ⟨r64, rfl, h⟩ := hP68
    refine X_tls ?_
    refine X_goto (tgt := 103) C dX4_price_72 (by decide) ?_
    exact X_lret C rfl dX4_price_103 (hn s65 _ h)
def w_X4_price (st : St) (p1 : Int32) (p2 : Int32) (p3 : Int32) (Φ : St → Int64 → Prop) : Prop := w_X4_isPoint st p1 (fun (r1 : Int32) => ((r1 = 0) → w_X4_price_b23 Φ st) ∧ ((¬ r1 = 0) → w_X4_isState st p2 (fun (r18 : Int32) => ((r18 = 0) → w_X4_price_b23 Φ st) ∧ ((¬ r18 = 0) → w_X4_isPart p3 (fun (r27 : Int32) => ((r27 ≠ 0) → w_X4_begins st (fun (s37 : St) => w_X4_isPriced s37 p1 (fun (s45 : St) (r44 : Int32) => ((r44 = 0) → w_X4_price_b59 Φ s45 p3 r44) ∧ ((¬ r44 = 0) → w_X4_corner s45 p2 (fun (r72 : Int32) => w_X4_weighs s45 r72 (fun (s81 : St) (r80 : Int32) => w_X4_mixes s81 (fun (s89 : St) => w_X4_price_b59 Φ s89 p3 r44))))))) ∧ ((r27 = 0) → w_X4_price_b23 Φ st))))))
theorem nm_X4_price : yX4_price.cls ≠ "java/lang/invoke/MethodHandle" ∧ yX4_price.cls ≠ "java/lang/invoke/VarHandle" ∧ (parseMethodDescriptor yX4_price.desc).map (fun d => d.parameters.length) = some 3 := by decide +kernel
theorem e_X4_price : plainFor yX4_price = true := plainFor_of_name (by decide +kernel)
theorem m_X4_price {θ : Th} {l : Launch} (hl0 : l.stackTraces = false) (hX : LX θ) {d : Nat} (hd : 10 ≤ d) (st : St) (p1 : Int32) (p2 : Int32) (p3 : Int32) {Φ : St → Int64 → Prop} (h : w_X4_price st p1 p2 p3 Φ) : Ct θ l yX4_price (ws_ yX4_price cX4_price 5 (some Jvm.ClassFile.FieldType.long)) d [.ref (ad θ 175), .int p1, .int p2, .int p3] st (pL Φ, noX) := by
  refine Ct_entry hl0 e_X4_price (Nat.le_of_ble_eq_true rfl) (fun κ hκ _ C => ?_)
  have hn : ∀ st r, Φ st r → ((pL Φ, noX) : Ph).1 st (some (.long r)) := fun st r q => ⟨r, rfl, q⟩
  change X _ _ _ _ _ [(0, .ref (ad θ 175)), (1, .int p1), (2, .int p2), (3, .int p3)] _
  unfold w_X4_price at h
  refine X_aload_n C dX4_price_0 rfl 0 rfl (isRV_r _) ?_
  refine X_iload_n C dX4_price_1 rfl 1 rfl ?_
  refine X_callVS (ci := 4) (q := (RX4, TX4, 54)) (As := [_]) (rest := []) C rfl (LX_S hX (k := 175) rfl) q1992 q1994 qs67 q136 q1995 ⟨rfl, nm_X4_isPoint⟩ rfl dX4_price_2 (m_X4_isPoint (Cx_l C) hX (d := d - 1) (by omega) st p1 h) (by omega) (by decide) (Nat.le_of_ble_eq_true rfl) (fun s7 w2 hE3 hP4 => ?_) (fun s8 E5 q6 hE3 hP4 => ?_)
  rotate_left
  · exact False.elim hP4
  obtain ⟨r1, rfl, rfl, h⟩ := hP4
  refine X_tls ?_
  refine X_if_eq (tgt := 23) C dX4_price_5 (by decide) (fun c9 => ?_) (fun c9 => ?_)
  · have h := h.1 c9
    refine X_sub [0] (lo2 := [(0, _)]) rfl ?_
    exact t_X4_price_b23 hX hd C hn st h
  · have h := h.2 c9
    refine X_aload_n C dX4_price_8 rfl 0 rfl (isRV_r _) ?_
    refine X_iload_n C dX4_price_9 rfl 2 rfl ?_
    refine X_callVS (ci := 4) (q := (RX4, TX4, 54)) (As := [_]) (rest := []) C rfl (LX_S hX (k := 175) rfl) q2004 q2006 qs69 q136 q2007 ⟨rfl, nm_X4_isState⟩ rfl dX4_price_10 (m_X4_isState (Cx_l C) hX (d := d - 1) (by omega) st p2 h) (by omega) (by decide) (Nat.le_of_ble_eq_true rfl) (fun s24 w19 hE20 hP21 => ?_) (fun s25 E22 q23 hE20 hP21 => ?_)
    rotate_left
    · exact False.elim hP21
    obtain ⟨r18, rfl, rfl, h⟩ := hP21
    refine X_tls ?_
    refine X_if_eq (tgt := 23) C dX4_price_13 (by decide) (fun c26 => ?_) (fun c26 => ?_)
    · have h := h.1 c26
      refine X_sub [0] (lo2 := [(0, _)]) rfl ?_
      exact t_X4_price_b23 hX hd C hn st h
    · have h := h.2 c26
      refine X_iload_n C dX4_price_16 rfl 3 rfl ?_
      refine X_callS (As := [_]) (rest := []) C q2030 q2031 q136 q2032 nm_X4_isPart rfl dX4_price_17 (m_X4_isPart (Cx_l C) hX (d := d - 1) (by omega) st p3 h) (by omega) (by decide) (Nat.le_of_ble_eq_true rfl) (fun s33 w28 hE29 hP30 => ?_) (fun s34 E31 q32 hE29 hP30 => ?_)
      rotate_left
      · exact False.elim hP30
      obtain ⟨r27, rfl, rfl, h⟩ := hP30
      refine X_tls ?_
      refine X_if_ne (tgt := 29) C dX4_price_20 (by decide) (fun c35 => ?_) (fun c35 => ?_)
      · have h := h.1 c35
        refine X_aload_n C dX4_price_29 rfl 0 rfl (isRV_r _) ?_
        refine X_callVS (ci := 4) (q := (RX4, TX4, 54)) (As := []) (rest := []) C rfl (LX_S hX (k := 175) rfl) q2038 q2040 qs73 q136 q2041 ⟨rfl, nm_X4_begins⟩ rfl dX4_price_30 (m_X4_begins (Cx_l C) hX (d := d - 1) (by omega) st h) (by omega) (by decide) (Nat.le_of_ble_eq_true rfl) (fun s37 w38 hE39 hP40 => ?_) (fun s43 E41 q42 hE39 hP40 => ?_)
        rotate_left
        · exact False.elim hP40
        obtain ⟨rfl, h⟩ := hP40
        refine X_tln ?_
        refine X_aload_n C dX4_price_33 rfl 0 rfl (isRV_r _) ?_
        refine X_iload_n C dX4_price_34 rfl 1 rfl ?_
        refine X_callVS (ci := 4) (q := (RX4, TX4, 54)) (As := [_]) (rest := []) C rfl (LX_S hX (k := 175) rfl) q2184 q2186 qs99 q136 q2187 ⟨rfl, nm_X4_isPriced⟩ rfl dX4_price_35 (m_X4_isPriced (Cx_l C) hX (d := d - 1) (by omega) s37 p1 h) (by omega) (by decide) (Nat.le_of_ble_eq_true rfl) (fun s45 w46 hE47 hP48 => ?_) (fun s51 E49 q50 hE47 hP48 => ?_)
        rotate_left
        · exact False.elim hP48
        obtain ⟨r44, rfl, h⟩ := hP48
        refine X_tls ?_
        refine X_istore C dX4_price_38 (lo2 := [(4, _), (0, _), (1, _), (2, _), (3, _)]) (by decide) rfl ?_
        refine X_iload C dX4_price_40 0 rfl ?_
        refine X_if_eq (tgt := 59) C dX4_price_42 (by decide) (fun c52 => ?_) (fun c52 => ?_)
        · have h := h.1 c52
          refine X_sub [1, 4, 0] (lo2 := [(0, _), (3, _), (4, _)]) rfl ?_
          exact t_X4_price_b59 hX hd C hn s45 p3 r44 h
        · have h := h.2 c52
          refine X_aload_n C dX4_price_45 rfl 1 rfl (isRV_r _) ?_
          refine X_aload_n C dX4_price_46 rfl 1 rfl (isRV_r _) ?_
          refine X_iload_n C dX4_price_47 rfl 3 rfl ?_
          refine X_callVS (ci := 4) (q := (RX4, TX4, 54)) (As := [_]) (rest := [_]) C rfl (LX_S hX (k := 175) rfl) q2192 q2194 qs101 q136 q2195 ⟨rfl, nm_X4_corner⟩ rfl dX4_price_48 (m_X4_corner (Cx_l C) hX (d := d - 1) (by omega) s45 p2 h) (by omega) (by decide) (Nat.le_of_ble_eq_true rfl) (fun s78 w73 hE74 hP75 => ?_) (fun s79 E76 q77 hE74 hP75 => ?_)
          rotate_left
          · exact False.elim hP75
          obtain ⟨r72, rfl, rfl, h⟩ := hP75
          refine X_tls ?_
          refine X_callVS (ci := 4) (q := (RX4, TX4, 54)) (As := [_]) (rest := []) C rfl (LX_S hX (k := 175) rfl) q2116 q2118 qs87 q136 q2119 ⟨rfl, nm_X4_weighs⟩ rfl dX4_price_51 (m_X4_weighs (Cx_l C) hX (d := d - 1) (by omega) s45 r72 h) (by omega) (by decide) (Nat.le_of_ble_eq_true rfl) (fun s81 w82 hE83 hP84 => ?_) (fun s87 E85 q86 hE83 hP84 => ?_)
          rotate_left
          · exact False.elim hP84
          obtain ⟨r80, rfl, h⟩ := hP84
          refine X_tls ?_
          refine X_pop C dX4_price_54 rfl ?_
          refine X_aload_n C dX4_price_55 rfl 1 rfl (isRV_r _) ?_
          refine X_callVS (ci := 4) (q := (RX4, TX4, 54)) (As := []) (rest := []) C rfl (LX_S hX (k := 175) rfl) q2136 q2138 qs92 q136 q2139 ⟨rfl, nm_X4_mixes⟩ rfl dX4_price_56 (m_X4_mixes (Cx_l C) hX (d := d - 1) (by omega) s81 h) (by omega) (by decide) (Nat.le_of_ble_eq_true rfl) (fun s89 w90 hE91 hP92 => ?_) (fun s95 E93 q94 hE91 hP92 => ?_)
          rotate_left
          · exact False.elim hP92
          obtain ⟨rfl, h⟩ := hP92
          refine X_tln ?_
          refine X_sub [1, 4, 0] (lo2 := [(0, _), (3, _), (4, _)]) rfl ?_
          exact t_X4_price_b59 hX hd C hn s89 p3 r44 h
      · have h := h.2 c35
        refine X_sub [0] (lo2 := [(0, _)]) rfl ?_
        exact t_X4_price_b23 hX hd C hn st h

def w_X4_once_2_l80 (Φ : St → Prop) (E142 : St → Int32 → Int32 → Int32 → Int32 → Int32 → Prop) : Nat → St → Int32 → Int32 → Int32 → Int32 → Int32 → Int32 → Int32 → Prop
  | 0, _, _, _, _, _, _, _, _ => False
  | n + 1, st, x1, x2, x3, x4, x5, x6, x7 => (((sI st 177 0) ≤ x7) → E142 st x1 x2 x3 x4 x6) ∧ ((¬ (sI st 177 0) ≤ x7) → w_X4_gives st x1 x7 (fun (r11 : Int32) => ¬ (sI st 177 2) = 0 ∧ w_X4_place x7 (x5 - x5 / (sI st 177 2) * (sI st 177 2)) x4 (fun (r20 : Int32) => vp_in r20 97 ∧ ∀ v29 : Int32, v29 = (x6 + (r11 * (sI st 177 r20.toNatClampNeg))) → ∀ v31 : Int32, v31 = (x5 / (sI st 177 2)) → w_X4_once_2_l80 Φ E142 n st x1 x2 x3 x4 v31 v29 (x7 + 1))))
theorem t_X4_once_2_l80 {θ : Th} {κ : Kx} {Ph : Ph} (hX : LX θ) {d : Nat} (hd : 5 ≤ d) (C : Cx θ κ yX4_once_2 cX4_once_2 8 (none : Option Jvm.ClassFile.FieldType) [] d) {Φ : St → Prop} (hn : ∀ st, Φ st → Ph.1 st none) {E142 : St → Int32 → Int32 → Int32 → Int32 → Int32 → Prop} (hE142 : ∀ (st : St) (x1 : Int32) (x2 : Int32) (x3 : Int32) (x4 : Int32) (x6 : Int32), E142 st x1 x2 x3 x4 x6 → X θ κ Ph st 142 [(0, .ref (ad θ 175)), (1, .int x1), (2, .int x2), (3, .int x3), (4, .int x4), (6, .int x6)] []) : ∀ (n : Nat) (st : St) (x1 : Int32) (x2 : Int32) (x3 : Int32) (x4 : Int32) (x5 : Int32) (x6 : Int32) (x7 : Int32), w_X4_once_2_l80 Φ E142 n st x1 x2 x3 x4 x5 x6 x7 → X θ κ Ph st 80 [(0, .ref (ad θ 175)), (1, .int x1), (2, .int x2), (3, .int x3), (4, .int x4), (5, .int x5), (6, .int x6), (7, .int x7)] [] := by
  intro n
  induction n with
  | zero => intro st x1 x2 x3 x4 x5 x6 x7 h; exact h.elim
  | succ n hK80 =>
    intro st x1 x2 x3 x4 x5 x6 x7 h
    rw [w_X4_once_2_l80] at h
    refine X_iload C dX4_once_2_80 7 rfl ?_
    refine X_aload_n C dX4_once_2_82 rfl 0 rfl (isRV_r _) ?_
    refine X_getF (ci := 4) (j := 1) (q := (RX4, TX4, 54)) C rfl (by decide) q1767 rfl dX4_once_2_83 (b := 177) (LX_S hX (k := 175) rfl) (LX_F hX (k := 175) (j := 1) rfl) rfl ?_
    refine X_iconst (v := 0) C dX4_once_2_86 rfl ?_
    refine X_ialdS C (LX_S hX (k := 177) rfl) (LX_L hX (k := 177) rfl) (vp_dec rfl) rfl dX4_once_2_87 ?_
    refine X_icmp_ge (tgt := 142) C dX4_once_2_88 (by decide) (fun c10 => ?_) (fun c10 => ?_)
    · have h := h.1 c10
      refine X_sub [0, 1, 2, 3, 4, 6] (lo2 := [(0, _), (1, _), (2, _), (3, _), (4, _), (6, _)]) rfl ?_
      exact hE142 st x1 x2 x3 x4 x6 h
    · have h := h.2 c10
      refine X_iload C dX4_once_2_91 6 rfl ?_
      refine X_aload_n C dX4_once_2_93 rfl 0 rfl (isRV_r _) ?_
      refine X_iload_n C dX4_once_2_94 rfl 1 rfl ?_
      refine X_iload C dX4_once_2_95 7 rfl ?_
      refine X_callVS (ci := 4) (q := (RX4, TX4, 54)) (As := [_, _]) (rest := [_]) C rfl (LX_S hX (k := 175) rfl) q2014 q2016 qs70 q136 q2017 ⟨rfl, nm_X4_gives⟩ rfl dX4_once_2_97 (m_X4_gives (Cx_l C) hX (d := d - 1) (by omega) st x1 x7 h) (by omega) (by decide) (Nat.le_of_ble_eq_true rfl) (fun s17 w12 hE13 hP14 => ?_) (fun s18 E15 q16 hE13 hP14 => ?_)
      rotate_left
      · exact False.elim hP14
      obtain ⟨r11, rfl, rfl, h⟩ := hP14
      refine X_tls ?_
      refine X_aload_n C dX4_once_2_100 rfl 0 rfl (isRV_r _) ?_
      refine X_getF (ci := 4) (j := 1) (q := (RX4, TX4, 54)) C rfl (by decide) q1767 rfl dX4_once_2_101 (b := 177) (LX_S hX (k := 175) rfl) (LX_F hX (k := 175) (j := 1) rfl) rfl ?_
      refine X_iload C dX4_once_2_104 7 rfl ?_
      refine X_iload C dX4_once_2_106 5 rfl ?_
      refine X_aload_n C dX4_once_2_108 rfl 0 rfl (isRV_r _) ?_
      refine X_getF (ci := 4) (j := 1) (q := (RX4, TX4, 54)) C rfl (by decide) q1767 rfl dX4_once_2_109 (b := 177) (LX_S hX (k := 175) rfl) (LX_F hX (k := 175) (j := 1) rfl) rfl ?_
      refine X_iconst (v := 2) C dX4_once_2_112 rfl ?_
      refine X_ialdS C (LX_S hX (k := 177) rfl) (LX_L hX (k := 177) rfl) (vp_dec rfl) rfl dX4_once_2_113 ?_
      have g19 := h.1
      have h := h.2
      refine X_irem C dX4_once_2_114 g19 ?_
      refine X_iload C dX4_once_2_115 4 rfl ?_
      refine X_callS (As := [_, _, _]) (rest := [_, _, _]) C q1966 q1967 q136 q1968 nm_X4_place rfl dX4_once_2_117 (m_X4_place (Cx_l C) hX (d := d - 1) (by omega) st x7 (x5 - x5 / (sI st 177 2) * (sI st 177 2)) x4 h) (by omega) (by decide) (Nat.le_of_ble_eq_true rfl) (fun s26 w21 hE22 hP23 => ?_) (fun s27 E24 q25 hE22 hP23 => ?_)
      rotate_left
      · exact False.elim hP23
      obtain ⟨r20, rfl, rfl, h⟩ := hP23
      refine X_tls ?_
      have g28 := h.1
      have h := h.2
      refine X_ialdS C (LX_S hX (k := 177) rfl) (LX_L hX (k := 177) rfl) g28 rfl dX4_once_2_120 ?_
      refine X_imul C dX4_once_2_121 ?_
      refine X_iadd C dX4_once_2_122 ?_
      refine X_topi (fun v29 e30 => ?_)
      have h := h v29 e30
      refine X_istore C dX4_once_2_123 (lo2 := [(6, _), (0, _), (1, _), (2, _), (3, _), (4, _), (5, _), (7, _)]) (by decide) rfl ?_
      refine X_iload C dX4_once_2_125 6 rfl ?_
      refine X_aload_n C dX4_once_2_127 rfl 1 rfl (isRV_r _) ?_
      refine X_getF (ci := 4) (j := 1) (q := (RX4, TX4, 54)) C rfl (by decide) q1767 rfl dX4_once_2_128 (b := 177) (LX_S hX (k := 175) rfl) (LX_F hX (k := 175) (j := 1) rfl) rfl ?_
      refine X_iconst (v := 2) C dX4_once_2_131 rfl ?_
      refine X_ialdS C (LX_S hX (k := 177) rfl) (LX_L hX (k := 177) rfl) (vp_dec rfl) rfl dX4_once_2_132 ?_
      refine X_idiv C dX4_once_2_133 g19 ?_
      refine X_topi (fun v31 e32 => ?_)
      have h := h v31 e32
      refine X_istore C dX4_once_2_134 (lo2 := [(5, _), (6, _), (0, _), (1, _), (2, _), (3, _), (4, _), (7, _)]) (by decide) rfl ?_
      refine X_iinc (v := (x7 + 1)) C (j := 7) dX4_once_2_136 rfl rfl (lo2 := [(7, _), (5, _), (6, _), (0, _), (1, _), (2, _), (3, _), (4, _)]) (by decide) rfl ?_
      refine X_goto (tgt := 80) C dX4_once_2_139 (by decide) ?_
      refine X_sub [3, 4, 5, 6, 7, 1, 2, 0] (lo2 := [(0, _), (1, _), (2, _), (3, _), (4, _), (5, _), (6, _), (7, _)]) rfl ?_
      exact hK80 st x1 x2 x3 x4 v31 v29 (x7 + 1) h
def w_X4_once_2_b142 (Φ : St → Prop) (K60 : St → Int32 → Int32 → Int32 → Int32 → Prop) (st : St) (x1 : Int32) (x2 : Int32) (x3 : Int32) (x4 : Int32) (x6 : Int32) : Prop := vp_in ((3 * x3) + x4) 81 ∧ ∀ s35, s35 = putL st 188 (((3 * x3) + x4).toNatClampNeg) x6.toInt64 → K60 s35 x1 x2 x3 (x4 + 1)
theorem t_X4_once_2_b142 {θ : Th} {κ : Kx} {Ph : Ph} (hX : LX θ) {d : Nat} (hd : 5 ≤ d) (C : Cx θ κ yX4_once_2 cX4_once_2 8 (none : Option Jvm.ClassFile.FieldType) [] d) {Φ : St → Prop} (hn : ∀ st, Φ st → Ph.1 st none) {K60 : St → Int32 → Int32 → Int32 → Int32 → Prop} (hK60 : ∀ (st : St) (x1 : Int32) (x2 : Int32) (x3 : Int32) (x4 : Int32), K60 st x1 x2 x3 x4 → X θ κ Ph st 60 [(0, .ref (ad θ 175)), (1, .int x1), (2, .int x2), (3, .int x3), (4, .int x4)] []) (st : St) (x1 : Int32) (x2 : Int32) (x3 : Int32) (x4 : Int32) (x6 : Int32) (h : w_X4_once_2_b142 Φ K60 st x1 x2 x3 x4 x6) : X θ κ Ph st 142 [(0, .ref (ad θ 175)), (1, .int x1), (2, .int x2), (3, .int x3), (4, .int x4), (6, .int x6)] [] := by
  unfold w_X4_once_2_b142 at h
  refine X_aload_n C dX4_once_2_142 rfl 0 rfl (isRV_r _) ?_
  refine X_getF (ci := 4) (j := 21) (q := (RX4, TX4, 54)) C rfl (by decide) q1787 rfl dX4_once_2_143 (b := 188) (LX_S hX (k := 175) rfl) (LX_F hX (k := 175) (j := 21) rfl) rfl ?_
  refine X_iconst (v := 3) C dX4_once_2_146 rfl ?_
  refine X_iload_n C dX4_once_2_147 rfl 3 rfl ?_
  refine X_imul C dX4_once_2_148 ?_
  refine X_iload C dX4_once_2_149 4 rfl ?_
  refine X_iadd C dX4_once_2_151 ?_
  refine X_iload C dX4_once_2_152 5 rfl ?_
  refine X_i2l C dX4_once_2_154 ?_
  have g34 := h.1
  have h := h.2
  refine X_lastS C (LX_S hX (k := 188) rfl) (LX_L hX (k := 188) rfl) g34 rfl dX4_once_2_155 ?_
  refine X_nm (fun s35 e36 => ?_)
  have h := h s35 e36
  refine X_iinc (v := (x4 + 1)) C (j := 4) dX4_once_2_156 rfl rfl (lo2 := [(4, _), (0, _), (1, _), (2, _), (3, _), (6, _)]) (by decide) rfl ?_
  refine X_goto (tgt := 60) C dX4_once_2_159 (by decide) ?_
  refine X_sub [1, 2, 3, 4, 0] (lo2 := [(0, _), (1, _), (2, _), (3, _), (4, _)]) rfl ?_
  exact hK60 s35 x1 x2 x3 (x4 + 1) h
def w_X4_once_2_l60 (Φ : St → Prop) (E162 : St → Int32 → Int32 → Int32 → Prop) : Nat → St → Int32 → Int32 → Int32 → Int32 → Prop
  | 0, _, _, _, _, _ => False
  | n + 1, st, x1, x2, x3, x4 => (((sI st 177 3) ≤ x4) → E162 st x1 x2 x3) ∧ ((¬ (sI st 177 3) ≤ x4) → w_X4_once_2_l80 Φ (fun (s33 : St) (x1 : Int32) (x2 : Int32) (x3 : Int32) (x4 : Int32) (x6 : Int32) => w_X4_once_2_b142 Φ (w_X4_once_2_l60 Φ E162 n) s33 x1 x2 x3 x4 x6) gFU st x1 x2 x3 x4 x3 0 0)
theorem t_X4_once_2_l60 {θ : Th} {κ : Kx} {Ph : Ph} (hX : LX θ) {d : Nat} (hd : 5 ≤ d) (C : Cx θ κ yX4_once_2 cX4_once_2 8 (none : Option Jvm.ClassFile.FieldType) [] d) {Φ : St → Prop} (hn : ∀ st, Φ st → Ph.1 st none) {E162 : St → Int32 → Int32 → Int32 → Prop} (hE162 : ∀ (st : St) (x1 : Int32) (x2 : Int32) (x3 : Int32), E162 st x1 x2 x3 → X θ κ Ph st 162 [(0, .ref (ad θ 175)), (1, .int x1), (2, .int x2), (3, .int x3)] []) : ∀ (n : Nat) (st : St) (x1 : Int32) (x2 : Int32) (x3 : Int32) (x4 : Int32), w_X4_once_2_l60 Φ E162 n st x1 x2 x3 x4 → X θ κ Ph st 60 [(0, .ref (ad θ 175)), (1, .int x1), (2, .int x2), (3, .int x3), (4, .int x4)] [] := by
  intro n
  induction n with
  | zero => intro st x1 x2 x3 x4 h; exact h.elim
  | succ n hK60 =>
    intro st x1 x2 x3 x4 h
    rw [w_X4_once_2_l60] at h
    refine X_iload C dX4_once_2_60 4 rfl ?_
    refine X_aload_n C dX4_once_2_62 rfl 0 rfl (isRV_r _) ?_
    refine X_getF (ci := 4) (j := 1) (q := (RX4, TX4, 54)) C rfl (by decide) q1767 rfl dX4_once_2_63 (b := 177) (LX_S hX (k := 175) rfl) (LX_F hX (k := 175) (j := 1) rfl) rfl ?_
    refine X_iconst (v := 3) C dX4_once_2_66 rfl ?_
    refine X_ialdS C (LX_S hX (k := 177) rfl) (LX_L hX (k := 177) rfl) (vp_dec rfl) rfl dX4_once_2_67 ?_
    refine X_icmp_ge (tgt := 162) C dX4_once_2_68 (by decide) (fun c9 => ?_) (fun c9 => ?_)
    · have h := h.1 c9
      refine X_sub [0, 1, 2, 3] (lo2 := [(0, _), (1, _), (2, _), (3, _)]) rfl ?_
      exact hE162 st x1 x2 x3 h
    · have h := h.2 c9
      refine X_iload_n C dX4_once_2_71 rfl 3 rfl ?_
      refine X_istore C dX4_once_2_72 (lo2 := [(5, _), (0, _), (1, _), (2, _), (3, _), (4, _)]) (by decide) rfl ?_
      refine X_iconst (v := 0) C dX4_once_2_74 rfl ?_
      refine X_istore C dX4_once_2_75 (lo2 := [(6, _), (5, _), (0, _), (1, _), (2, _), (3, _), (4, _)]) (by decide) rfl ?_
      refine X_iconst (v := 0) C dX4_once_2_77 rfl ?_
      refine X_istore C dX4_once_2_78 (lo2 := [(7, _), (6, _), (5, _), (0, _), (1, _), (2, _), (3, _), (4, _)]) (by decide) rfl ?_
      refine X_sub [3, 4, 5, 6, 7, 2, 1, 0] (lo2 := [(0, _), (1, _), (2, _), (3, _), (4, _), (5, _), (6, _), (7, _)]) rfl ?_
      refine t_X4_once_2_l80 hX hd C hn ?_ gFU st x1 x2 x3 x4 x3 0 0 h
      · intro s33 x1 x2 x3 x4 x6 h
        exact t_X4_once_2_b142 hX hd C hn hK60 s33 x1 x2 x3 x4 x6 h
def w_X4_once_2_b162 (Φ : St → Prop) (K52 : St → Int32 → Int32 → Int32 → Prop) (st : St) (x1 : Int32) (x2 : Int32) (x3 : Int32) : Prop := K52 st x1 x2 (x3 + 1)
theorem t_X4_once_2_b162 {θ : Th} {κ : Kx} {Ph : Ph} (hX : LX θ) {d : Nat} (hd : 5 ≤ d) (C : Cx θ κ yX4_once_2 cX4_once_2 8 (none : Option Jvm.ClassFile.FieldType) [] d) {Φ : St → Prop} (hn : ∀ st, Φ st → Ph.1 st none) {K52 : St → Int32 → Int32 → Int32 → Prop} (hK52 : ∀ (st : St) (x1 : Int32) (x2 : Int32) (x3 : Int32), K52 st x1 x2 x3 → X θ κ Ph st 52 [(0, .ref (ad θ 175)), (1, .int x1), (2, .int x2), (3, .int x3)] []) (st : St) (x1 : Int32) (x2 : Int32) (x3 : Int32) (h : w_X4_once_2_b162 Φ K52 st x1 x2 x3) : X θ κ Ph st 162 [(0, .ref (ad θ 175)), (1, .int x1), (2, .int x2), (3, .int x3)] [] := by
  unfold w_X4_once_2_b162 at h
  refine X_iinc (v := (x3 + 1)) C (j := 3) dX4_once_2_162 rfl rfl (lo2 := [(3, _), (0, _), (1, _), (2, _)]) (by decide) rfl ?_
  refine X_goto (tgt := 52) C dX4_once_2_165 (by decide) ?_
  refine X_sub [1, 2, 3, 0] (lo2 := [(0, _), (1, _), (2, _), (3, _)]) rfl ?_
  exact hK52 st x1 x2 (x3 + 1) h
def w_X4_once_2_l52 (Φ : St → Prop) (E168 : St → Prop) : Nat → St → Int32 → Int32 → Int32 → Prop
  | 0, _, _, _, _ => False
  | n + 1, st, x1, x2, x3 => ((x2 ≤ x3) → E168 st) ∧ ((¬ x2 ≤ x3) → w_X4_once_2_l60 Φ (fun (s37 : St) (x1 : Int32) (x2 : Int32) (x3 : Int32) => w_X4_once_2_b162 Φ (w_X4_once_2_l52 Φ E168 n) s37 x1 x2 x3) gFU st x1 x2 x3 0)
theorem t_X4_once_2_l52 {θ : Th} {κ : Kx} {Ph : Ph} (hX : LX θ) {d : Nat} (hd : 5 ≤ d) (C : Cx θ κ yX4_once_2 cX4_once_2 8 (none : Option Jvm.ClassFile.FieldType) [] d) {Φ : St → Prop} (hn : ∀ st, Φ st → Ph.1 st none) {E168 : St → Prop} (hE168 : ∀ (st : St), E168 st → X θ κ Ph st 168 [(0, .ref (ad θ 175))] []) : ∀ (n : Nat) (st : St) (x1 : Int32) (x2 : Int32) (x3 : Int32), w_X4_once_2_l52 Φ E168 n st x1 x2 x3 → X θ κ Ph st 52 [(0, .ref (ad θ 175)), (1, .int x1), (2, .int x2), (3, .int x3)] [] := by
  intro n
  induction n with
  | zero => intro st x1 x2 x3 h; exact h.elim
  | succ n hK52 =>
    intro st x1 x2 x3 h
    rw [w_X4_once_2_l52] at h
    refine X_iload_n C dX4_once_2_52 rfl 3 rfl ?_
    refine X_iload_n C dX4_once_2_53 rfl 2 rfl ?_
    refine X_icmp_ge (tgt := 168) C dX4_once_2_54 (by decide) (fun c8 => ?_) (fun c8 => ?_)
    · have h := h.1 c8
      refine X_sub [0] (lo2 := [(0, _)]) rfl ?_
      exact hE168 st h
    · have h := h.2 c8
      refine X_iconst (v := 0) C dX4_once_2_57 rfl ?_
      refine X_istore C dX4_once_2_58 (lo2 := [(4, _), (0, _), (1, _), (2, _), (3, _)]) (by decide) rfl ?_
      refine X_sub [1, 2, 3, 4, 0] (lo2 := [(0, _), (1, _), (2, _), (3, _), (4, _)]) rfl ?_
      refine t_X4_once_2_l60 hX hd C hn ?_ gFU st x1 x2 x3 0 h
      · intro s37 x1 x2 x3 h
        exact t_X4_once_2_b162 hX hd C hn hK52 s37 x1 x2 x3 h
def w_X4_once_2_b168 (Φ : St → Prop) (st : St) : Prop := w_X4_kernel st (fun (s40 : St) => w_X4_byParts s40 (fun (s48 : St) => Φ s48))
theorem t_X4_once_2_b168 {θ : Th} {κ : Kx} {Ph : Ph} (hX : LX θ) {d : Nat} (hd : 5 ≤ d) (C : Cx θ κ yX4_once_2 cX4_once_2 8 (none : Option Jvm.ClassFile.FieldType) [] d) {Φ : St → Prop} (hn : ∀ st, Φ st → Ph.1 st none) (st : St) (h : w_X4_once_2_b168 Φ st) : X θ κ Ph st 168 [(0, .ref (ad θ 175))] [] := by
  unfold w_X4_once_2_b168 at h
  refine X_aload_n C dX4_once_2_168 rfl 0 rfl (isRV_r _) ?_
  refine X_callVS (ci := 4) (q := (RX4, TX4, 54)) (As := []) (rest := []) C rfl (LX_S hX (k := 175) rfl) q2050 q2052 qs76 q136 q2053 ⟨rfl, nm_X4_kernel⟩ rfl dX4_once_2_169 (m_X4_kernel (Cx_l C) hX (d := d - 1) (by omega) st h) (by omega) (by decide) (Nat.le_of_ble_eq_true rfl) (fun s40 w41 hE42 hP43 => ?_) (fun s46 E44 q45 hE42 hP43 => ?_)
  rotate_left
  · exact False.elim hP43
  obtain ⟨rfl, h⟩ := hP43
  refine X_tln ?_
  refine X_aload_n C dX4_once_2_172 rfl 0 rfl (isRV_r _) ?_
  refine X_callVS (ci := 4) (q := (RX4, TX4, 54)) (As := []) (rest := []) C rfl (LX_S hX (k := 175) rfl) q2077 q2079 qs81 q136 q2080 ⟨rfl, nm_X4_byParts⟩ rfl dX4_once_2_173 (m_X4_byParts (Cx_l C) hX (d := d - 1) (by omega) s40 h) (by omega) (by decide) (Nat.le_of_ble_eq_true rfl) (fun s48 w49 hE50 hP51 => ?_) (fun s54 E52 q53 hE50 hP51 => ?_)
  rotate_left
  · exact False.elim hP51
  obtain ⟨rfl, h⟩ := hP51
  refine X_tln ?_
  exact X_vret C rfl dX4_once_2_176 (hn s48 h)
def w_X4_once_2_b33 (Φ : St → Prop) (st : St) (x1 : Int32) (z0 : Int32) (z1 : Int32) : Prop := ∀ v2 : Int32, v2 = (z1 * z0) → ∀ s4, s4 = putI st 175 22 v2 → ∀ s6, s6 = putI s4 175 23 (sI s4 177 3) → w_X4_once_2_l52 Φ (fun (s38 : St) => w_X4_once_2_b168 Φ s38) gFU s6 x1 v2 0
theorem t_X4_once_2_b33 {θ : Th} {κ : Kx} {Ph : Ph} (hX : LX θ) {d : Nat} (hd : 5 ≤ d) (C : Cx θ κ yX4_once_2 cX4_once_2 8 (none : Option Jvm.ClassFile.FieldType) [] d) {Φ : St → Prop} (hn : ∀ st, Φ st → Ph.1 st none) (st : St) (x1 : Int32) (z0 : Int32) (z1 : Int32) (h : w_X4_once_2_b33 Φ st x1 z0 z1) : X θ κ Ph st 33 [(0, .ref (ad θ 175)), (1, .int x1)] [.int z0, .int z1] := by
  unfold w_X4_once_2_b33 at h
  refine X_imul C dX4_once_2_33 ?_
  refine X_topi (fun v2 e3 => ?_)
  have h := h v2 e3
  refine X_istore_n C dX4_once_2_34 rfl (lo2 := [(2, _), (0, _), (1, _)]) (by decide) rfl ?_
  refine X_aload_n C dX4_once_2_35 rfl 1 rfl (isRV_r _) ?_
  refine X_iload_n C dX4_once_2_36 rfl 0 rfl ?_
  refine X_putSI (ci := 4) (j := 22) (q := (RX4, TX4, 54)) C rfl (by decide) q1788 rfl rfl dX4_once_2_37 (LX_S hX (k := 175) rfl) rfl rfl rfl ?_
  refine X_nm (fun s4 e5 => ?_)
  have h := h s4 e5
  refine X_aload_n C dX4_once_2_40 rfl 1 rfl (isRV_r _) ?_
  refine X_aload_n C dX4_once_2_41 rfl 1 rfl (isRV_r _) ?_
  refine X_getF (ci := 4) (j := 1) (q := (RX4, TX4, 54)) C rfl (by decide) q1767 rfl dX4_once_2_42 (b := 177) (LX_S hX (k := 175) rfl) (LX_F hX (k := 175) (j := 1) rfl) rfl ?_
  refine X_iconst (v := 3) C dX4_once_2_45 rfl ?_
  refine X_ialdS C (LX_S hX (k := 177) rfl) (LX_L hX (k := 177) rfl) (vp_dec rfl) rfl dX4_once_2_46 ?_
  refine X_putSI (ci := 4) (j := 23) (q := (RX4, TX4, 54)) C rfl (by decide) q1789 rfl rfl dX4_once_2_47 (LX_S hX (k := 175) rfl) rfl rfl rfl ?_
  refine X_nm (fun s6 e7 => ?_)
  have h := h s6 e7
  refine X_iconst (v := 0) C dX4_once_2_50 rfl ?_
  refine X_istore_n C dX4_once_2_51 rfl (lo2 := [(3, _), (2, _), (0, _), (1, _)]) (by decide) rfl ?_
  refine X_sub [2, 3, 1, 0] (lo2 := [(0, _), (1, _), (2, _), (3, _)]) rfl ?_
  refine t_X4_once_2_l52 hX hd C hn ?_ gFU s6 x1 v2 0 h
  · intro s38 h
    exact t_X4_once_2_b168 hX hd C hn s38 h
def w_X4_once_2 (st : St) (p1 : Int32) (Φ : St → Prop) : Prop := (((sI st 177 0) ≠ 3) → w_X4_once_2_b33 Φ st p1 1 ((sI st 177 2) * (sI st 177 2))) ∧ (((sI st 177 0) = 3) → w_X4_once_2_b33 Φ st p1 (sI st 177 2) ((sI st 177 2) * (sI st 177 2)))
theorem nm_X4_once_2 : yX4_once_2.cls ≠ "java/lang/invoke/MethodHandle" ∧ yX4_once_2.cls ≠ "java/lang/invoke/VarHandle" ∧ (parseMethodDescriptor yX4_once_2.desc).map (fun d => d.parameters.length) = some 1 := by decide +kernel
theorem e_X4_once_2 : plainFor yX4_once_2 = true := plainFor_of_name (by decide +kernel)
theorem m_X4_once_2 {θ : Th} {l : Launch} (hl0 : l.stackTraces = false) (hX : LX θ) {d : Nat} (hd : 5 ≤ d) (st : St) (p1 : Int32) {Φ : St → Prop} (h : w_X4_once_2 st p1 Φ) : Ct θ l yX4_once_2 (ws_ yX4_once_2 cX4_once_2 8 (none : Option Jvm.ClassFile.FieldType)) d [.ref (ad θ 175), .int p1] st (pV Φ, noX) := by
  refine Ct_entry hl0 e_X4_once_2 (Nat.le_of_ble_eq_true rfl) (fun κ hκ _ C => ?_)
  have hn : ∀ st, Φ st → ((pV Φ, noX) : Ph).1 st none := fun st q => ⟨rfl, q⟩
  change X _ _ _ _ _ [(0, .ref (ad θ 175)), (1, .int p1)] _
  unfold w_X4_once_2 at h
  refine X_aload_n C dX4_once_2_0 rfl 0 rfl (isRV_r _) ?_
  refine X_getF (ci := 4) (j := 1) (q := (RX4, TX4, 54)) C rfl (by decide) q1767 rfl dX4_once_2_1 (b := 177) (LX_S hX (k := 175) rfl) (LX_F hX (k := 175) (j := 1) rfl) rfl ?_
  refine X_iconst (v := 2) C dX4_once_2_4 rfl ?_
  refine X_ialdS C (LX_S hX (k := 177) rfl) (LX_L hX (k := 177) rfl) (vp_dec rfl) rfl dX4_once_2_5 ?_
  refine X_aload_n C dX4_once_2_6 rfl 0 rfl (isRV_r _) ?_
  refine X_getF (ci := 4) (j := 1) (q := (RX4, TX4, 54)) C rfl (by decide) q1767 rfl dX4_once_2_7 (b := 177) (LX_S hX (k := 175) rfl) (LX_F hX (k := 175) (j := 1) rfl) rfl ?_
  refine X_iconst (v := 2) C dX4_once_2_10 rfl ?_
  refine X_ialdS C (LX_S hX (k := 177) rfl) (LX_L hX (k := 177) rfl) (vp_dec rfl) rfl dX4_once_2_11 ?_
  refine X_imul C dX4_once_2_12 ?_
  refine X_aload_n C dX4_once_2_13 rfl 0 rfl (isRV_r _) ?_
  refine X_getF (ci := 4) (j := 1) (q := (RX4, TX4, 54)) C rfl (by decide) q1767 rfl dX4_once_2_14 (b := 177) (LX_S hX (k := 175) rfl) (LX_F hX (k := 175) (j := 1) rfl) rfl ?_
  refine X_iconst (v := 0) C dX4_once_2_17 rfl ?_
  refine X_ialdS C (LX_S hX (k := 177) rfl) (LX_L hX (k := 177) rfl) (vp_dec rfl) rfl dX4_once_2_18 ?_
  refine X_iconst (v := 3) C dX4_once_2_19 rfl ?_
  refine X_icmp_ne (tgt := 32) C dX4_once_2_20 (by decide) (fun c1 => ?_) (fun c1 => ?_)
  · have h := h.1 c1
    refine X_iconst (v := 1) C dX4_once_2_32 rfl ?_
    exact t_X4_once_2_b33 hX hd C hn st p1 1 ((sI st 177 2) * (sI st 177 2)) h
  · have h := h.2 c1
    refine X_aload_n C dX4_once_2_23 rfl 0 rfl (isRV_r _) ?_
    refine X_getF (ci := 4) (j := 1) (q := (RX4, TX4, 54)) C rfl (by decide) q1767 rfl dX4_once_2_24 (b := 177) (LX_S hX (k := 175) rfl) (LX_F hX (k := 175) (j := 1) rfl) rfl ?_
    refine X_iconst (v := 2) C dX4_once_2_27 rfl ?_
    refine X_ialdS C (LX_S hX (k := 177) rfl) (LX_L hX (k := 177) rfl) (vp_dec rfl) rfl dX4_once_2_28 ?_
    refine X_goto (tgt := 33) C dX4_once_2_29 (by decide) ?_
    exact t_X4_once_2_b33 hX hd C hn st p1 (sI st 177 2) ((sI st 177 2) * (sI st 177 2)) h

def w_X4_once_b15 (Φ : St → Int64 → Prop) (st : St) : Prop := w_X4_findsFar st 1 (fun (s11 : St) (r10 : Int64) => Φ s11 r10)
theorem t_X4_once_b15 {θ : Th} {κ : Kx} {Ph : Ph} (hX : LX θ) {d : Nat} (hd : 6 ≤ d) (C : Cx θ κ yX4_once cX4_once 3 (some Jvm.ClassFile.FieldType.long) [] d) {Φ : St → Int64 → Prop} (hn : ∀ st r, Φ st r → Ph.1 st (some (.long r))) (st : St) (h : w_X4_once_b15 Φ st) : X θ κ Ph st 15 [(0, .ref (ad θ 175))] [] := by
  unfold w_X4_once_b15 at h
  refine X_aload_n C dX4_once_15 rfl 0 rfl (isRV_r _) ?_
  refine X_iconst (v := 1) C dX4_once_16 rfl ?_
  refine X_callVS (ci := 4) (q := (RX4, TX4, 54)) (As := [_]) (rest := []) C rfl (LX_S hX (k := 175) rfl) q2033 q2035 qs72 q136 q2036 ⟨rfl, nm_X4_findsFar⟩ rfl dX4_once_17 (m_X4_findsFar (Cx_l C) hX (d := d - 1) (by omega) st 1 h) (by omega) (by decide) (Nat.le_of_ble_eq_true rfl) (fun s11 w12 hE13 hP14 => ?_) (fun s17 E15 q16 hE13 hP14 => ?_)
  rotate_left
  · exact False.elim hP14
  obtain ⟨r10, rfl, h⟩ := hP14
  refine X_tls ?_
  exact X_lret C rfl dX4_once_20 (hn s11 _ h)
def w_X4_once (st : St) (p1 : Int32) (p2 : Int32) (Φ : St → Int64 → Prop) : Prop := w_X4_isPoint st p1 (fun (r1 : Int32) => ((r1 = 0) → w_X4_once_b15 Φ st) ∧ ((¬ r1 = 0) → w_X4_isPart p2 (fun (r18 : Int32) => ((r18 ≠ 0) → w_X4_begins st (fun (s28 : St) => w_X4_once_2 s28 p1 (fun (s36 : St) => ((p2 ≠ 0) → Φ s36 (sL s36 175 19)) ∧ ((p2 = 0) → Φ s36 (sL s36 175 18))))) ∧ ((r18 = 0) → w_X4_once_b15 Φ st))))
theorem nm_X4_once : yX4_once.cls ≠ "java/lang/invoke/MethodHandle" ∧ yX4_once.cls ≠ "java/lang/invoke/VarHandle" ∧ (parseMethodDescriptor yX4_once.desc).map (fun d => d.parameters.length) = some 2 := by decide +kernel
theorem e_X4_once : plainFor yX4_once = true := plainFor_of_name (by decide +kernel)
theorem m_X4_once {θ : Th} {l : Launch} (hl0 : l.stackTraces = false) (hX : LX θ) {d : Nat} (hd : 6 ≤ d) (st : St) (p1 : Int32) (p2 : Int32) {Φ : St → Int64 → Prop} (h : w_X4_once st p1 p2 Φ) : Ct θ l yX4_once (ws_ yX4_once cX4_once 3 (some Jvm.ClassFile.FieldType.long)) d [.ref (ad θ 175), .int p1, .int p2] st (pL Φ, noX) := by
  refine Ct_entry hl0 e_X4_once (Nat.le_of_ble_eq_true rfl) (fun κ hκ _ C => ?_)
  have hn : ∀ st r, Φ st r → ((pL Φ, noX) : Ph).1 st (some (.long r)) := fun st r q => ⟨r, rfl, q⟩
  change X _ _ _ _ _ [(0, .ref (ad θ 175)), (1, .int p1), (2, .int p2)] _
  unfold w_X4_once at h
  refine X_aload_n C dX4_once_0 rfl 0 rfl (isRV_r _) ?_
  refine X_iload_n C dX4_once_1 rfl 1 rfl ?_
  refine X_callVS (ci := 4) (q := (RX4, TX4, 54)) (As := [_]) (rest := []) C rfl (LX_S hX (k := 175) rfl) q1992 q1994 qs67 q136 q1995 ⟨rfl, nm_X4_isPoint⟩ rfl dX4_once_2 (m_X4_isPoint (Cx_l C) hX (d := d - 1) (by omega) st p1 h) (by omega) (by decide) (Nat.le_of_ble_eq_true rfl) (fun s7 w2 hE3 hP4 => ?_) (fun s8 E5 q6 hE3 hP4 => ?_)
  rotate_left
  · exact False.elim hP4
  obtain ⟨r1, rfl, rfl, h⟩ := hP4
  refine X_tls ?_
  refine X_if_eq (tgt := 15) C dX4_once_5 (by decide) (fun c9 => ?_) (fun c9 => ?_)
  · have h := h.1 c9
    refine X_sub [0] (lo2 := [(0, _)]) rfl ?_
    exact t_X4_once_b15 hX hd C hn st h
  · have h := h.2 c9
    refine X_iload_n C dX4_once_8 rfl 2 rfl ?_
    refine X_callS (As := [_]) (rest := []) C q2030 q2031 q136 q2032 nm_X4_isPart rfl dX4_once_9 (m_X4_isPart (Cx_l C) hX (d := d - 1) (by omega) st p2 h) (by omega) (by decide) (Nat.le_of_ble_eq_true rfl) (fun s24 w19 hE20 hP21 => ?_) (fun s25 E22 q23 hE20 hP21 => ?_)
    rotate_left
    · exact False.elim hP21
    obtain ⟨r18, rfl, rfl, h⟩ := hP21
    refine X_tls ?_
    refine X_if_ne (tgt := 21) C dX4_once_12 (by decide) (fun c26 => ?_) (fun c26 => ?_)
    · have h := h.1 c26
      refine X_aload_n C dX4_once_21 rfl 0 rfl (isRV_r _) ?_
      refine X_callVS (ci := 4) (q := (RX4, TX4, 54)) (As := []) (rest := []) C rfl (LX_S hX (k := 175) rfl) q2038 q2040 qs73 q136 q2041 ⟨rfl, nm_X4_begins⟩ rfl dX4_once_22 (m_X4_begins (Cx_l C) hX (d := d - 1) (by omega) st h) (by omega) (by decide) (Nat.le_of_ble_eq_true rfl) (fun s28 w29 hE30 hP31 => ?_) (fun s34 E32 q33 hE30 hP31 => ?_)
      rotate_left
      · exact False.elim hP31
      obtain ⟨rfl, h⟩ := hP31
      refine X_tln ?_
      refine X_aload_n C dX4_once_25 rfl 0 rfl (isRV_r _) ?_
      refine X_iload_n C dX4_once_26 rfl 1 rfl ?_
      refine X_callVS (ci := 4) (q := (RX4, TX4, 54)) (As := [_]) (rest := []) C rfl (LX_S hX (k := 175) rfl) q2200 q2202 qs102 q136 q2203 ⟨rfl, nm_X4_once_2⟩ rfl dX4_once_27 (m_X4_once_2 (Cx_l C) hX (d := d - 1) (by omega) s28 p1 h) (by omega) (by decide) (Nat.le_of_ble_eq_true rfl) (fun s36 w37 hE38 hP39 => ?_) (fun s42 E40 q41 hE38 hP39 => ?_)
      rotate_left
      · exact False.elim hP39
      obtain ⟨rfl, h⟩ := hP39
      refine X_tln ?_
      refine X_iload_n C dX4_once_30 rfl 2 rfl ?_
      refine X_if_ne (tgt := 41) C dX4_once_31 (by decide) (fun c43 => ?_) (fun c43 => ?_)
      · have h := h.1 c43
        refine X_aload_n C dX4_once_41 rfl 0 rfl (isRV_r _) ?_
        refine X_getS (ci := 4) (j := 19) (q := (RX4, TX4, 54)) C rfl (by decide) q1785 rfl dX4_once_42 (LX_S hX (k := 175) rfl) (v := .long (sL s36 175 19)) rfl ?_
        exact X_lret C rfl dX4_once_45 (hn s36 _ h)
      · have h := h.2 c43
        refine X_aload_n C dX4_once_34 rfl 0 rfl (isRV_r _) ?_
        refine X_getS (ci := 4) (j := 18) (q := (RX4, TX4, 54)) C rfl (by decide) q1784 rfl dX4_once_35 (LX_S hX (k := 175) rfl) (v := .long (sL s36 175 18)) rfl ?_
        refine X_goto (tgt := 45) C dX4_once_38 (by decide) ?_
        exact X_lret C rfl dX4_once_45 (hn s36 _ h)
    · have h := h.2 c26
      refine X_sub [0] (lo2 := [(0, _)]) rfl ?_
      exact t_X4_once_b15 hX hd C hn st h

def w_X4_gap_b15 (Φ : St → Int64 → Prop) (st : St) : Prop := w_X4_findsFar st 1 (fun (s11 : St) (r10 : Int64) => Φ s11 r10)
theorem t_X4_gap_b15 {θ : Th} {κ : Kx} {Ph : Ph} (hX : LX θ) {d : Nat} (hd : 10 ≤ d) (C : Cx θ κ yX4_gap cX4_gap 7 (some Jvm.ClassFile.FieldType.long) [] d) {Φ : St → Int64 → Prop} (hn : ∀ st r, Φ st r → Ph.1 st (some (.long r))) (st : St) (h : w_X4_gap_b15 Φ st) : X θ κ Ph st 15 [(0, .ref (ad θ 175))] [] := by
  unfold w_X4_gap_b15 at h
  refine X_aload_n C dX4_gap_15 rfl 0 rfl (isRV_r _) ?_
  refine X_iconst (v := 1) C dX4_gap_16 rfl ?_
  refine X_callVS (ci := 4) (q := (RX4, TX4, 54)) (As := [_]) (rest := []) C rfl (LX_S hX (k := 175) rfl) q2033 q2035 qs72 q136 q2036 ⟨rfl, nm_X4_findsFar⟩ rfl dX4_gap_17 (m_X4_findsFar (Cx_l C) hX (d := d - 1) (by omega) st 1 h) (by omega) (by decide) (Nat.le_of_ble_eq_true rfl) (fun s11 w12 hE13 hP14 => ?_) (fun s17 E15 q16 hE13 hP14 => ?_)
  rotate_left
  · exact False.elim hP14
  obtain ⟨r10, rfl, h⟩ := hP14
  refine X_tls ?_
  exact X_lret C rfl dX4_gap_20 (hn s11 _ h)
def w_X4_gap_b68 (Φ : St → Int64 → Prop) (st : St) (x2 : Int32) : Prop := (((sI st 175 20) = 0) → ((x2 ≠ 0) → Φ st (sL st 175 19)) ∧ ((x2 = 0) → Φ st (sL st 175 18))) ∧ ((¬ (sI st 175 20) = 0) → w_X4_findsFar st 6 (fun (s51 : St) (r50 : Int64) => Φ s51 r50))
theorem t_X4_gap_b68 {θ : Th} {κ : Kx} {Ph : Ph} (hX : LX θ) {d : Nat} (hd : 10 ≤ d) (C : Cx θ κ yX4_gap cX4_gap 7 (some Jvm.ClassFile.FieldType.long) [] d) {Φ : St → Int64 → Prop} (hn : ∀ st r, Φ st r → Ph.1 st (some (.long r))) (st : St) (x2 : Int32) (h : w_X4_gap_b68 Φ st x2) : X θ κ Ph st 68 [(0, .ref (ad θ 175)), (2, .int x2)] [] := by
  unfold w_X4_gap_b68 at h
  refine X_aload_n C dX4_gap_68 rfl 0 rfl (isRV_r _) ?_
  refine X_getS (ci := 4) (j := 20) (q := (RX4, TX4, 54)) C rfl (by decide) q1786 rfl dX4_gap_69 (LX_S hX (k := 175) rfl) (v := .int (sI st 175 20)) rfl ?_
  refine X_if_eq (tgt := 84) C dX4_gap_72 (by decide) (fun c48 => ?_) (fun c48 => ?_)
  · have h := h.1 c48
    refine X_iload_n C dX4_gap_84 rfl 1 rfl ?_
    refine X_if_ne (tgt := 95) C dX4_gap_85 (by decide) (fun c49 => ?_) (fun c49 => ?_)
    · have h := h.1 c49
      refine X_aload_n C dX4_gap_95 rfl 0 rfl (isRV_r _) ?_
      refine X_getS (ci := 4) (j := 19) (q := (RX4, TX4, 54)) C rfl (by decide) q1785 rfl dX4_gap_96 (LX_S hX (k := 175) rfl) (v := .long (sL st 175 19)) rfl ?_
      exact X_lret C rfl dX4_gap_99 (hn st _ h)
    · have h := h.2 c49
      refine X_aload_n C dX4_gap_88 rfl 0 rfl (isRV_r _) ?_
      refine X_getS (ci := 4) (j := 18) (q := (RX4, TX4, 54)) C rfl (by decide) q1784 rfl dX4_gap_89 (LX_S hX (k := 175) rfl) (v := .long (sL st 175 18)) rfl ?_
      refine X_goto (tgt := 99) C dX4_gap_92 (by decide) ?_
      exact X_lret C rfl dX4_gap_99 (hn st _ h)
  · have h := h.2 c48
    refine X_aload_n C dX4_gap_75 rfl 0 rfl (isRV_r _) ?_
    refine X_bipush (v := 6) C dX4_gap_76 rfl ?_
    refine X_callVS (ci := 4) (q := (RX4, TX4, 54)) (As := [_]) (rest := []) C rfl (LX_S hX (k := 175) rfl) q2033 q2035 qs72 q136 q2036 ⟨rfl, nm_X4_findsFar⟩ rfl dX4_gap_78 (m_X4_findsFar (Cx_l C) hX (d := d - 1) (by omega) st 6 h) (by omega) (by decide) (Nat.le_of_ble_eq_true rfl) (fun s51 w52 hE53 hP54 => ?_) (fun s57 E55 q56 hE53 hP54 => ?_)
    rotate_left
    · exact False.elim hP54
    obtain ⟨r50, rfl, h⟩ := hP54
    refine X_tls ?_
    refine X_goto (tgt := 99) C dX4_gap_81 (by decide) ?_
    exact X_lret C rfl dX4_gap_99 (hn s51 _ h)
def w_X4_gap (st : St) (p1 : Int32) (p2 : Int32) (Φ : St → Int64 → Prop) : Prop := w_X4_isPoint st p1 (fun (r1 : Int32) => ((r1 = 0) → w_X4_gap_b15 Φ st) ∧ ((¬ r1 = 0) → w_X4_isPart p2 (fun (r18 : Int32) => ((r18 ≠ 0) → w_X4_begins st (fun (s28 : St) => w_X4_hullOf s28 p1 (fun (s36 : St) => ∀ v43 : Int64, v43 = (sL s36 175 18) → ∀ v45 : Int64, v45 = (sL s36 175 19) → (((sI s36 175 20) ≠ 0) → w_X4_gap_b68 Φ s36 p2) ∧ (((sI s36 175 20) = 0) → w_X4_once_2 s36 p1 (fun (s59 : St) => w_X4_less s59 (sL s59 175 18) (sL s59 175 19) v43 v45 (fun (s67 : St) => w_X4_gap_b68 Φ s67 p2)))))) ∧ ((r18 = 0) → w_X4_gap_b15 Φ st))))
theorem nm_X4_gap : yX4_gap.cls ≠ "java/lang/invoke/MethodHandle" ∧ yX4_gap.cls ≠ "java/lang/invoke/VarHandle" ∧ (parseMethodDescriptor yX4_gap.desc).map (fun d => d.parameters.length) = some 2 := by decide +kernel
theorem e_X4_gap : plainFor yX4_gap = true := plainFor_of_name (by decide +kernel)
theorem m_X4_gap {θ : Th} {l : Launch} (hl0 : l.stackTraces = false) (hX : LX θ) {d : Nat} (hd : 10 ≤ d) (st : St) (p1 : Int32) (p2 : Int32) {Φ : St → Int64 → Prop} (h : w_X4_gap st p1 p2 Φ) : Ct θ l yX4_gap (ws_ yX4_gap cX4_gap 7 (some Jvm.ClassFile.FieldType.long)) d [.ref (ad θ 175), .int p1, .int p2] st (pL Φ, noX) := by
  refine Ct_entry hl0 e_X4_gap (Nat.le_of_ble_eq_true rfl) (fun κ hκ _ C => ?_)
  have hn : ∀ st r, Φ st r → ((pL Φ, noX) : Ph).1 st (some (.long r)) := fun st r q => ⟨r, rfl, q⟩
  change X _ _ _ _ _ [(0, .ref (ad θ 175)), (1, .int p1), (2, .int p2)] _
  unfold w_X4_gap at h
  refine X_aload_n C dX4_gap_0 rfl 0 rfl (isRV_r _) ?_
  refine X_iload_n C dX4_gap_1 rfl 1 rfl ?_
  refine X_callVS (ci := 4) (q := (RX4, TX4, 54)) (As := [_]) (rest := []) C rfl (LX_S hX (k := 175) rfl) q1992 q1994 qs67 q136 q1995 ⟨rfl, nm_X4_isPoint⟩ rfl dX4_gap_2 (m_X4_isPoint (Cx_l C) hX (d := d - 1) (by omega) st p1 h) (by omega) (by decide) (Nat.le_of_ble_eq_true rfl) (fun s7 w2 hE3 hP4 => ?_) (fun s8 E5 q6 hE3 hP4 => ?_)
  rotate_left
  · exact False.elim hP4
  obtain ⟨r1, rfl, rfl, h⟩ := hP4
  refine X_tls ?_
  refine X_if_eq (tgt := 15) C dX4_gap_5 (by decide) (fun c9 => ?_) (fun c9 => ?_)
  · have h := h.1 c9
    refine X_sub [0] (lo2 := [(0, _)]) rfl ?_
    exact t_X4_gap_b15 hX hd C hn st h
  · have h := h.2 c9
    refine X_iload_n C dX4_gap_8 rfl 2 rfl ?_
    refine X_callS (As := [_]) (rest := []) C q2030 q2031 q136 q2032 nm_X4_isPart rfl dX4_gap_9 (m_X4_isPart (Cx_l C) hX (d := d - 1) (by omega) st p2 h) (by omega) (by decide) (Nat.le_of_ble_eq_true rfl) (fun s24 w19 hE20 hP21 => ?_) (fun s25 E22 q23 hE20 hP21 => ?_)
    rotate_left
    · exact False.elim hP21
    obtain ⟨r18, rfl, rfl, h⟩ := hP21
    refine X_tls ?_
    refine X_if_ne (tgt := 21) C dX4_gap_12 (by decide) (fun c26 => ?_) (fun c26 => ?_)
    · have h := h.1 c26
      refine X_aload_n C dX4_gap_21 rfl 0 rfl (isRV_r _) ?_
      refine X_callVS (ci := 4) (q := (RX4, TX4, 54)) (As := []) (rest := []) C rfl (LX_S hX (k := 175) rfl) q2038 q2040 qs73 q136 q2041 ⟨rfl, nm_X4_begins⟩ rfl dX4_gap_22 (m_X4_begins (Cx_l C) hX (d := d - 1) (by omega) st h) (by omega) (by decide) (Nat.le_of_ble_eq_true rfl) (fun s28 w29 hE30 hP31 => ?_) (fun s34 E32 q33 hE30 hP31 => ?_)
      rotate_left
      · exact False.elim hP31
      obtain ⟨rfl, h⟩ := hP31
      refine X_tln ?_
      refine X_aload_n C dX4_gap_25 rfl 0 rfl (isRV_r _) ?_
      refine X_iload_n C dX4_gap_26 rfl 1 rfl ?_
      refine X_callVS (ci := 4) (q := (RX4, TX4, 54)) (As := [_]) (rest := []) C rfl (LX_S hX (k := 175) rfl) q2156 q2158 qs96 q136 q2159 ⟨rfl, nm_X4_hullOf⟩ rfl dX4_gap_27 (m_X4_hullOf (Cx_l C) hX (d := d - 1) (by omega) s28 p1 h) (by omega) (by decide) (Nat.le_of_ble_eq_true rfl) (fun s36 w37 hE38 hP39 => ?_) (fun s42 E40 q41 hE38 hP39 => ?_)
      rotate_left
      · exact False.elim hP39
      obtain ⟨rfl, h⟩ := hP39
      refine X_tln ?_
      refine X_aload_n C dX4_gap_30 rfl 0 rfl (isRV_r _) ?_
      refine X_getS (ci := 4) (j := 18) (q := (RX4, TX4, 54)) C rfl (by decide) q1784 rfl dX4_gap_31 (LX_S hX (k := 175) rfl) (v := .long (sL s36 175 18)) rfl ?_
      refine X_topl (fun v43 e44 => ?_)
      have h := h v43 e44
      refine X_lstore_n C dX4_gap_34 rfl (lo2 := [(3, _), (0, _), (1, _), (2, _)]) (by decide) rfl ?_
      refine X_aload_n C dX4_gap_35 rfl 1 rfl (isRV_r _) ?_
      refine X_getS (ci := 4) (j := 19) (q := (RX4, TX4, 54)) C rfl (by decide) q1785 rfl dX4_gap_36 (LX_S hX (k := 175) rfl) (v := .long (sL s36 175 19)) rfl ?_
      refine X_topl (fun v45 e46 => ?_)
      have h := h v45 e46
      refine X_lstore C dX4_gap_39 (lo2 := [(5, _), (3, _), (0, _), (1, _), (2, _)]) (by decide) rfl ?_
      refine X_aload_n C dX4_gap_41 rfl 2 rfl (isRV_r _) ?_
      refine X_getS (ci := 4) (j := 20) (q := (RX4, TX4, 54)) C rfl (by decide) q1786 rfl dX4_gap_42 (LX_S hX (k := 175) rfl) (v := .int (sI s36 175 20)) rfl ?_
      refine X_if_ne (tgt := 68) C dX4_gap_45 (by decide) (fun c47 => ?_) (fun c47 => ?_)
      · have h := h.1 c47
        refine X_sub [2, 4] (lo2 := [(0, _), (2, _)]) rfl ?_
        exact t_X4_gap_b68 hX hd C hn s36 p2 h
      · have h := h.2 c47
        refine X_aload_n C dX4_gap_48 rfl 2 rfl (isRV_r _) ?_
        refine X_iload_n C dX4_gap_49 rfl 3 rfl ?_
        refine X_callVS (ci := 4) (q := (RX4, TX4, 54)) (As := [_]) (rest := []) C rfl (LX_S hX (k := 175) rfl) q2200 q2202 qs102 q136 q2203 ⟨rfl, nm_X4_once_2⟩ rfl dX4_gap_50 (m_X4_once_2 (Cx_l C) hX (d := d - 1) (by omega) s36 p1 h) (by omega) (by decide) (Nat.le_of_ble_eq_true rfl) (fun s59 w60 hE61 hP62 => ?_) (fun s65 E63 q64 hE61 hP62 => ?_)
        rotate_left
        · exact False.elim hP62
        obtain ⟨rfl, h⟩ := hP62
        refine X_tln ?_
        refine X_aload_n C dX4_gap_53 rfl 2 rfl (isRV_r _) ?_
        refine X_aload_n C dX4_gap_54 rfl 2 rfl (isRV_r _) ?_
        refine X_getS (ci := 4) (j := 18) (q := (RX4, TX4, 54)) C rfl (by decide) q1784 rfl dX4_gap_55 (LX_S hX (k := 175) rfl) (v := .long (sL s59 175 18)) rfl ?_
        refine X_aload_n C dX4_gap_58 rfl 2 rfl (isRV_r _) ?_
        refine X_getS (ci := 4) (j := 19) (q := (RX4, TX4, 54)) C rfl (by decide) q1785 rfl dX4_gap_59 (LX_S hX (k := 175) rfl) (v := .long (sL s59 175 19)) rfl ?_
        refine X_lload_n C dX4_gap_62 rfl 1 rfl ?_
        refine X_lload C dX4_gap_63 0 rfl ?_
        refine X_callVS (ci := 4) (q := (RX4, TX4, 54)) (As := [_, _, _, _]) (rest := []) C rfl (LX_S hX (k := 175) rfl) q2164 q2166 qs98 q136 q2167 ⟨rfl, nm_X4_less⟩ rfl dX4_gap_65 (m_X4_less (Cx_l C) hX (d := d - 1) (by omega) s59 (sL s59 175 18) (sL s59 175 19) v43 v45 h) (by omega) (by decide) (Nat.le_of_ble_eq_true rfl) (fun s67 w68 hE69 hP70 => ?_) (fun s73 E71 q72 hE69 hP70 => ?_)
        rotate_left
        · exact False.elim hP70
        obtain ⟨rfl, h⟩ := hP70
        refine X_tln ?_
        refine X_sub [2, 4] (lo2 := [(0, _), (2, _)]) rfl ?_
        exact t_X4_gap_b68 hX hd C hn s67 p2 h
    · have h := h.2 c26
      refine X_sub [0] (lo2 := [(0, _)]) rfl ?_
      exact t_X4_gap_b15 hX hd C hn st h

def w_X4_posterior_b22 (Φ : St → Int64 → Prop) (st : St) : Prop := w_X4_findsFar st 1 (fun (s11 : St) (r10 : Int64) => Φ s11 r10)
theorem t_X4_posterior_b22 {θ : Th} {κ : Kx} {Ph : Ph} (hX : LX θ) {d : Nat} (hd : 2 ≤ d) (C : Cx θ κ yX4_posterior cX4_posterior 7 (some Jvm.ClassFile.FieldType.long) [] d) {Φ : St → Int64 → Prop} (hn : ∀ st r, Φ st r → Ph.1 st (some (.long r))) (st : St) (h : w_X4_posterior_b22 Φ st) : X θ κ Ph st 22 [(0, .ref (ad θ 175))] [] := by
  unfold w_X4_posterior_b22 at h
  refine X_aload_n C dX4_posterior_22 rfl 0 rfl (isRV_r _) ?_
  refine X_iconst (v := 1) C dX4_posterior_23 rfl ?_
  refine X_callVS (ci := 4) (q := (RX4, TX4, 54)) (As := [_]) (rest := []) C rfl (LX_S hX (k := 175) rfl) q2033 q2035 qs72 q136 q2036 ⟨rfl, nm_X4_findsFar⟩ rfl dX4_posterior_24 (m_X4_findsFar (Cx_l C) hX (d := d - 1) (by omega) st 1 h) (by omega) (by decide) (Nat.le_of_ble_eq_true rfl) (fun s11 w12 hE13 hP14 => ?_) (fun s17 E15 q16 hE13 hP14 => ?_)
  rotate_left
  · exact False.elim hP14
  obtain ⟨r10, rfl, h⟩ := hP14
  refine X_tls ?_
  exact X_lret C rfl dX4_posterior_27 (hn s11 _ h)
def w_X4_posterior_l55 (Φ : St → Int64 → Prop) (E122 : St → Int32 → Int32 → Int32 → Int64 → Prop) (E83 : St → Prop) : Nat → St → Int32 → Int32 → Int32 → Int64 → Int32 → Prop
  | 0, _, _, _, _, _, _ => False
  | n + 1, st, x1, x2, x3, x4, x6 => (((sI st 177 0) ≤ x6) → E122 st x1 x2 x3 x4) ∧ ((¬ (sI st 177 0) ≤ x6) → w_X4_numberAt st x1 x6 (fun (r46 : Int64) => w_X4_isIn r46 0 999 (fun (r54 : Int32) => ((r54 ≠ 0) → w_X4_gives st (sI st 177 31) x6 (fun (r63 : Int32) => w_X4_numberAt st x1 x6 (fun (r71 : Int64) => ∀ v79 : Int64, v79 = (x4 + (r63.toInt64 * r71)) → w_X4_posterior_l55 Φ E122 E83 n st x1 x2 x3 v79 (x6 + 1)))) ∧ ((r54 = 0) → E83 st))))
theorem t_X4_posterior_l55 {θ : Th} {κ : Kx} {Ph : Ph} (hX : LX θ) {d : Nat} (hd : 2 ≤ d) (C : Cx θ κ yX4_posterior cX4_posterior 7 (some Jvm.ClassFile.FieldType.long) [] d) {Φ : St → Int64 → Prop} (hn : ∀ st r, Φ st r → Ph.1 st (some (.long r))) {E122 : St → Int32 → Int32 → Int32 → Int64 → Prop} {E83 : St → Prop} (hE122 : ∀ (st : St) (x1 : Int32) (x2 : Int32) (x3 : Int32) (x4 : Int64), E122 st x1 x2 x3 x4 → X θ κ Ph st 122 [(0, .ref (ad θ 175)), (1, .int x1), (2, .int x2), (3, .int x3), (4, .long x4)] []) (hE83 : ∀ (st : St), E83 st → X θ κ Ph st 83 [(0, .ref (ad θ 175))] []) : ∀ (n : Nat) (st : St) (x1 : Int32) (x2 : Int32) (x3 : Int32) (x4 : Int64) (x6 : Int32), w_X4_posterior_l55 Φ E122 E83 n st x1 x2 x3 x4 x6 → X θ κ Ph st 55 [(0, .ref (ad θ 175)), (1, .int x1), (2, .int x2), (3, .int x3), (4, .long x4), (6, .int x6)] [] := by
  intro n
  induction n with
  | zero => intro st x1 x2 x3 x4 x6 h; exact h.elim
  | succ n hK55 =>
    intro st x1 x2 x3 x4 x6 h
    rw [w_X4_posterior_l55] at h
    refine X_iload C dX4_posterior_55 5 rfl ?_
    refine X_aload_n C dX4_posterior_57 rfl 0 rfl (isRV_r _) ?_
    refine X_getF (ci := 4) (j := 1) (q := (RX4, TX4, 54)) C rfl (by decide) q1767 rfl dX4_posterior_58 (b := 177) (LX_S hX (k := 175) rfl) (LX_F hX (k := 175) (j := 1) rfl) rfl ?_
    refine X_iconst (v := 0) C dX4_posterior_61 rfl ?_
    refine X_ialdS C (LX_S hX (k := 177) rfl) (LX_L hX (k := 177) rfl) (vp_dec rfl) rfl dX4_posterior_62 ?_
    refine X_icmp_ge (tgt := 122) C dX4_posterior_63 (by decide) (fun c45 => ?_) (fun c45 => ?_)
    · have h := h.1 c45
      refine X_sub [0, 1, 2, 3, 4] (lo2 := [(0, _), (1, _), (2, _), (3, _), (4, _)]) rfl ?_
      exact hE122 st x1 x2 x3 x4 h
    · have h := h.2 c45
      refine X_aload_n C dX4_posterior_66 rfl 0 rfl (isRV_r _) ?_
      refine X_iload_n C dX4_posterior_67 rfl 1 rfl ?_
      refine X_iload C dX4_posterior_68 5 rfl ?_
      refine X_callVS (ci := 4) (q := (RX4, TX4, 54)) (As := [_, _]) (rest := []) C rfl (LX_S hX (k := 175) rfl) q1980 q1982 qs66 q136 q1983 ⟨rfl, nm_X4_numberAt⟩ rfl dX4_posterior_70 (m_X4_numberAt (Cx_l C) hX (d := d - 1) (by omega) st x1 x6 h) (by omega) (by decide) (Nat.le_of_ble_eq_true rfl) (fun s52 w47 hE48 hP49 => ?_) (fun s53 E50 q51 hE48 hP49 => ?_)
      rotate_left
      · exact False.elim hP49
      obtain ⟨r46, rfl, rfl, h⟩ := hP49
      refine X_tls ?_
      refine X_lconst (v := 0) C dX4_posterior_73 rfl ?_
      refine X_ldc2 C q2212 dX4_posterior_74 ?_
      refine X_callS (As := [_, _, _]) (rest := []) C q1936 q1937 q136 q1938 nm_X4_isIn rfl dX4_posterior_77 (m_X4_isIn (Cx_l C) hX (d := d - 1) (by omega) st r46 0 999 h) (by omega) (by decide) (Nat.le_of_ble_eq_true rfl) (fun s60 w55 hE56 hP57 => ?_) (fun s61 E58 q59 hE56 hP57 => ?_)
      rotate_left
      · exact False.elim hP57
      obtain ⟨r54, rfl, rfl, h⟩ := hP57
      refine X_tls ?_
      refine X_if_ne (tgt := 89) C dX4_posterior_80 (by decide) (fun c62 => ?_) (fun c62 => ?_)
      · have h := h.1 c62
        refine X_lload C dX4_posterior_89 4 rfl ?_
        refine X_aload_n C dX4_posterior_91 rfl 0 rfl (isRV_r _) ?_
        refine X_aload_n C dX4_posterior_92 rfl 0 rfl (isRV_r _) ?_
        refine X_getF (ci := 4) (j := 1) (q := (RX4, TX4, 54)) C rfl (by decide) q1767 rfl dX4_posterior_93 (b := 177) (LX_S hX (k := 175) rfl) (LX_F hX (k := 175) (j := 1) rfl) rfl ?_
        refine X_bipush (v := 31) C dX4_posterior_96 rfl ?_
        refine X_ialdS C (LX_S hX (k := 177) rfl) (LX_L hX (k := 177) rfl) (vp_dec rfl) rfl dX4_posterior_98 ?_
        refine X_iload C dX4_posterior_99 5 rfl ?_
        refine X_callVS (ci := 4) (q := (RX4, TX4, 54)) (As := [_, _]) (rest := [_]) C rfl (LX_S hX (k := 175) rfl) q2014 q2016 qs70 q136 q2017 ⟨rfl, nm_X4_gives⟩ rfl dX4_posterior_101 (m_X4_gives (Cx_l C) hX (d := d - 1) (by omega) st (sI st 177 31) x6 h) (by omega) (by decide) (Nat.le_of_ble_eq_true rfl) (fun s69 w64 hE65 hP66 => ?_) (fun s70 E67 q68 hE65 hP66 => ?_)
        rotate_left
        · exact False.elim hP66
        obtain ⟨r63, rfl, rfl, h⟩ := hP66
        refine X_tls ?_
        refine X_i2l C dX4_posterior_104 ?_
        refine X_aload_n C dX4_posterior_105 rfl 0 rfl (isRV_r _) ?_
        refine X_iload_n C dX4_posterior_106 rfl 1 rfl ?_
        refine X_iload C dX4_posterior_107 5 rfl ?_
        refine X_callVS (ci := 4) (q := (RX4, TX4, 54)) (As := [_, _]) (rest := [_, _]) C rfl (LX_S hX (k := 175) rfl) q1980 q1982 qs66 q136 q1983 ⟨rfl, nm_X4_numberAt⟩ rfl dX4_posterior_109 (m_X4_numberAt (Cx_l C) hX (d := d - 1) (by omega) st x1 x6 h) (by omega) (by decide) (Nat.le_of_ble_eq_true rfl) (fun s77 w72 hE73 hP74 => ?_) (fun s78 E75 q76 hE73 hP74 => ?_)
        rotate_left
        · exact False.elim hP74
        obtain ⟨r71, rfl, rfl, h⟩ := hP74
        refine X_tls ?_
        refine X_lmul C dX4_posterior_112 ?_
        refine X_ladd C dX4_posterior_113 ?_
        refine X_topl (fun v79 e80 => ?_)
        have h := h v79 e80
        refine X_lstore C dX4_posterior_114 (lo2 := [(4, _), (0, _), (1, _), (2, _), (3, _), (6, _)]) (by decide) rfl ?_
        refine X_iinc (v := (x6 + 1)) C (j := 5) dX4_posterior_116 rfl rfl (lo2 := [(6, _), (4, _), (0, _), (1, _), (2, _), (3, _)]) (by decide) rfl ?_
        refine X_goto (tgt := 55) C dX4_posterior_119 (by decide) ?_
        refine X_sub [2, 3, 4, 5, 1, 0] (lo2 := [(0, _), (1, _), (2, _), (3, _), (4, _), (6, _)]) rfl ?_
        exact hK55 st x1 x2 x3 v79 (x6 + 1) h
      · have h := h.2 c62
        refine X_sub [0] (lo2 := [(0, _)]) rfl ?_
        exact hE83 st h
def w_X4_posterior_b122 (Φ : St → Int64 → Prop) (st : St) (x1 : Int32) (x2 : Int32) (x3 : Int32) (x4 : Int64) : Prop := ((x4 ≠ 0) → ∀ s83, s83 = putI st 175 20 0 → w_X4_gives s83 (sI s83 177 31) x2 (fun (r85 : Int32) => w_X4_numberAt s83 x1 x2 (fun (r93 : Int64) => w_X4_lowest s83 (r85.toInt64 * r93) x4 (fun (s102 : St) => ((x3 ≠ 0) → Φ s102 (sL s102 175 19)) ∧ ((x3 = 0) → Φ s102 (sL s102 175 18)))))) ∧ ((x4 = 0) → w_X4_findsFar st 7 (fun (s111 : St) (r110 : Int64) => Φ s111 r110))
theorem t_X4_posterior_b122 {θ : Th} {κ : Kx} {Ph : Ph} (hX : LX θ) {d : Nat} (hd : 2 ≤ d) (C : Cx θ κ yX4_posterior cX4_posterior 7 (some Jvm.ClassFile.FieldType.long) [] d) {Φ : St → Int64 → Prop} (hn : ∀ st r, Φ st r → Ph.1 st (some (.long r))) (st : St) (x1 : Int32) (x2 : Int32) (x3 : Int32) (x4 : Int64) (h : w_X4_posterior_b122 Φ st x1 x2 x3 x4) : X θ κ Ph st 122 [(0, .ref (ad θ 175)), (1, .int x1), (2, .int x2), (3, .int x3), (4, .long x4)] [] := by
  unfold w_X4_posterior_b122 at h
  refine X_lload C dX4_posterior_122 4 rfl ?_
  refine X_lconst (v := 0) C dX4_posterior_124 rfl ?_
  refine X_lcmp_ne (tgt := 136) C dX4_posterior_125 dX4_posterior_126 (by decide) (fun c82 => ?_) (fun c82 => ?_)
  · have h := h.1 c82
    refine X_aload_n C dX4_posterior_136 rfl 0 rfl (isRV_r _) ?_
    refine X_iconst (v := 0) C dX4_posterior_137 rfl ?_
    refine X_putSI (ci := 4) (j := 20) (q := (RX4, TX4, 54)) C rfl (by decide) q1786 rfl rfl dX4_posterior_138 (LX_S hX (k := 175) rfl) rfl rfl rfl ?_
    refine X_nm (fun s83 e84 => ?_)
    have h := h s83 e84
    refine X_aload_n C dX4_posterior_141 rfl 0 rfl (isRV_r _) ?_
    refine X_aload_n C dX4_posterior_142 rfl 0 rfl (isRV_r _) ?_
    refine X_aload_n C dX4_posterior_143 rfl 0 rfl (isRV_r _) ?_
    refine X_getF (ci := 4) (j := 1) (q := (RX4, TX4, 54)) C rfl (by decide) q1767 rfl dX4_posterior_144 (b := 177) (LX_S hX (k := 175) rfl) (LX_F hX (k := 175) (j := 1) rfl) rfl ?_
    refine X_bipush (v := 31) C dX4_posterior_147 rfl ?_
    refine X_ialdS C (LX_S hX (k := 177) rfl) (LX_L hX (k := 177) rfl) (vp_dec rfl) rfl dX4_posterior_149 ?_
    refine X_iload_n C dX4_posterior_150 rfl 2 rfl ?_
    refine X_callVS (ci := 4) (q := (RX4, TX4, 54)) (As := [_, _]) (rest := [_]) C rfl (LX_S hX (k := 175) rfl) q2014 q2016 qs70 q136 q2017 ⟨rfl, nm_X4_gives⟩ rfl dX4_posterior_151 (m_X4_gives (Cx_l C) hX (d := d - 1) (by omega) s83 (sI s83 177 31) x2 h) (by omega) (by decide) (Nat.le_of_ble_eq_true rfl) (fun s91 w86 hE87 hP88 => ?_) (fun s92 E89 q90 hE87 hP88 => ?_)
    rotate_left
    · exact False.elim hP88
    obtain ⟨r85, rfl, rfl, h⟩ := hP88
    refine X_tls ?_
    refine X_i2l C dX4_posterior_154 ?_
    refine X_aload_n C dX4_posterior_155 rfl 0 rfl (isRV_r _) ?_
    refine X_iload_n C dX4_posterior_156 rfl 1 rfl ?_
    refine X_iload_n C dX4_posterior_157 rfl 2 rfl ?_
    refine X_callVS (ci := 4) (q := (RX4, TX4, 54)) (As := [_, _]) (rest := [_, _]) C rfl (LX_S hX (k := 175) rfl) q1980 q1982 qs66 q136 q1983 ⟨rfl, nm_X4_numberAt⟩ rfl dX4_posterior_158 (m_X4_numberAt (Cx_l C) hX (d := d - 1) (by omega) s83 x1 x2 h) (by omega) (by decide) (Nat.le_of_ble_eq_true rfl) (fun s99 w94 hE95 hP96 => ?_) (fun s100 E97 q98 hE95 hP96 => ?_)
    rotate_left
    · exact False.elim hP96
    obtain ⟨r93, rfl, rfl, h⟩ := hP96
    refine X_tls ?_
    refine X_lmul C dX4_posterior_161 ?_
    refine X_lload C dX4_posterior_162 4 rfl ?_
    refine X_callVS (ci := 4) (q := (RX4, TX4, 54)) (As := [_, _]) (rest := []) C rfl (LX_S hX (k := 175) rfl) q2081 q2083 qs82 q136 q2084 ⟨rfl, nm_X4_lowest⟩ rfl dX4_posterior_164 (m_X4_lowest (Cx_l C) hX (d := d - 1) (by omega) s83 (r85.toInt64 * r93) x4 h) (by omega) (by decide) (Nat.le_of_ble_eq_true rfl) (fun s102 w103 hE104 hP105 => ?_) (fun s108 E106 q107 hE104 hP105 => ?_)
    rotate_left
    · exact False.elim hP105
    obtain ⟨rfl, h⟩ := hP105
    refine X_tln ?_
    refine X_iload_n C dX4_posterior_167 rfl 3 rfl ?_
    refine X_if_ne (tgt := 178) C dX4_posterior_168 (by decide) (fun c109 => ?_) (fun c109 => ?_)
    · have h := h.1 c109
      refine X_aload_n C dX4_posterior_178 rfl 0 rfl (isRV_r _) ?_
      refine X_getS (ci := 4) (j := 19) (q := (RX4, TX4, 54)) C rfl (by decide) q1785 rfl dX4_posterior_179 (LX_S hX (k := 175) rfl) (v := .long (sL s102 175 19)) rfl ?_
      exact X_lret C rfl dX4_posterior_182 (hn s102 _ h)
    · have h := h.2 c109
      refine X_aload_n C dX4_posterior_171 rfl 0 rfl (isRV_r _) ?_
      refine X_getS (ci := 4) (j := 18) (q := (RX4, TX4, 54)) C rfl (by decide) q1784 rfl dX4_posterior_172 (LX_S hX (k := 175) rfl) (v := .long (sL s102 175 18)) rfl ?_
      refine X_goto (tgt := 182) C dX4_posterior_175 (by decide) ?_
      exact X_lret C rfl dX4_posterior_182 (hn s102 _ h)
  · have h := h.2 c82
    refine X_aload_n C dX4_posterior_129 rfl 0 rfl (isRV_r _) ?_
    refine X_bipush (v := 7) C dX4_posterior_130 rfl ?_
    refine X_callVS (ci := 4) (q := (RX4, TX4, 54)) (As := [_]) (rest := []) C rfl (LX_S hX (k := 175) rfl) q2033 q2035 qs72 q136 q2036 ⟨rfl, nm_X4_findsFar⟩ rfl dX4_posterior_132 (m_X4_findsFar (Cx_l C) hX (d := d - 1) (by omega) st 7 h) (by omega) (by decide) (Nat.le_of_ble_eq_true rfl) (fun s111 w112 hE113 hP114 => ?_) (fun s117 E115 q116 hE113 hP114 => ?_)
    rotate_left
    · exact False.elim hP114
    obtain ⟨r110, rfl, h⟩ := hP114
    refine X_tls ?_
    exact X_lret C rfl dX4_posterior_135 (hn s111 _ h)
def w_X4_posterior_b83 (Φ : St → Int64 → Prop) (st : St) : Prop := w_X4_findsFar st 5 (fun (s120 : St) (r119 : Int64) => Φ s120 r119)
theorem t_X4_posterior_b83 {θ : Th} {κ : Kx} {Ph : Ph} (hX : LX θ) {d : Nat} (hd : 2 ≤ d) (C : Cx θ κ yX4_posterior cX4_posterior 7 (some Jvm.ClassFile.FieldType.long) [] d) {Φ : St → Int64 → Prop} (hn : ∀ st r, Φ st r → Ph.1 st (some (.long r))) (st : St) (h : w_X4_posterior_b83 Φ st) : X θ κ Ph st 83 [(0, .ref (ad θ 175))] [] := by
  unfold w_X4_posterior_b83 at h
  refine X_aload_n C dX4_posterior_83 rfl 0 rfl (isRV_r _) ?_
  refine X_iconst (v := 5) C dX4_posterior_84 rfl ?_
  refine X_callVS (ci := 4) (q := (RX4, TX4, 54)) (As := [_]) (rest := []) C rfl (LX_S hX (k := 175) rfl) q2033 q2035 qs72 q136 q2036 ⟨rfl, nm_X4_findsFar⟩ rfl dX4_posterior_85 (m_X4_findsFar (Cx_l C) hX (d := d - 1) (by omega) st 5 h) (by omega) (by decide) (Nat.le_of_ble_eq_true rfl) (fun s120 w121 hE122 hP123 => ?_) (fun s126 E124 q125 hE122 hP123 => ?_)
  rotate_left
  · exact False.elim hP123
  obtain ⟨r119, rfl, h⟩ := hP123
  refine X_tls ?_
  exact X_lret C rfl dX4_posterior_88 (hn s120 _ h)
def w_X4_posterior (st : St) (p1 : Int32) (p2 : Int32) (p3 : Int32) (Φ : St → Int64 → Prop) : Prop := w_X4_isSheet p1 (fun (r1 : Int32) => ((r1 = 0) → w_X4_posterior_b22 Φ st) ∧ ((¬ r1 = 0) → w_X4_isState st p2 (fun (r18 : Int32) => ((r18 = 0) → w_X4_posterior_b22 Φ st) ∧ ((¬ r18 = 0) → w_X4_isPart p3 (fun (r27 : Int32) => ((r27 ≠ 0) → w_X4_hasFew st p1 (sI st 177 0) (fun (r36 : Int32) => ((r36 = 0) → w_X4_posterior_l55 Φ (fun (s81 : St) (x1 : Int32) (x2 : Int32) (x3 : Int32) (x4 : Int64) => w_X4_posterior_b122 Φ s81 x1 x2 x3 x4) (fun (s118 : St) => w_X4_posterior_b83 Φ s118) gFU st p1 p2 p3 0 0) ∧ ((¬ r36 = 0) → w_X4_findsFar st 8 (fun (s128 : St) (r127 : Int64) => Φ s128 r127)))) ∧ ((r27 = 0) → w_X4_posterior_b22 Φ st))))))
theorem nm_X4_posterior : yX4_posterior.cls ≠ "java/lang/invoke/MethodHandle" ∧ yX4_posterior.cls ≠ "java/lang/invoke/VarHandle" ∧ (parseMethodDescriptor yX4_posterior.desc).map (fun d => d.parameters.length) = some 3 := by decide +kernel
theorem e_X4_posterior : plainFor yX4_posterior = true := plainFor_of_name (by decide +kernel)
theorem m_X4_posterior {θ : Th} {l : Launch} (hl0 : l.stackTraces = false) (hX : LX θ) {d : Nat} (hd : 2 ≤ d) (st : St) (p1 : Int32) (p2 : Int32) (p3 : Int32) {Φ : St → Int64 → Prop} (h : w_X4_posterior st p1 p2 p3 Φ) : Ct θ l yX4_posterior (ws_ yX4_posterior cX4_posterior 7 (some Jvm.ClassFile.FieldType.long)) d [.ref (ad θ 175), .int p1, .int p2, .int p3] st (pL Φ, noX) := by
  refine Ct_entry hl0 e_X4_posterior (Nat.le_of_ble_eq_true rfl) (fun κ hκ _ C => ?_)
  have hn : ∀ st r, Φ st r → ((pL Φ, noX) : Ph).1 st (some (.long r)) := fun st r q => ⟨r, rfl, q⟩
  change X _ _ _ _ _ [(0, .ref (ad θ 175)), (1, .int p1), (2, .int p2), (3, .int p3)] _
  unfold w_X4_posterior at h
  refine X_iload_n C dX4_posterior_0 rfl 1 rfl ?_
  refine X_callS (As := [_]) (rest := []) C q1973 q1974 q136 q1975 nm_X4_isSheet rfl dX4_posterior_1 (m_X4_isSheet (Cx_l C) hX (d := d - 1) (by omega) st p1 h) (by omega) (by decide) (Nat.le_of_ble_eq_true rfl) (fun s7 w2 hE3 hP4 => ?_) (fun s8 E5 q6 hE3 hP4 => ?_)
  rotate_left
  · exact False.elim hP4
  obtain ⟨r1, rfl, rfl, h⟩ := hP4
  refine X_tls ?_
  refine X_if_eq (tgt := 22) C dX4_posterior_4 (by decide) (fun c9 => ?_) (fun c9 => ?_)
  · have h := h.1 c9
    refine X_sub [0] (lo2 := [(0, _)]) rfl ?_
    exact t_X4_posterior_b22 hX hd C hn st h
  · have h := h.2 c9
    refine X_aload_n C dX4_posterior_7 rfl 0 rfl (isRV_r _) ?_
    refine X_iload_n C dX4_posterior_8 rfl 2 rfl ?_
    refine X_callVS (ci := 4) (q := (RX4, TX4, 54)) (As := [_]) (rest := []) C rfl (LX_S hX (k := 175) rfl) q2004 q2006 qs69 q136 q2007 ⟨rfl, nm_X4_isState⟩ rfl dX4_posterior_9 (m_X4_isState (Cx_l C) hX (d := d - 1) (by omega) st p2 h) (by omega) (by decide) (Nat.le_of_ble_eq_true rfl) (fun s24 w19 hE20 hP21 => ?_) (fun s25 E22 q23 hE20 hP21 => ?_)
    rotate_left
    · exact False.elim hP21
    obtain ⟨r18, rfl, rfl, h⟩ := hP21
    refine X_tls ?_
    refine X_if_eq (tgt := 22) C dX4_posterior_12 (by decide) (fun c26 => ?_) (fun c26 => ?_)
    · have h := h.1 c26
      refine X_sub [0] (lo2 := [(0, _)]) rfl ?_
      exact t_X4_posterior_b22 hX hd C hn st h
    · have h := h.2 c26
      refine X_iload_n C dX4_posterior_15 rfl 3 rfl ?_
      refine X_callS (As := [_]) (rest := []) C q2030 q2031 q136 q2032 nm_X4_isPart rfl dX4_posterior_16 (m_X4_isPart (Cx_l C) hX (d := d - 1) (by omega) st p3 h) (by omega) (by decide) (Nat.le_of_ble_eq_true rfl) (fun s33 w28 hE29 hP30 => ?_) (fun s34 E31 q32 hE29 hP30 => ?_)
      rotate_left
      · exact False.elim hP30
      obtain ⟨r27, rfl, rfl, h⟩ := hP30
      refine X_tls ?_
      refine X_if_ne (tgt := 28) C dX4_posterior_19 (by decide) (fun c35 => ?_) (fun c35 => ?_)
      · have h := h.1 c35
        refine X_aload_n C dX4_posterior_28 rfl 0 rfl (isRV_r _) ?_
        refine X_iload_n C dX4_posterior_29 rfl 1 rfl ?_
        refine X_aload_n C dX4_posterior_30 rfl 0 rfl (isRV_r _) ?_
        refine X_getF (ci := 4) (j := 1) (q := (RX4, TX4, 54)) C rfl (by decide) q1767 rfl dX4_posterior_31 (b := 177) (LX_S hX (k := 175) rfl) (LX_F hX (k := 175) (j := 1) rfl) rfl ?_
        refine X_iconst (v := 0) C dX4_posterior_34 rfl ?_
        refine X_ialdS C (LX_S hX (k := 177) rfl) (LX_L hX (k := 177) rfl) (vp_dec rfl) rfl dX4_posterior_35 ?_
        refine X_callVS (ci := 4) (q := (RX4, TX4, 54)) (As := [_, _]) (rest := []) C rfl (LX_S hX (k := 175) rfl) q1976 q1978 qs65 q136 q1979 ⟨rfl, nm_X4_hasFew⟩ rfl dX4_posterior_36 (m_X4_hasFew (Cx_l C) hX (d := d - 1) (by omega) st p1 (sI st 177 0) h) (by omega) (by decide) (Nat.le_of_ble_eq_true rfl) (fun s42 w37 hE38 hP39 => ?_) (fun s43 E40 q41 hE38 hP39 => ?_)
        rotate_left
        · exact False.elim hP39
        obtain ⟨r36, rfl, rfl, h⟩ := hP39
        refine X_tls ?_
        refine X_if_eq (tgt := 49) C dX4_posterior_39 (by decide) (fun c44 => ?_) (fun c44 => ?_)
        · have h := h.1 c44
          refine X_lconst (v := 0) C dX4_posterior_49 rfl ?_
          refine X_lstore C dX4_posterior_50 (lo2 := [(4, _), (0, _), (1, _), (2, _), (3, _)]) (by decide) rfl ?_
          refine X_iconst (v := 0) C dX4_posterior_52 rfl ?_
          refine X_istore C dX4_posterior_53 (lo2 := [(6, _), (4, _), (0, _), (1, _), (2, _), (3, _)]) (by decide) rfl ?_
          refine X_sub [2, 3, 4, 5, 1, 0] (lo2 := [(0, _), (1, _), (2, _), (3, _), (4, _), (6, _)]) rfl ?_
          refine t_X4_posterior_l55 hX hd C hn ?_ ?_ gFU st p1 p2 p3 0 0 h
          · intro s81 x1 x2 x3 x4 h
            exact t_X4_posterior_b122 hX hd C hn s81 x1 x2 x3 x4 h
          · intro s118 h
            exact t_X4_posterior_b83 hX hd C hn s118 h
        · have h := h.2 c44
          refine X_aload_n C dX4_posterior_42 rfl 0 rfl (isRV_r _) ?_
          refine X_bipush (v := 8) C dX4_posterior_43 rfl ?_
          refine X_callVS (ci := 4) (q := (RX4, TX4, 54)) (As := [_]) (rest := []) C rfl (LX_S hX (k := 175) rfl) q2033 q2035 qs72 q136 q2036 ⟨rfl, nm_X4_findsFar⟩ rfl dX4_posterior_45 (m_X4_findsFar (Cx_l C) hX (d := d - 1) (by omega) st 8 h) (by omega) (by decide) (Nat.le_of_ble_eq_true rfl) (fun s128 w129 hE130 hP131 => ?_) (fun s134 E132 q133 hE130 hP131 => ?_)
          rotate_left
          · exact False.elim hP131
          obtain ⟨r127, rfl, h⟩ := hP131
          refine X_tls ?_
          exact X_lret C rfl dX4_posterior_48 (hn s128 _ h)
      · have h := h.2 c35
        refine X_sub [0] (lo2 := [(0, _)]) rfl ?_
        exact t_X4_posterior_b22 hX hd C hn st h

def w_X4_feed (st : St) (p1 : Int32) (Φ : St → Int32 → Prop) : Prop := w_X4_isIn p1.toInt64 0 255 (fun (r1 : Int32) => ((r1 ≠ 0) → (((sI st 175 10) ≠ 200) → vp_in (sI st 175 10) 200 ∧ ∀ s12, s12 = putI st 182 ((sI st 175 10).toNatClampNeg) p1 → ∀ s14, s14 = putI s12 175 10 ((sI s12 175 10) + 1) → Φ s14 (sI s14 175 10)) ∧ (((sI st 175 10) = 200) → w_X4_finds st 4 (fun (s17 : St) (r16 : Int32) => Φ s17 r16))) ∧ ((r1 = 0) → w_X4_finds st 1 (fun (s25 : St) (r24 : Int32) => Φ s25 r24)))
theorem nm_X4_feed : yX4_feed.cls ≠ "java/lang/invoke/MethodHandle" ∧ yX4_feed.cls ≠ "java/lang/invoke/VarHandle" ∧ (parseMethodDescriptor yX4_feed.desc).map (fun d => d.parameters.length) = some 1 := by decide +kernel
theorem e_X4_feed : plainFor yX4_feed = true := plainFor_of_name (by decide +kernel)
theorem m_X4_feed {θ : Th} {l : Launch} (hl0 : l.stackTraces = false) (hX : LX θ) {d : Nat} (hd : 1 ≤ d) (st : St) (p1 : Int32) {Φ : St → Int32 → Prop} (h : w_X4_feed st p1 Φ) : Ct θ l yX4_feed (ws_ yX4_feed cX4_feed 2 (some Jvm.ClassFile.FieldType.int)) d [.ref (ad θ 175), .int p1] st (pI Φ, noX) := by
  refine Ct_entry hl0 e_X4_feed (Nat.le_of_ble_eq_true rfl) (fun κ hκ _ C => ?_)
  have hn : ∀ st r, Φ st r → ((pI Φ, noX) : Ph).1 st (some (.int r)) := fun st r q => ⟨r, rfl, q⟩
  change X _ _ _ _ _ [(0, .ref (ad θ 175)), (1, .int p1)] _
  unfold w_X4_feed at h
  refine X_iload_n C dX4_feed_0 rfl 1 rfl ?_
  refine X_i2l C dX4_feed_1 ?_
  refine X_lconst (v := 0) C dX4_feed_2 rfl ?_
  refine X_ldc2 C q2217 dX4_feed_3 ?_
  refine X_callS (As := [_, _, _]) (rest := []) C q1936 q1937 q136 q1938 nm_X4_isIn rfl dX4_feed_6 (m_X4_isIn (Cx_l C) hX (d := d - 1) (by omega) st p1.toInt64 0 255 h) (by omega) (by decide) (Nat.le_of_ble_eq_true rfl) (fun s7 w2 hE3 hP4 => ?_) (fun s8 E5 q6 hE3 hP4 => ?_)
  rotate_left
  · exact False.elim hP4
  obtain ⟨r1, rfl, rfl, h⟩ := hP4
  refine X_tls ?_
  refine X_if_ne (tgt := 18) C dX4_feed_9 (by decide) (fun c9 => ?_) (fun c9 => ?_)
  · have h := h.1 c9
    refine X_aload_n C dX4_feed_18 rfl 0 rfl (isRV_r _) ?_
    refine X_getS (ci := 4) (j := 10) (q := (RX4, TX4, 54)) C rfl (by decide) q1776 rfl dX4_feed_19 (LX_S hX (k := 175) rfl) (v := .int (sI st 175 10)) rfl ?_
    refine X_sipush (v := 200) C dX4_feed_22 rfl ?_
    refine X_icmp_ne (tgt := 34) C dX4_feed_25 (by decide) (fun c10 => ?_) (fun c10 => ?_)
    · have h := h.1 c10
      refine X_aload_n C dX4_feed_34 rfl 0 rfl (isRV_r _) ?_
      refine X_getF (ci := 4) (j := 9) (q := (RX4, TX4, 54)) C rfl (by decide) q1775 rfl dX4_feed_35 (b := 182) (LX_S hX (k := 175) rfl) (LX_F hX (k := 175) (j := 9) rfl) rfl ?_
      refine X_aload_n C dX4_feed_38 rfl 0 rfl (isRV_r _) ?_
      refine X_getS (ci := 4) (j := 10) (q := (RX4, TX4, 54)) C rfl (by decide) q1776 rfl dX4_feed_39 (LX_S hX (k := 175) rfl) (v := .int (sI st 175 10)) rfl ?_
      refine X_iload_n C dX4_feed_42 rfl 1 rfl ?_
      have g11 := h.1
      have h := h.2
      refine X_iastS C (LX_S hX (k := 182) rfl) (LX_L hX (k := 182) rfl) g11 rfl dX4_feed_43 ?_
      refine X_nm (fun s12 e13 => ?_)
      have h := h s12 e13
      refine X_aload_n C dX4_feed_44 rfl 0 rfl (isRV_r _) ?_
      refine X_dup C dX4_feed_45 rfl ?_
      refine X_getS (ci := 4) (j := 10) (q := (RX4, TX4, 54)) C rfl (by decide) q1776 rfl dX4_feed_46 (LX_S hX (k := 175) rfl) (v := .int (sI s12 175 10)) rfl ?_
      refine X_iconst (v := 1) C dX4_feed_49 rfl ?_
      refine X_iadd C dX4_feed_50 ?_
      refine X_putSI (ci := 4) (j := 10) (q := (RX4, TX4, 54)) C rfl (by decide) q1776 rfl rfl dX4_feed_51 (LX_S hX (k := 175) rfl) rfl rfl rfl ?_
      refine X_nm (fun s14 e15 => ?_)
      have h := h s14 e15
      refine X_aload_n C dX4_feed_54 rfl 0 rfl (isRV_r _) ?_
      refine X_getS (ci := 4) (j := 10) (q := (RX4, TX4, 54)) C rfl (by decide) q1776 rfl dX4_feed_55 (LX_S hX (k := 175) rfl) (v := .int (sI s14 175 10)) rfl ?_
      exact X_iret C rfl dX4_feed_58 (hn s14 _ h)
    · have h := h.2 c10
      refine X_aload_n C dX4_feed_28 rfl 0 rfl (isRV_r _) ?_
      refine X_iconst (v := 4) C dX4_feed_29 rfl ?_
      refine X_callVS (ci := 4) (q := (RX4, TX4, 54)) (As := [_]) (rest := []) C rfl (LX_S hX (k := 175) rfl) q1939 q1941 qs63 q136 q1942 ⟨rfl, nm_X4_finds⟩ rfl dX4_feed_30 (m_X4_finds (Cx_l C) hX (d := d - 1) (by omega) st 4 h) (by omega) (by decide) (Nat.le_of_ble_eq_true rfl) (fun s17 w18 hE19 hP20 => ?_) (fun s23 E21 q22 hE19 hP20 => ?_)
      rotate_left
      · exact False.elim hP20
      obtain ⟨r16, rfl, h⟩ := hP20
      refine X_tls ?_
      exact X_iret C rfl dX4_feed_33 (hn s17 _ h)
  · have h := h.2 c9
    refine X_aload_n C dX4_feed_12 rfl 0 rfl (isRV_r _) ?_
    refine X_iconst (v := 1) C dX4_feed_13 rfl ?_
    refine X_callVS (ci := 4) (q := (RX4, TX4, 54)) (As := [_]) (rest := []) C rfl (LX_S hX (k := 175) rfl) q1939 q1941 qs63 q136 q1942 ⟨rfl, nm_X4_finds⟩ rfl dX4_feed_14 (m_X4_finds (Cx_l C) hX (d := d - 1) (by omega) st 1 h) (by omega) (by decide) (Nat.le_of_ble_eq_true rfl) (fun s25 w26 hE27 hP28 => ?_) (fun s31 E29 q30 hE27 hP28 => ?_)
    rotate_left
    · exact False.elim hP28
    obtain ⟨r24, rfl, h⟩ := hP28
    refine X_tls ?_
    exact X_iret C rfl dX4_feed_17 (hn s25 _ h)

def w_X4_move_l2 (Φ : St → Prop) (E20 : St → Prop) : Nat → St → Nat → Nat → Int32 → Prop
  | 0, _, _, _, _ => False
  | n + 1, st, x0, x1, x2 => ((97 ≤ x2) → E20 st) ∧ ((¬ 97 ≤ x2) → vp_in x2 97 ∧ ∀ s3, s3 = putI st x1 (x2.toNatClampNeg) (sI st x0 x2.toNatClampNeg) → w_X4_move_l2 Φ E20 n s3 x0 x1 (x2 + 1))
theorem t_X4_move_l2 {θ : Th} {κ : Kx} {Ph : Ph} (hX : LX θ) {d : Nat} (hd : 0 ≤ d) (C : Cx θ κ yX4_move cX4_move 3 (none : Option Jvm.ClassFile.FieldType) [] d) {Φ : St → Prop} (hn : ∀ st, Φ st → Ph.1 st none) {E20 : St → Prop} (hE20 : ∀ (st : St), E20 st → X θ κ Ph st 20 [] []) : ∀ (n : Nat) (st : St) (x0 : Nat) (x1 : Nat) (x2 : Int32), sh st x0 = 101 → x0 < gBIG → ln st x0 = 97 → sh st x1 = 101 → x1 < gBIG → ln st x1 = 97 → w_X4_move_l2 Φ E20 n st x0 x1 x2 → X θ κ Ph st 2 [(0, .ref (ad θ x0)), (1, .ref (ad θ x1)), (2, .int x2)] [] := by
  intro n
  induction n with
  | zero => intro st x0 x1 x2 hs_x0 hb_x0 hl_x0 hs_x1 hb_x1 hl_x1 h; exact h.elim
  | succ n hK2 =>
    intro st x0 x1 x2 hs_x0 hb_x0 hl_x0 hs_x1 hb_x1 hl_x1 h
    rw [w_X4_move_l2] at h
    refine X_iload_n C dX4_move_2 rfl 2 rfl ?_
    refine X_bipush (v := 97) C dX4_move_3 rfl ?_
    refine X_icmp_ge (tgt := 20) C dX4_move_5 (by decide) (fun c1 => ?_) (fun c1 => ?_)
    · have h := h.1 c1
      refine X_sub [] (lo2 := []) rfl ?_
      exact hE20 st h
    · have h := h.2 c1
      refine X_aload_n C dX4_move_8 rfl 1 rfl (isRV_r _) ?_
      refine X_iload_n C dX4_move_9 rfl 2 rfl ?_
      refine X_aload_n C dX4_move_10 rfl 0 rfl (isRV_r _) ?_
      refine X_iload_n C dX4_move_11 rfl 2 rfl ?_
      have g2 := h.1
      have h := h.2
      refine X_ialdD C hs_x0 hl_x0 g2 rfl dX4_move_12 ?_
      refine X_iastD C hb_x1 hs_x1 hl_x1 g2 rfl dX4_move_13 ?_
      refine X_nm (fun s3 e4 => ?_)
      have h := h s3 e4
      have hs_x0 : sh s3 x0 = 101 := by rw [e4]; exact hs_x0
      have hl_x0 : ln s3 x0 = 97 := by rw [e4]; exact hl_x0
      have hs_x1 : sh s3 x1 = 101 := by rw [e4]; exact hs_x1
      have hl_x1 : ln s3 x1 = 97 := by rw [e4]; exact hl_x1
      refine X_iinc (v := (x2 + 1)) C (j := 2) dX4_move_14 rfl rfl (lo2 := [(2, _), (0, _), (1, _)]) (by decide) rfl ?_
      refine X_goto (tgt := 2) C dX4_move_17 (by decide) ?_
      refine X_sub [1, 2, 0] (lo2 := [(0, _), (1, _), (2, _)]) rfl ?_
      exact hK2 s3 x0 x1 (x2 + 1) hs_x0 hb_x0 hl_x0 hs_x1 hb_x1 hl_x1 h
def w_X4_move_b20 (Φ : St → Prop) (st : St) : Prop := Φ st
theorem t_X4_move_b20 {θ : Th} {κ : Kx} {Ph : Ph} (hX : LX θ) {d : Nat} (hd : 0 ≤ d) (C : Cx θ κ yX4_move cX4_move 3 (none : Option Jvm.ClassFile.FieldType) [] d) {Φ : St → Prop} (hn : ∀ st, Φ st → Ph.1 st none) (st : St) (h : w_X4_move_b20 Φ st) : X θ κ Ph st 20 [] [] := by
  unfold w_X4_move_b20 at h
  exact X_vret C rfl dX4_move_20 (hn st h)
def w_X4_move (st : St) (p1 : Nat) (p2 : Nat) (Φ : St → Prop) : Prop := w_X4_move_l2 Φ (fun (s5 : St) => w_X4_move_b20 Φ s5) gFU st p1 p2 0
theorem nm_X4_move : yX4_move.cls ≠ "java/lang/invoke/MethodHandle" ∧ yX4_move.cls ≠ "java/lang/invoke/VarHandle" ∧ (parseMethodDescriptor yX4_move.desc).map (fun d => d.parameters.length) = some 2 := by decide +kernel
theorem e_X4_move : plainFor yX4_move = true := plainFor_of_name (by decide +kernel)
theorem m_X4_move {θ : Th} {l : Launch} (hl0 : l.stackTraces = false) (hX : LX θ) {d : Nat} (hd : 0 ≤ d) (st : St) (p1 : Nat) (p2 : Nat) (hs_p1 : sh st p1 = 101) (hb_p1 : p1 < gBIG) (hl_p1 : ln st p1 = 97) (hs_p2 : sh st p2 = 101) (hb_p2 : p2 < gBIG) (hl_p2 : ln st p2 = 97) {Φ : St → Prop} (h : w_X4_move st p1 p2 Φ) : Ct θ l yX4_move (ws_ yX4_move cX4_move 3 (none : Option Jvm.ClassFile.FieldType)) d [.ref (ad θ p1), .ref (ad θ p2)] st (pV Φ, noX) := by
  refine Ct_entry hl0 e_X4_move (Nat.le_of_ble_eq_true rfl) (fun κ hκ _ C => ?_)
  have hn : ∀ st, Φ st → ((pV Φ, noX) : Ph).1 st none := fun st q => ⟨rfl, q⟩
  change X _ _ _ _ _ [(0, .ref (ad θ p1)), (1, .ref (ad θ p2))] _
  unfold w_X4_move at h
  refine X_iconst (v := 0) C dX4_move_0 rfl ?_
  refine X_istore_n C dX4_move_1 rfl (lo2 := [(2, _), (0, _), (1, _)]) (by decide) rfl ?_
  refine X_sub [1, 2, 0] (lo2 := [(0, _), (1, _), (2, _)]) rfl ?_
  refine t_X4_move_l2 hX hd C hn ?_ gFU st p1 p2 0 hs_p1 hb_p1 hl_p1 hs_p2 hb_p2 hl_p2 h
  · intro s5 h
    exact t_X4_move_b20 hX hd C hn s5 h

def w_X4_isLetter (st0 : St) (Φ : Int32 → Prop) : Prop := (((sI st0 175 46) ≤ (sI st0 175 45)) → Φ 0) ∧ ((¬ (sI st0 175 46) ≤ (sI st0 175 45)) → vp_in (sI st0 175 45) 200 ∧ (((sI st0 182 (sI st0 175 45).toNatClampNeg) < 97) → Φ 0) ∧ ((¬ (sI st0 182 (sI st0 175 45).toNatClampNeg) < 97) → ((122 < (sI st0 182 (sI st0 175 45).toNatClampNeg)) → Φ 0) ∧ ((¬ 122 < (sI st0 182 (sI st0 175 45).toNatClampNeg)) → Φ 1)))
theorem nm_X4_isLetter : yX4_isLetter.cls ≠ "java/lang/invoke/MethodHandle" ∧ yX4_isLetter.cls ≠ "java/lang/invoke/VarHandle" ∧ (parseMethodDescriptor yX4_isLetter.desc).map (fun d => d.parameters.length) = some 0 := by decide +kernel
theorem e_X4_isLetter : plainFor yX4_isLetter = true := plainFor_of_name (by decide +kernel)
theorem m_X4_isLetter {θ : Th} {l : Launch} (hl0 : l.stackTraces = false) (hX : LX θ) {d : Nat} (hd : 0 ≤ d) (st0 : St) {Φ : Int32 → Prop} (h : w_X4_isLetter st0 Φ) : Ct θ l yX4_isLetter (ws_ yX4_isLetter cX4_isLetter 1 (some Jvm.ClassFile.FieldType.boolean)) d [.ref (ad θ 175)] st0 (rI st0 Φ, noX) := by
  refine Ct_entry hl0 e_X4_isLetter (Nat.le_of_ble_eq_true rfl) (fun κ hκ _ C => ?_)
  have hn : ∀ r, Φ r → ((rI st0 Φ, noX) : Ph).1 st0 (some (.int r)) := fun r q => ⟨r, rfl, rfl, q⟩
  change X _ _ _ _ _ [(0, .ref (ad θ 175))] _
  unfold w_X4_isLetter at h
  refine X_aload_n C dX4_isLetter_0 rfl 0 rfl (isRV_r _) ?_
  refine X_getS (ci := 4) (j := 45) (q := (RX4, TX4, 54)) C rfl (by decide) q1811 rfl dX4_isLetter_1 (LX_S hX (k := 175) rfl) (v := .int (sI st0 175 45)) rfl ?_
  refine X_aload_n C dX4_isLetter_4 rfl 0 rfl (isRV_r _) ?_
  refine X_getS (ci := 4) (j := 46) (q := (RX4, TX4, 54)) C rfl (by decide) q1812 rfl dX4_isLetter_5 (LX_S hX (k := 175) rfl) (v := .int (sI st0 175 46)) rfl ?_
  refine X_icmp_ge (tgt := 43) C dX4_isLetter_8 (by decide) (fun c1 => ?_) (fun c1 => ?_)
  · have h := h.1 c1
    refine X_iconst (v := 0) C dX4_isLetter_43 rfl ?_
    exact X_zret C rfl rfl dX4_isLetter_44 (hn _ h)
  · have h := h.2 c1
    refine X_aload_n C dX4_isLetter_11 rfl 0 rfl (isRV_r _) ?_
    refine X_getF (ci := 4) (j := 9) (q := (RX4, TX4, 54)) C rfl (by decide) q1775 rfl dX4_isLetter_12 (b := 182) (LX_S hX (k := 175) rfl) (LX_F hX (k := 175) (j := 9) rfl) rfl ?_
    refine X_aload_n C dX4_isLetter_15 rfl 0 rfl (isRV_r _) ?_
    refine X_getS (ci := 4) (j := 45) (q := (RX4, TX4, 54)) C rfl (by decide) q1811 rfl dX4_isLetter_16 (LX_S hX (k := 175) rfl) (v := .int (sI st0 175 45)) rfl ?_
    have g2 := h.1
    have h := h.2
    refine X_ialdS C (LX_S hX (k := 182) rfl) (LX_L hX (k := 182) rfl) g2 rfl dX4_isLetter_19 ?_
    refine X_bipush (v := 97) C dX4_isLetter_20 rfl ?_
    refine X_icmp_lt (tgt := 43) C dX4_isLetter_22 (by decide) (fun c3 => ?_) (fun c3 => ?_)
    · have h := h.1 c3
      refine X_iconst (v := 0) C dX4_isLetter_43 rfl ?_
      exact X_zret C rfl rfl dX4_isLetter_44 (hn _ h)
    · have h := h.2 c3
      refine X_aload_n C dX4_isLetter_25 rfl 0 rfl (isRV_r _) ?_
      refine X_getF (ci := 4) (j := 9) (q := (RX4, TX4, 54)) C rfl (by decide) q1775 rfl dX4_isLetter_26 (b := 182) (LX_S hX (k := 175) rfl) (LX_F hX (k := 175) (j := 9) rfl) rfl ?_
      refine X_aload_n C dX4_isLetter_29 rfl 0 rfl (isRV_r _) ?_
      refine X_getS (ci := 4) (j := 45) (q := (RX4, TX4, 54)) C rfl (by decide) q1811 rfl dX4_isLetter_30 (LX_S hX (k := 175) rfl) (v := .int (sI st0 175 45)) rfl ?_
      refine X_ialdS C (LX_S hX (k := 182) rfl) (LX_L hX (k := 182) rfl) g2 rfl dX4_isLetter_33 ?_
      refine X_bipush (v := 122) C dX4_isLetter_34 rfl ?_
      refine X_icmp_gt (tgt := 43) C dX4_isLetter_36 (by decide) (fun c4 => ?_) (fun c4 => ?_)
      · have h := h.1 c4
        refine X_iconst (v := 0) C dX4_isLetter_43 rfl ?_
        exact X_zret C rfl rfl dX4_isLetter_44 (hn _ h)
      · have h := h.2 c4
        refine X_iconst (v := 1) C dX4_isLetter_39 rfl ?_
        refine X_goto (tgt := 44) C dX4_isLetter_40 (by decide) ?_
        exact X_zret C rfl rfl dX4_isLetter_44 (hn _ h)

def w_X4_isDigit (st0 : St) (Φ : Int32 → Prop) : Prop := (((sI st0 175 46) ≤ (sI st0 175 45)) → Φ 0) ∧ ((¬ (sI st0 175 46) ≤ (sI st0 175 45)) → vp_in (sI st0 175 45) 200 ∧ (((sI st0 182 (sI st0 175 45).toNatClampNeg) < 48) → Φ 0) ∧ ((¬ (sI st0 182 (sI st0 175 45).toNatClampNeg) < 48) → ((57 < (sI st0 182 (sI st0 175 45).toNatClampNeg)) → Φ 0) ∧ ((¬ 57 < (sI st0 182 (sI st0 175 45).toNatClampNeg)) → Φ 1)))
theorem nm_X4_isDigit : yX4_isDigit.cls ≠ "java/lang/invoke/MethodHandle" ∧ yX4_isDigit.cls ≠ "java/lang/invoke/VarHandle" ∧ (parseMethodDescriptor yX4_isDigit.desc).map (fun d => d.parameters.length) = some 0 := by decide +kernel
theorem e_X4_isDigit : plainFor yX4_isDigit = true := plainFor_of_name (by decide +kernel)
theorem m_X4_isDigit {θ : Th} {l : Launch} (hl0 : l.stackTraces = false) (hX : LX θ) {d : Nat} (hd : 0 ≤ d) (st0 : St) {Φ : Int32 → Prop} (h : w_X4_isDigit st0 Φ) : Ct θ l yX4_isDigit (ws_ yX4_isDigit cX4_isDigit 1 (some Jvm.ClassFile.FieldType.boolean)) d [.ref (ad θ 175)] st0 (rI st0 Φ, noX) := by
  refine Ct_entry hl0 e_X4_isDigit (Nat.le_of_ble_eq_true rfl) (fun κ hκ _ C => ?_)
  have hn : ∀ r, Φ r → ((rI st0 Φ, noX) : Ph).1 st0 (some (.int r)) := fun r q => ⟨r, rfl, rfl, q⟩
  change X _ _ _ _ _ [(0, .ref (ad θ 175))] _
  unfold w_X4_isDigit at h
  refine X_aload_n C dX4_isDigit_0 rfl 0 rfl (isRV_r _) ?_
  refine X_getS (ci := 4) (j := 45) (q := (RX4, TX4, 54)) C rfl (by decide) q1811 rfl dX4_isDigit_1 (LX_S hX (k := 175) rfl) (v := .int (sI st0 175 45)) rfl ?_
  refine X_aload_n C dX4_isDigit_4 rfl 0 rfl (isRV_r _) ?_
  refine X_getS (ci := 4) (j := 46) (q := (RX4, TX4, 54)) C rfl (by decide) q1812 rfl dX4_isDigit_5 (LX_S hX (k := 175) rfl) (v := .int (sI st0 175 46)) rfl ?_
  refine X_icmp_ge (tgt := 43) C dX4_isDigit_8 (by decide) (fun c1 => ?_) (fun c1 => ?_)
  · have h := h.1 c1
    refine X_iconst (v := 0) C dX4_isDigit_43 rfl ?_
    exact X_zret C rfl rfl dX4_isDigit_44 (hn _ h)
  · have h := h.2 c1
    refine X_aload_n C dX4_isDigit_11 rfl 0 rfl (isRV_r _) ?_
    refine X_getF (ci := 4) (j := 9) (q := (RX4, TX4, 54)) C rfl (by decide) q1775 rfl dX4_isDigit_12 (b := 182) (LX_S hX (k := 175) rfl) (LX_F hX (k := 175) (j := 9) rfl) rfl ?_
    refine X_aload_n C dX4_isDigit_15 rfl 0 rfl (isRV_r _) ?_
    refine X_getS (ci := 4) (j := 45) (q := (RX4, TX4, 54)) C rfl (by decide) q1811 rfl dX4_isDigit_16 (LX_S hX (k := 175) rfl) (v := .int (sI st0 175 45)) rfl ?_
    have g2 := h.1
    have h := h.2
    refine X_ialdS C (LX_S hX (k := 182) rfl) (LX_L hX (k := 182) rfl) g2 rfl dX4_isDigit_19 ?_
    refine X_bipush (v := 48) C dX4_isDigit_20 rfl ?_
    refine X_icmp_lt (tgt := 43) C dX4_isDigit_22 (by decide) (fun c3 => ?_) (fun c3 => ?_)
    · have h := h.1 c3
      refine X_iconst (v := 0) C dX4_isDigit_43 rfl ?_
      exact X_zret C rfl rfl dX4_isDigit_44 (hn _ h)
    · have h := h.2 c3
      refine X_aload_n C dX4_isDigit_25 rfl 0 rfl (isRV_r _) ?_
      refine X_getF (ci := 4) (j := 9) (q := (RX4, TX4, 54)) C rfl (by decide) q1775 rfl dX4_isDigit_26 (b := 182) (LX_S hX (k := 175) rfl) (LX_F hX (k := 175) (j := 9) rfl) rfl ?_
      refine X_aload_n C dX4_isDigit_29 rfl 0 rfl (isRV_r _) ?_
      refine X_getS (ci := 4) (j := 45) (q := (RX4, TX4, 54)) C rfl (by decide) q1811 rfl dX4_isDigit_30 (LX_S hX (k := 175) rfl) (v := .int (sI st0 175 45)) rfl ?_
      refine X_ialdS C (LX_S hX (k := 182) rfl) (LX_L hX (k := 182) rfl) g2 rfl dX4_isDigit_33 ?_
      refine X_bipush (v := 57) C dX4_isDigit_34 rfl ?_
      refine X_icmp_gt (tgt := 43) C dX4_isDigit_36 (by decide) (fun c4 => ?_) (fun c4 => ?_)
      · have h := h.1 c4
        refine X_iconst (v := 0) C dX4_isDigit_43 rfl ?_
        exact X_zret C rfl rfl dX4_isDigit_44 (hn _ h)
      · have h := h.2 c4
        refine X_iconst (v := 1) C dX4_isDigit_39 rfl ?_
        refine X_goto (tgt := 44) C dX4_isDigit_40 (by decide) ?_
        exact X_zret C rfl rfl dX4_isDigit_44 (hn _ h)

def w_X4_fails_b19 (Φ : St → Prop) (st : St) (z0 : Int32) : Prop := ∀ s2, s2 = putI st 175 50 z0 → Φ s2
theorem t_X4_fails_b19 {θ : Th} {κ : Kx} {Ph : Ph} (hX : LX θ) {d : Nat} (hd : 0 ≤ d) (C : Cx θ κ yX4_fails cX4_fails 1 (none : Option Jvm.ClassFile.FieldType) [] d) {Φ : St → Prop} (hn : ∀ st, Φ st → Ph.1 st none) (st : St) (z0 : Int32) (h : w_X4_fails_b19 Φ st z0) : X θ κ Ph st 19 [] [.int z0, .ref (ad θ 175)] := by
  unfold w_X4_fails_b19 at h
  refine X_putSI (ci := 4) (j := 50) (q := (RX4, TX4, 54)) C rfl (by decide) q1816 rfl rfl dX4_fails_19 (LX_S hX (k := 175) rfl) rfl rfl rfl ?_
  refine X_nm (fun s2 e3 => ?_)
  have h := h s2 e3
  exact X_vret C rfl dX4_fails_22 (hn s2 h)
def w_X4_fails (st : St) (Φ : St → Prop) : Prop := ((0 ≤ (sI st 175 50)) → w_X4_fails_b19 Φ st (sI st 175 50)) ∧ ((¬ 0 ≤ (sI st 175 50)) → w_X4_fails_b19 Φ st (sI st 175 47))
theorem nm_X4_fails : yX4_fails.cls ≠ "java/lang/invoke/MethodHandle" ∧ yX4_fails.cls ≠ "java/lang/invoke/VarHandle" ∧ (parseMethodDescriptor yX4_fails.desc).map (fun d => d.parameters.length) = some 0 := by decide +kernel
theorem e_X4_fails : plainFor yX4_fails = true := plainFor_of_name (by decide +kernel)
theorem m_X4_fails {θ : Th} {l : Launch} (hl0 : l.stackTraces = false) (hX : LX θ) {d : Nat} (hd : 0 ≤ d) (st : St) {Φ : St → Prop} (h : w_X4_fails st Φ) : Ct θ l yX4_fails (ws_ yX4_fails cX4_fails 1 (none : Option Jvm.ClassFile.FieldType)) d [.ref (ad θ 175)] st (pV Φ, noX) := by
  refine Ct_entry hl0 e_X4_fails (Nat.le_of_ble_eq_true rfl) (fun κ hκ _ C => ?_)
  have hn : ∀ st, Φ st → ((pV Φ, noX) : Ph).1 st none := fun st q => ⟨rfl, q⟩
  change X _ _ _ _ _ [(0, .ref (ad θ 175))] _
  unfold w_X4_fails at h
  refine X_aload_n C dX4_fails_0 rfl 0 rfl (isRV_r _) ?_
  refine X_aload_n C dX4_fails_1 rfl 0 rfl (isRV_r _) ?_
  refine X_getS (ci := 4) (j := 50) (q := (RX4, TX4, 54)) C rfl (by decide) q1816 rfl dX4_fails_2 (LX_S hX (k := 175) rfl) (v := .int (sI st 175 50)) rfl ?_
  refine X_if_ge (tgt := 15) C dX4_fails_5 (by decide) (fun c1 => ?_) (fun c1 => ?_)
  · have h := h.1 c1
    refine X_aload_n C dX4_fails_15 rfl 0 rfl (isRV_r _) ?_
    refine X_getS (ci := 4) (j := 50) (q := (RX4, TX4, 54)) C rfl (by decide) q1816 rfl dX4_fails_16 (LX_S hX (k := 175) rfl) (v := .int (sI st 175 50)) rfl ?_
    refine X_sub [] (lo2 := []) rfl ?_
    exact t_X4_fails_b19 hX hd C hn st (sI st 175 50) h
  · have h := h.2 c1
    refine X_aload_n C dX4_fails_8 rfl 0 rfl (isRV_r _) ?_
    refine X_getS (ci := 4) (j := 47) (q := (RX4, TX4, 54)) C rfl (by decide) q1813 rfl dX4_fails_9 (LX_S hX (k := 175) rfl) (v := .int (sI st 175 47)) rfl ?_
    refine X_goto (tgt := 19) C dX4_fails_12 (by decide) ?_
    refine X_sub [] (lo2 := []) rfl ?_
    exact t_X4_fails_b19 hX hd C hn st (sI st 175 47) h

def w_X4_goesOn_b39 (Φ : St → Prop) (K0 : St → Prop) (st : St) : Prop := ∀ s4, s4 = putI st 175 45 ((sI st 175 45) + 1) → K0 s4
theorem t_X4_goesOn_b39 {θ : Th} {κ : Kx} {Ph : Ph} (hX : LX θ) {d : Nat} (hd : 1 ≤ d) (C : Cx θ κ yX4_goesOn cX4_goesOn 2 (none : Option Jvm.ClassFile.FieldType) [] d) {Φ : St → Prop} (hn : ∀ st, Φ st → Ph.1 st none) {K0 : St → Prop} (hK0 : ∀ (st : St), K0 st → X θ κ Ph st 0 [(0, .ref (ad θ 175))] []) (st : St) (h : w_X4_goesOn_b39 Φ K0 st) : X θ κ Ph st 39 [(0, .ref (ad θ 175))] [] := by
  unfold w_X4_goesOn_b39 at h
  refine X_aload_n C dX4_goesOn_39 rfl 0 rfl (isRV_r _) ?_
  refine X_dup C dX4_goesOn_40 rfl ?_
  refine X_getS (ci := 4) (j := 45) (q := (RX4, TX4, 54)) C rfl (by decide) q1811 rfl dX4_goesOn_41 (LX_S hX (k := 175) rfl) (v := .int (sI st 175 45)) rfl ?_
  refine X_iconst (v := 1) C dX4_goesOn_44 rfl ?_
  refine X_iadd C dX4_goesOn_45 ?_
  refine X_putSI (ci := 4) (j := 45) (q := (RX4, TX4, 54)) C rfl (by decide) q1811 rfl rfl dX4_goesOn_46 (LX_S hX (k := 175) rfl) rfl rfl rfl ?_
  refine X_nm (fun s4 e5 => ?_)
  have h := h s4 e5
  refine X_goto (tgt := 0) C dX4_goesOn_49 (by decide) ?_
  exact hK0 s4 h
def w_X4_goesOn_l0 (Φ : St → Prop) (E52 : St → Prop) : Nat → St → Prop
  | 0, _ => False
  | n + 1, st => (((sI st 175 46) ≤ (sI st 175 45)) → E52 st) ∧ ((¬ (sI st 175 46) ≤ (sI st 175 45)) → vp_in (sI st 175 45) 200 ∧ (((sI st 182 (sI st 175 45).toNatClampNeg) = 32) → w_X4_goesOn_b39 Φ (w_X4_goesOn_l0 Φ E52 n) st) ∧ ((¬ (sI st 182 (sI st 175 45).toNatClampNeg) = 32) → (((sI st 182 (sI st 175 45).toNatClampNeg) ≠ 10) → E52 st) ∧ (((sI st 182 (sI st 175 45).toNatClampNeg) = 10) → w_X4_goesOn_b39 Φ (w_X4_goesOn_l0 Φ E52 n) st)))
theorem t_X4_goesOn_l0 {θ : Th} {κ : Kx} {Ph : Ph} (hX : LX θ) {d : Nat} (hd : 1 ≤ d) (C : Cx θ κ yX4_goesOn cX4_goesOn 2 (none : Option Jvm.ClassFile.FieldType) [] d) {Φ : St → Prop} (hn : ∀ st, Φ st → Ph.1 st none) {E52 : St → Prop} (hE52 : ∀ (st : St), E52 st → X θ κ Ph st 52 [(0, .ref (ad θ 175))] []) : ∀ (n : Nat) (st : St), w_X4_goesOn_l0 Φ E52 n st → X θ κ Ph st 0 [(0, .ref (ad θ 175))] [] := by
  intro n
  induction n with
  | zero => intro st h; exact h.elim
  | succ n hK0 =>
    intro st h
    rw [w_X4_goesOn_l0] at h
    refine X_aload_n C dX4_goesOn_0 rfl 0 rfl (isRV_r _) ?_
    refine X_getS (ci := 4) (j := 45) (q := (RX4, TX4, 54)) C rfl (by decide) q1811 rfl dX4_goesOn_1 (LX_S hX (k := 175) rfl) (v := .int (sI st 175 45)) rfl ?_
    refine X_aload_n C dX4_goesOn_4 rfl 0 rfl (isRV_r _) ?_
    refine X_getS (ci := 4) (j := 46) (q := (RX4, TX4, 54)) C rfl (by decide) q1812 rfl dX4_goesOn_5 (LX_S hX (k := 175) rfl) (v := .int (sI st 175 46)) rfl ?_
    refine X_icmp_ge (tgt := 52) C dX4_goesOn_8 (by decide) (fun c1 => ?_) (fun c1 => ?_)
    · have h := h.1 c1
      exact hE52 st h
    · have h := h.2 c1
      refine X_aload_n C dX4_goesOn_11 rfl 0 rfl (isRV_r _) ?_
      refine X_getF (ci := 4) (j := 9) (q := (RX4, TX4, 54)) C rfl (by decide) q1775 rfl dX4_goesOn_12 (b := 182) (LX_S hX (k := 175) rfl) (LX_F hX (k := 175) (j := 9) rfl) rfl ?_
      refine X_aload_n C dX4_goesOn_15 rfl 0 rfl (isRV_r _) ?_
      refine X_getS (ci := 4) (j := 45) (q := (RX4, TX4, 54)) C rfl (by decide) q1811 rfl dX4_goesOn_16 (LX_S hX (k := 175) rfl) (v := .int (sI st 175 45)) rfl ?_
      have g2 := h.1
      have h := h.2
      refine X_ialdS C (LX_S hX (k := 182) rfl) (LX_L hX (k := 182) rfl) g2 rfl dX4_goesOn_19 ?_
      refine X_bipush (v := 32) C dX4_goesOn_20 rfl ?_
      refine X_icmp_eq (tgt := 39) C dX4_goesOn_22 (by decide) (fun c3 => ?_) (fun c3 => ?_)
      · have h := h.1 c3
        exact t_X4_goesOn_b39 hX hd C hn hK0 st h
      · have h := h.2 c3
        refine X_aload_n C dX4_goesOn_25 rfl 0 rfl (isRV_r _) ?_
        refine X_getF (ci := 4) (j := 9) (q := (RX4, TX4, 54)) C rfl (by decide) q1775 rfl dX4_goesOn_26 (b := 182) (LX_S hX (k := 175) rfl) (LX_F hX (k := 175) (j := 9) rfl) rfl ?_
        refine X_aload_n C dX4_goesOn_29 rfl 0 rfl (isRV_r _) ?_
        refine X_getS (ci := 4) (j := 45) (q := (RX4, TX4, 54)) C rfl (by decide) q1811 rfl dX4_goesOn_30 (LX_S hX (k := 175) rfl) (v := .int (sI st 175 45)) rfl ?_
        refine X_ialdS C (LX_S hX (k := 182) rfl) (LX_L hX (k := 182) rfl) g2 rfl dX4_goesOn_33 ?_
        refine X_bipush (v := 10) C dX4_goesOn_34 rfl ?_
        refine X_icmp_ne (tgt := 52) C dX4_goesOn_36 (by decide) (fun c6 => ?_) (fun c6 => ?_)
        · have h := h.1 c6
          exact hE52 st h
        · have h := h.2 c6
          exact t_X4_goesOn_b39 hX hd C hn hK0 st h
def w_X4_goesOn_b307 (Φ : St → Prop) (st : St) (z0 : Int32) : Prop := ((z0 ≠ 0) → Φ st) ∧ ((z0 = 0) → w_X4_fails st (fun (s39 : St) => Φ s39))
theorem t_X4_goesOn_b307 {θ : Th} {κ : Kx} {Ph : Ph} (hX : LX θ) {d : Nat} (hd : 1 ≤ d) (C : Cx θ κ yX4_goesOn cX4_goesOn 2 (none : Option Jvm.ClassFile.FieldType) [] d) {Φ : St → Prop} (hn : ∀ st, Φ st → Ph.1 st none) (st : St) (z0 : Int32) (h : w_X4_goesOn_b307 Φ st z0) : X θ κ Ph st 307 [(0, .ref (ad θ 175))] [.int z0] := by
  unfold w_X4_goesOn_b307 at h
  refine X_istore_n C dX4_goesOn_307 rfl (lo2 := [(1, _), (0, _)]) (by decide) rfl ?_
  refine X_iload_n C dX4_goesOn_308 rfl 0 rfl ?_
  refine X_if_ne (tgt := 316) C dX4_goesOn_309 (by decide) (fun c37 => ?_) (fun c37 => ?_)
  · have h := h.1 c37
    exact X_vret C rfl dX4_goesOn_316 (hn st h)
  · have h := h.2 c37
    refine X_aload_n C dX4_goesOn_312 rfl 1 rfl (isRV_r _) ?_
    refine X_callVS (ci := 4) (q := (RX4, TX4, 54)) (As := []) (rest := []) C rfl (LX_S hX (k := 175) rfl) q2237 q2239 qs106 q136 q2240 ⟨rfl, nm_X4_fails⟩ rfl dX4_goesOn_313 (m_X4_fails (Cx_l C) hX (d := d - 1) (by omega) st h) (by omega) (by decide) (Nat.le_of_ble_eq_true rfl) (fun s39 w40 hE41 hP42 => ?_) (fun s45 E43 q44 hE41 hP42 => ?_)
    rotate_left
    · exact False.elim hP42
    obtain ⟨rfl, h⟩ := hP42
    refine X_tln ?_
    exact X_vret C rfl dX4_goesOn_316 (hn s39 h)
def w_X4_goesOn_b302 (Φ : St → Prop) (st : St) : Prop := w_X4_goesOn_b307 Φ st 1
theorem t_X4_goesOn_b302 {θ : Th} {κ : Kx} {Ph : Ph} (hX : LX θ) {d : Nat} (hd : 1 ≤ d) (C : Cx θ κ yX4_goesOn cX4_goesOn 2 (none : Option Jvm.ClassFile.FieldType) [] d) {Φ : St → Prop} (hn : ∀ st, Φ st → Ph.1 st none) (st : St) (h : w_X4_goesOn_b302 Φ st) : X θ κ Ph st 302 [(0, .ref (ad θ 175))] [] := by
  unfold w_X4_goesOn_b302 at h
  refine X_iconst (v := 1) C dX4_goesOn_302 rfl ?_
  refine X_goto (tgt := 307) C dX4_goesOn_303 (by decide) ?_
  exact t_X4_goesOn_b307 hX hd C hn st 1 h
def w_X4_goesOn_b193 (Φ : St → Prop) (K145 : St → Prop) (st : St) (z0 : Int32) : Prop := ∀ s64, s64 = putI st 175 49 z0 → ∀ s66, s66 = putI s64 175 45 ((sI s64 175 45) + 1) → K145 s66
theorem t_X4_goesOn_b193 {θ : Th} {κ : Kx} {Ph : Ph} (hX : LX θ) {d : Nat} (hd : 1 ≤ d) (C : Cx θ κ yX4_goesOn cX4_goesOn 2 (none : Option Jvm.ClassFile.FieldType) [] d) {Φ : St → Prop} (hn : ∀ st, Φ st → Ph.1 st none) {K145 : St → Prop} (hK145 : ∀ (st : St), K145 st → X θ κ Ph st 145 [(0, .ref (ad θ 175))] []) (st : St) (z0 : Int32) (h : w_X4_goesOn_b193 Φ K145 st z0) : X θ κ Ph st 193 [(0, .ref (ad θ 175))] [.int z0, .ref (ad θ 175)] := by
  unfold w_X4_goesOn_b193 at h
  refine X_putSI (ci := 4) (j := 49) (q := (RX4, TX4, 54)) C rfl (by decide) q1815 rfl rfl dX4_goesOn_193 (LX_S hX (k := 175) rfl) rfl rfl rfl ?_
  refine X_nm (fun s64 e65 => ?_)
  have h := h s64 e65
  refine X_aload_n C dX4_goesOn_196 rfl 0 rfl (isRV_r _) ?_
  refine X_dup C dX4_goesOn_197 rfl ?_
  refine X_getS (ci := 4) (j := 45) (q := (RX4, TX4, 54)) C rfl (by decide) q1811 rfl dX4_goesOn_198 (LX_S hX (k := 175) rfl) (v := .int (sI s64 175 45)) rfl ?_
  refine X_iconst (v := 1) C dX4_goesOn_201 rfl ?_
  refine X_iadd C dX4_goesOn_202 ?_
  refine X_putSI (ci := 4) (j := 45) (q := (RX4, TX4, 54)) C rfl (by decide) q1811 rfl rfl dX4_goesOn_203 (LX_S hX (k := 175) rfl) rfl rfl rfl ?_
  refine X_nm (fun s66 e67 => ?_)
  have h := h s66 e67
  refine X_goto (tgt := 145) C dX4_goesOn_206 (by decide) ?_
  exact hK145 s66 h
def w_X4_goesOn_l145 (Φ : St → Prop) (E209 : St → Prop) : Nat → St → Prop
  | 0, _ => False
  | n + 1, st => w_X4_isDigit st (fun (r54 : Int32) => ((r54 = 0) → E209 st) ∧ ((¬ r54 = 0) → ((4 ≤ ((sI st 175 45) - (sI st 175 47))) → w_X4_goesOn_b193 Φ (w_X4_goesOn_l145 Φ E209 n) st (sI st 175 49)) ∧ ((¬ 4 ≤ ((sI st 175 45) - (sI st 175 47))) → vp_in (sI st 175 45) 200 ∧ w_X4_goesOn_b193 Φ (w_X4_goesOn_l145 Φ E209 n) st (((10 * (sI st 175 49)) + (sI st 182 (sI st 175 45).toNatClampNeg)) - 48))))
theorem t_X4_goesOn_l145 {θ : Th} {κ : Kx} {Ph : Ph} (hX : LX θ) {d : Nat} (hd : 1 ≤ d) (C : Cx θ κ yX4_goesOn cX4_goesOn 2 (none : Option Jvm.ClassFile.FieldType) [] d) {Φ : St → Prop} (hn : ∀ st, Φ st → Ph.1 st none) {E209 : St → Prop} (hE209 : ∀ (st : St), E209 st → X θ κ Ph st 209 [(0, .ref (ad θ 175))] []) : ∀ (n : Nat) (st : St), w_X4_goesOn_l145 Φ E209 n st → X θ κ Ph st 145 [(0, .ref (ad θ 175))] [] := by
  intro n
  induction n with
  | zero => intro st h; exact h.elim
  | succ n hK145 =>
    intro st h
    rw [w_X4_goesOn_l145] at h
    refine X_aload_n C dX4_goesOn_145 rfl 0 rfl (isRV_r _) ?_
    refine X_callVS (ci := 4) (q := (RX4, TX4, 54)) (As := []) (rest := []) C rfl (LX_S hX (k := 175) rfl) q2233 q2235 qs105 q136 q2236 ⟨rfl, nm_X4_isDigit⟩ rfl dX4_goesOn_146 (m_X4_isDigit (Cx_l C) hX (d := d - 1) (by omega) st h) (by omega) (by decide) (Nat.le_of_ble_eq_true rfl) (fun s60 w55 hE56 hP57 => ?_) (fun s61 E58 q59 hE56 hP57 => ?_)
    rotate_left
    · exact False.elim hP57
    obtain ⟨r54, rfl, rfl, h⟩ := hP57
    refine X_tls ?_
    refine X_if_eq (tgt := 209) C dX4_goesOn_149 (by decide) (fun c62 => ?_) (fun c62 => ?_)
    · have h := h.1 c62
      exact hE209 st h
    · have h := h.2 c62
      refine X_aload_n C dX4_goesOn_152 rfl 0 rfl (isRV_r _) ?_
      refine X_aload_n C dX4_goesOn_153 rfl 0 rfl (isRV_r _) ?_
      refine X_getS (ci := 4) (j := 45) (q := (RX4, TX4, 54)) C rfl (by decide) q1811 rfl dX4_goesOn_154 (LX_S hX (k := 175) rfl) (v := .int (sI st 175 45)) rfl ?_
      refine X_aload_n C dX4_goesOn_157 rfl 0 rfl (isRV_r _) ?_
      refine X_getS (ci := 4) (j := 47) (q := (RX4, TX4, 54)) C rfl (by decide) q1813 rfl dX4_goesOn_158 (LX_S hX (k := 175) rfl) (v := .int (sI st 175 47)) rfl ?_
      refine X_isub C dX4_goesOn_161 ?_
      refine X_iconst (v := 4) C dX4_goesOn_162 rfl ?_
      refine X_icmp_ge (tgt := 189) C dX4_goesOn_163 (by decide) (fun c63 => ?_) (fun c63 => ?_)
      · have h := h.1 c63
        refine X_aload_n C dX4_goesOn_189 rfl 0 rfl (isRV_r _) ?_
        refine X_getS (ci := 4) (j := 49) (q := (RX4, TX4, 54)) C rfl (by decide) q1815 rfl dX4_goesOn_190 (LX_S hX (k := 175) rfl) (v := .int (sI st 175 49)) rfl ?_
        exact t_X4_goesOn_b193 hX hd C hn hK145 st (sI st 175 49) h
      · have h := h.2 c63
        refine X_bipush (v := 10) C dX4_goesOn_166 rfl ?_
        refine X_aload_n C dX4_goesOn_168 rfl 0 rfl (isRV_r _) ?_
        refine X_getS (ci := 4) (j := 49) (q := (RX4, TX4, 54)) C rfl (by decide) q1815 rfl dX4_goesOn_169 (LX_S hX (k := 175) rfl) (v := .int (sI st 175 49)) rfl ?_
        refine X_imul C dX4_goesOn_172 ?_
        refine X_aload_n C dX4_goesOn_173 rfl 0 rfl (isRV_r _) ?_
        refine X_getF (ci := 4) (j := 9) (q := (RX4, TX4, 54)) C rfl (by decide) q1775 rfl dX4_goesOn_174 (b := 182) (LX_S hX (k := 175) rfl) (LX_F hX (k := 175) (j := 9) rfl) rfl ?_
        refine X_aload_n C dX4_goesOn_177 rfl 0 rfl (isRV_r _) ?_
        refine X_getS (ci := 4) (j := 45) (q := (RX4, TX4, 54)) C rfl (by decide) q1811 rfl dX4_goesOn_178 (LX_S hX (k := 175) rfl) (v := .int (sI st 175 45)) rfl ?_
        have g68 := h.1
        have h := h.2
        refine X_ialdS C (LX_S hX (k := 182) rfl) (LX_L hX (k := 182) rfl) g68 rfl dX4_goesOn_181 ?_
        refine X_iadd C dX4_goesOn_182 ?_
        refine X_bipush (v := 48) C dX4_goesOn_183 rfl ?_
        refine X_isub C dX4_goesOn_185 ?_
        refine X_goto (tgt := 193) C dX4_goesOn_186 (by decide) ?_
        exact t_X4_goesOn_b193 hX hd C hn hK145 st (((10 * (sI st 175 49)) + (sI st 182 (sI st 175 45).toNatClampNeg)) - 48) h
def w_X4_goesOn_b209 (Φ : St → Prop) (st : St) : Prop := ((((sI st 175 45) - (sI st 175 47)) ≤ 4) → Φ st) ∧ ((¬ ((sI st 175 45) - (sI st 175 47)) ≤ 4) → w_X4_fails st (fun (s72 : St) => Φ s72))
theorem t_X4_goesOn_b209 {θ : Th} {κ : Kx} {Ph : Ph} (hX : LX θ) {d : Nat} (hd : 1 ≤ d) (C : Cx θ κ yX4_goesOn cX4_goesOn 2 (none : Option Jvm.ClassFile.FieldType) [] d) {Φ : St → Prop} (hn : ∀ st, Φ st → Ph.1 st none) (st : St) (h : w_X4_goesOn_b209 Φ st) : X θ κ Ph st 209 [(0, .ref (ad θ 175))] [] := by
  unfold w_X4_goesOn_b209 at h
  refine X_aload_n C dX4_goesOn_209 rfl 0 rfl (isRV_r _) ?_
  refine X_getS (ci := 4) (j := 45) (q := (RX4, TX4, 54)) C rfl (by decide) q1811 rfl dX4_goesOn_210 (LX_S hX (k := 175) rfl) (v := .int (sI st 175 45)) rfl ?_
  refine X_aload_n C dX4_goesOn_213 rfl 0 rfl (isRV_r _) ?_
  refine X_getS (ci := 4) (j := 47) (q := (RX4, TX4, 54)) C rfl (by decide) q1813 rfl dX4_goesOn_214 (LX_S hX (k := 175) rfl) (v := .int (sI st 175 47)) rfl ?_
  refine X_isub C dX4_goesOn_217 ?_
  refine X_iconst (v := 4) C dX4_goesOn_218 rfl ?_
  refine X_icmp_le (tgt := 316) C dX4_goesOn_219 (by decide) (fun c70 => ?_) (fun c70 => ?_)
  · have h := h.1 c70
    exact X_vret C rfl dX4_goesOn_316 (hn st h)
  · have h := h.2 c70
    refine X_aload_n C dX4_goesOn_222 rfl 0 rfl (isRV_r _) ?_
    refine X_callVS (ci := 4) (q := (RX4, TX4, 54)) (As := []) (rest := []) C rfl (LX_S hX (k := 175) rfl) q2237 q2239 qs106 q136 q2240 ⟨rfl, nm_X4_fails⟩ rfl dX4_goesOn_223 (m_X4_fails (Cx_l C) hX (d := d - 1) (by omega) st h) (by omega) (by decide) (Nat.le_of_ble_eq_true rfl) (fun s72 w73 hE74 hP75 => ?_) (fun s78 E76 q77 hE74 hP75 => ?_)
    rotate_left
    · exact False.elim hP75
    obtain ⟨rfl, h⟩ := hP75
    refine X_tln ?_
    refine X_goto (tgt := 316) C dX4_goesOn_226 (by decide) ?_
    exact X_vret C rfl dX4_goesOn_316 (hn s72 h)
def w_X4_goesOn_l97 (Φ : St → Prop) (E117 : St → Prop) : Nat → St → Prop
  | 0, _ => False
  | n + 1, st => w_X4_isLetter st (fun (r83 : Int32) => ((r83 = 0) → E117 st) ∧ ((¬ r83 = 0) → ∀ s92, s92 = putI st 175 45 ((sI st 175 45) + 1) → w_X4_goesOn_l97 Φ E117 n s92))
theorem t_X4_goesOn_l97 {θ : Th} {κ : Kx} {Ph : Ph} (hX : LX θ) {d : Nat} (hd : 1 ≤ d) (C : Cx θ κ yX4_goesOn cX4_goesOn 2 (none : Option Jvm.ClassFile.FieldType) [] d) {Φ : St → Prop} (hn : ∀ st, Φ st → Ph.1 st none) {E117 : St → Prop} (hE117 : ∀ (st : St), E117 st → X θ κ Ph st 117 [(0, .ref (ad θ 175))] []) : ∀ (n : Nat) (st : St), w_X4_goesOn_l97 Φ E117 n st → X θ κ Ph st 97 [(0, .ref (ad θ 175))] [] := by
  intro n
  induction n with
  | zero => intro st h; exact h.elim
  | succ n hK97 =>
    intro st h
    rw [w_X4_goesOn_l97] at h
    refine X_aload_n C dX4_goesOn_97 rfl 0 rfl (isRV_r _) ?_
    refine X_callVS (ci := 4) (q := (RX4, TX4, 54)) (As := []) (rest := []) C rfl (LX_S hX (k := 175) rfl) q2229 q2231 qs104 q136 q2232 ⟨rfl, nm_X4_isLetter⟩ rfl dX4_goesOn_98 (m_X4_isLetter (Cx_l C) hX (d := d - 1) (by omega) st h) (by omega) (by decide) (Nat.le_of_ble_eq_true rfl) (fun s89 w84 hE85 hP86 => ?_) (fun s90 E87 q88 hE85 hP86 => ?_)
    rotate_left
    · exact False.elim hP86
    obtain ⟨r83, rfl, rfl, h⟩ := hP86
    refine X_tls ?_
    refine X_if_eq (tgt := 117) C dX4_goesOn_101 (by decide) (fun c91 => ?_) (fun c91 => ?_)
    · have h := h.1 c91
      exact hE117 st h
    · have h := h.2 c91
      refine X_aload_n C dX4_goesOn_104 rfl 0 rfl (isRV_r _) ?_
      refine X_dup C dX4_goesOn_105 rfl ?_
      refine X_getS (ci := 4) (j := 45) (q := (RX4, TX4, 54)) C rfl (by decide) q1811 rfl dX4_goesOn_106 (LX_S hX (k := 175) rfl) (v := .int (sI st 175 45)) rfl ?_
      refine X_iconst (v := 1) C dX4_goesOn_109 rfl ?_
      refine X_iadd C dX4_goesOn_110 ?_
      refine X_putSI (ci := 4) (j := 45) (q := (RX4, TX4, 54)) C rfl (by decide) q1811 rfl rfl dX4_goesOn_111 (LX_S hX (k := 175) rfl) rfl rfl rfl ?_
      refine X_nm (fun s92 e93 => ?_)
      have h := h s92 e93
      refine X_goto (tgt := 97) C dX4_goesOn_114 (by decide) ?_
      exact hK97 s92 h
def w_X4_goesOn_b117 (Φ : St → Prop) (st : St) : Prop := ∀ s95, s95 = putI st 175 52 (sI st 175 45) → Φ s95
theorem t_X4_goesOn_b117 {θ : Th} {κ : Kx} {Ph : Ph} (hX : LX θ) {d : Nat} (hd : 1 ≤ d) (C : Cx θ κ yX4_goesOn cX4_goesOn 2 (none : Option Jvm.ClassFile.FieldType) [] d) {Φ : St → Prop} (hn : ∀ st, Φ st → Ph.1 st none) (st : St) (h : w_X4_goesOn_b117 Φ st) : X θ κ Ph st 117 [(0, .ref (ad θ 175))] [] := by
  unfold w_X4_goesOn_b117 at h
  refine X_aload_n C dX4_goesOn_117 rfl 0 rfl (isRV_r _) ?_
  refine X_aload_n C dX4_goesOn_118 rfl 0 rfl (isRV_r _) ?_
  refine X_getS (ci := 4) (j := 45) (q := (RX4, TX4, 54)) C rfl (by decide) q1811 rfl dX4_goesOn_119 (LX_S hX (k := 175) rfl) (v := .int (sI st 175 45)) rfl ?_
  refine X_putSI (ci := 4) (j := 52) (q := (RX4, TX4, 54)) C rfl (by decide) q1818 rfl rfl dX4_goesOn_122 (LX_S hX (k := 175) rfl) rfl rfl rfl ?_
  refine X_nm (fun s95 e96 => ?_)
  have h := h s95 e96
  refine X_goto (tgt := 316) C dX4_goesOn_125 (by decide) ?_
  exact X_vret C rfl dX4_goesOn_316 (hn s95 h)
def w_X4_goesOn_b52 (Φ : St → Prop) (st : St) : Prop := ∀ s8, s8 = putI st 175 47 (sI st 175 45) → (((sI s8 175 45) ≠ (sI s8 175 46)) → w_X4_isLetter s8 (fun (r11 : Int32) => ((r11 = 0) → w_X4_isDigit s8 (fun (r20 : Int32) => ((r20 = 0) → ∀ s29, s29 = putI s8 175 48 3 → vp_in (sI s29 175 45) 200 ∧ ∀ s32, s32 = putI s29 175 49 (sI s29 182 (sI s29 175 45).toNatClampNeg) → ∀ s34, s34 = putI s32 175 45 ((sI s32 175 45) + 1) → (((sI s34 175 49) = 59) → w_X4_goesOn_b302 Φ s34) ∧ ((¬ (sI s34 175 49) = 59) → (((sI s34 175 49) = 44) → w_X4_goesOn_b302 Φ s34) ∧ ((¬ (sI s34 175 49) = 44) → (((sI s34 175 49) = 91) → w_X4_goesOn_b302 Φ s34) ∧ ((¬ (sI s34 175 49) = 91) → (((sI s34 175 49) = 93) → w_X4_goesOn_b302 Φ s34) ∧ ((¬ (sI s34 175 49) = 93) → (((sI s34 175 49) ≠ 45) → w_X4_goesOn_b307 Φ s34 0) ∧ (((sI s34 175 49) = 45) → w_X4_goesOn_b302 Φ s34)))))) ∧ ((¬ r20 = 0) → ∀ s50, s50 = putI s8 175 48 2 → ∀ s52, s52 = putI s50 175 49 0 → w_X4_goesOn_l145 Φ (fun (s69 : St) => w_X4_goesOn_b209 Φ s69) gFU s52))) ∧ ((¬ r11 = 0) → ∀ s79, s79 = putI s8 175 48 1 → ∀ s81, s81 = putI s79 175 51 (sI s79 175 45) → w_X4_goesOn_l97 Φ (fun (s94 : St) => w_X4_goesOn_b117 Φ s94) gFU s81))) ∧ (((sI s8 175 45) = (sI s8 175 46)) → ∀ s97, s97 = putI s8 175 48 0 → Φ s97)
theorem t_X4_goesOn_b52 {θ : Th} {κ : Kx} {Ph : Ph} (hX : LX θ) {d : Nat} (hd : 1 ≤ d) (C : Cx θ κ yX4_goesOn cX4_goesOn 2 (none : Option Jvm.ClassFile.FieldType) [] d) {Φ : St → Prop} (hn : ∀ st, Φ st → Ph.1 st none) (st : St) (h : w_X4_goesOn_b52 Φ st) : X θ κ Ph st 52 [(0, .ref (ad θ 175))] [] := by
  unfold w_X4_goesOn_b52 at h
  refine X_aload_n C dX4_goesOn_52 rfl 0 rfl (isRV_r _) ?_
  refine X_aload_n C dX4_goesOn_53 rfl 0 rfl (isRV_r _) ?_
  refine X_getS (ci := 4) (j := 45) (q := (RX4, TX4, 54)) C rfl (by decide) q1811 rfl dX4_goesOn_54 (LX_S hX (k := 175) rfl) (v := .int (sI st 175 45)) rfl ?_
  refine X_putSI (ci := 4) (j := 47) (q := (RX4, TX4, 54)) C rfl (by decide) q1813 rfl rfl dX4_goesOn_57 (LX_S hX (k := 175) rfl) rfl rfl rfl ?_
  refine X_nm (fun s8 e9 => ?_)
  have h := h s8 e9
  refine X_aload_n C dX4_goesOn_60 rfl 0 rfl (isRV_r _) ?_
  refine X_getS (ci := 4) (j := 45) (q := (RX4, TX4, 54)) C rfl (by decide) q1811 rfl dX4_goesOn_61 (LX_S hX (k := 175) rfl) (v := .int (sI s8 175 45)) rfl ?_
  refine X_aload_n C dX4_goesOn_64 rfl 0 rfl (isRV_r _) ?_
  refine X_getS (ci := 4) (j := 46) (q := (RX4, TX4, 54)) C rfl (by decide) q1812 rfl dX4_goesOn_65 (LX_S hX (k := 175) rfl) (v := .int (sI s8 175 46)) rfl ?_
  refine X_icmp_ne (tgt := 77) C dX4_goesOn_68 (by decide) (fun c10 => ?_) (fun c10 => ?_)
  · have h := h.1 c10
    refine X_aload_n C dX4_goesOn_77 rfl 0 rfl (isRV_r _) ?_
    refine X_callVS (ci := 4) (q := (RX4, TX4, 54)) (As := []) (rest := []) C rfl (LX_S hX (k := 175) rfl) q2229 q2231 qs104 q136 q2232 ⟨rfl, nm_X4_isLetter⟩ rfl dX4_goesOn_78 (m_X4_isLetter (Cx_l C) hX (d := d - 1) (by omega) s8 h) (by omega) (by decide) (Nat.le_of_ble_eq_true rfl) (fun s17 w12 hE13 hP14 => ?_) (fun s18 E15 q16 hE13 hP14 => ?_)
    rotate_left
    · exact False.elim hP14
    obtain ⟨r11, rfl, rfl, h⟩ := hP14
    refine X_tls ?_
    refine X_if_eq (tgt := 128) C dX4_goesOn_81 (by decide) (fun c19 => ?_) (fun c19 => ?_)
    · have h := h.1 c19
      refine X_aload_n C dX4_goesOn_128 rfl 0 rfl (isRV_r _) ?_
      refine X_callVS (ci := 4) (q := (RX4, TX4, 54)) (As := []) (rest := []) C rfl (LX_S hX (k := 175) rfl) q2233 q2235 qs105 q136 q2236 ⟨rfl, nm_X4_isDigit⟩ rfl dX4_goesOn_129 (m_X4_isDigit (Cx_l C) hX (d := d - 1) (by omega) s8 h) (by omega) (by decide) (Nat.le_of_ble_eq_true rfl) (fun s26 w21 hE22 hP23 => ?_) (fun s27 E24 q25 hE22 hP23 => ?_)
      rotate_left
      · exact False.elim hP23
      obtain ⟨r20, rfl, rfl, h⟩ := hP23
      refine X_tls ?_
      refine X_if_eq (tgt := 229) C dX4_goesOn_132 (by decide) (fun c28 => ?_) (fun c28 => ?_)
      · have h := h.1 c28
        refine X_aload_n C dX4_goesOn_229 rfl 0 rfl (isRV_r _) ?_
        refine X_iconst (v := 3) C dX4_goesOn_230 rfl ?_
        refine X_putSI (ci := 4) (j := 48) (q := (RX4, TX4, 54)) C rfl (by decide) q1814 rfl rfl dX4_goesOn_231 (LX_S hX (k := 175) rfl) rfl rfl rfl ?_
        refine X_nm (fun s29 e30 => ?_)
        have h := h s29 e30
        refine X_aload_n C dX4_goesOn_234 rfl 0 rfl (isRV_r _) ?_
        refine X_aload_n C dX4_goesOn_235 rfl 0 rfl (isRV_r _) ?_
        refine X_getF (ci := 4) (j := 9) (q := (RX4, TX4, 54)) C rfl (by decide) q1775 rfl dX4_goesOn_236 (b := 182) (LX_S hX (k := 175) rfl) (LX_F hX (k := 175) (j := 9) rfl) rfl ?_
        refine X_aload_n C dX4_goesOn_239 rfl 0 rfl (isRV_r _) ?_
        refine X_getS (ci := 4) (j := 45) (q := (RX4, TX4, 54)) C rfl (by decide) q1811 rfl dX4_goesOn_240 (LX_S hX (k := 175) rfl) (v := .int (sI s29 175 45)) rfl ?_
        have g31 := h.1
        have h := h.2
        refine X_ialdS C (LX_S hX (k := 182) rfl) (LX_L hX (k := 182) rfl) g31 rfl dX4_goesOn_243 ?_
        refine X_putSI (ci := 4) (j := 49) (q := (RX4, TX4, 54)) C rfl (by decide) q1815 rfl rfl dX4_goesOn_244 (LX_S hX (k := 175) rfl) rfl rfl rfl ?_
        refine X_nm (fun s32 e33 => ?_)
        have h := h s32 e33
        refine X_aload_n C dX4_goesOn_247 rfl 0 rfl (isRV_r _) ?_
        refine X_dup C dX4_goesOn_248 rfl ?_
        refine X_getS (ci := 4) (j := 45) (q := (RX4, TX4, 54)) C rfl (by decide) q1811 rfl dX4_goesOn_249 (LX_S hX (k := 175) rfl) (v := .int (sI s32 175 45)) rfl ?_
        refine X_iconst (v := 1) C dX4_goesOn_252 rfl ?_
        refine X_iadd C dX4_goesOn_253 ?_
        refine X_putSI (ci := 4) (j := 45) (q := (RX4, TX4, 54)) C rfl (by decide) q1811 rfl rfl dX4_goesOn_254 (LX_S hX (k := 175) rfl) rfl rfl rfl ?_
        refine X_nm (fun s34 e35 => ?_)
        have h := h s34 e35
        refine X_aload_n C dX4_goesOn_257 rfl 0 rfl (isRV_r _) ?_
        refine X_getS (ci := 4) (j := 49) (q := (RX4, TX4, 54)) C rfl (by decide) q1815 rfl dX4_goesOn_258 (LX_S hX (k := 175) rfl) (v := .int (sI s34 175 49)) rfl ?_
        refine X_bipush (v := 59) C dX4_goesOn_261 rfl ?_
        refine X_icmp_eq (tgt := 302) C dX4_goesOn_263 (by decide) (fun c36 => ?_) (fun c36 => ?_)
        · have h := h.1 c36
          exact t_X4_goesOn_b302 hX hd C hn s34 h
        · have h := h.2 c36
          refine X_aload_n C dX4_goesOn_266 rfl 0 rfl (isRV_r _) ?_
          refine X_getS (ci := 4) (j := 49) (q := (RX4, TX4, 54)) C rfl (by decide) q1815 rfl dX4_goesOn_267 (LX_S hX (k := 175) rfl) (v := .int (sI s34 175 49)) rfl ?_
          refine X_bipush (v := 44) C dX4_goesOn_270 rfl ?_
          refine X_icmp_eq (tgt := 302) C dX4_goesOn_272 (by decide) (fun c46 => ?_) (fun c46 => ?_)
          · have h := h.1 c46
            exact t_X4_goesOn_b302 hX hd C hn s34 h
          · have h := h.2 c46
            refine X_aload_n C dX4_goesOn_275 rfl 0 rfl (isRV_r _) ?_
            refine X_getS (ci := 4) (j := 49) (q := (RX4, TX4, 54)) C rfl (by decide) q1815 rfl dX4_goesOn_276 (LX_S hX (k := 175) rfl) (v := .int (sI s34 175 49)) rfl ?_
            refine X_bipush (v := 91) C dX4_goesOn_279 rfl ?_
            refine X_icmp_eq (tgt := 302) C dX4_goesOn_281 (by decide) (fun c47 => ?_) (fun c47 => ?_)
            · have h := h.1 c47
              exact t_X4_goesOn_b302 hX hd C hn s34 h
            · have h := h.2 c47
              refine X_aload_n C dX4_goesOn_284 rfl 0 rfl (isRV_r _) ?_
              refine X_getS (ci := 4) (j := 49) (q := (RX4, TX4, 54)) C rfl (by decide) q1815 rfl dX4_goesOn_285 (LX_S hX (k := 175) rfl) (v := .int (sI s34 175 49)) rfl ?_
              refine X_bipush (v := 93) C dX4_goesOn_288 rfl ?_
              refine X_icmp_eq (tgt := 302) C dX4_goesOn_290 (by decide) (fun c48 => ?_) (fun c48 => ?_)
              · have h := h.1 c48
                exact t_X4_goesOn_b302 hX hd C hn s34 h
              · have h := h.2 c48
                refine X_aload_n C dX4_goesOn_293 rfl 0 rfl (isRV_r _) ?_
                refine X_getS (ci := 4) (j := 49) (q := (RX4, TX4, 54)) C rfl (by decide) q1815 rfl dX4_goesOn_294 (LX_S hX (k := 175) rfl) (v := .int (sI s34 175 49)) rfl ?_
                refine X_bipush (v := 45) C dX4_goesOn_297 rfl ?_
                refine X_icmp_ne (tgt := 306) C dX4_goesOn_299 (by decide) (fun c49 => ?_) (fun c49 => ?_)
                · have h := h.1 c49
                  refine X_iconst (v := 0) C dX4_goesOn_306 rfl ?_
                  exact t_X4_goesOn_b307 hX hd C hn s34 0 h
                · have h := h.2 c49
                  exact t_X4_goesOn_b302 hX hd C hn s34 h
      · have h := h.2 c28
        refine X_aload_n C dX4_goesOn_135 rfl 0 rfl (isRV_r _) ?_
        refine X_iconst (v := 2) C dX4_goesOn_136 rfl ?_
        refine X_putSI (ci := 4) (j := 48) (q := (RX4, TX4, 54)) C rfl (by decide) q1814 rfl rfl dX4_goesOn_137 (LX_S hX (k := 175) rfl) rfl rfl rfl ?_
        refine X_nm (fun s50 e51 => ?_)
        have h := h s50 e51
        refine X_aload_n C dX4_goesOn_140 rfl 0 rfl (isRV_r _) ?_
        refine X_iconst (v := 0) C dX4_goesOn_141 rfl ?_
        refine X_putSI (ci := 4) (j := 49) (q := (RX4, TX4, 54)) C rfl (by decide) q1815 rfl rfl dX4_goesOn_142 (LX_S hX (k := 175) rfl) rfl rfl rfl ?_
        refine X_nm (fun s52 e53 => ?_)
        have h := h s52 e53
        refine t_X4_goesOn_l145 hX hd C hn ?_ gFU s52 h
        · intro s69 h
          exact t_X4_goesOn_b209 hX hd C hn s69 h
    · have h := h.2 c19
      refine X_aload_n C dX4_goesOn_84 rfl 0 rfl (isRV_r _) ?_
      refine X_iconst (v := 1) C dX4_goesOn_85 rfl ?_
      refine X_putSI (ci := 4) (j := 48) (q := (RX4, TX4, 54)) C rfl (by decide) q1814 rfl rfl dX4_goesOn_86 (LX_S hX (k := 175) rfl) rfl rfl rfl ?_
      refine X_nm (fun s79 e80 => ?_)
      have h := h s79 e80
      refine X_aload_n C dX4_goesOn_89 rfl 0 rfl (isRV_r _) ?_
      refine X_aload_n C dX4_goesOn_90 rfl 0 rfl (isRV_r _) ?_
      refine X_getS (ci := 4) (j := 45) (q := (RX4, TX4, 54)) C rfl (by decide) q1811 rfl dX4_goesOn_91 (LX_S hX (k := 175) rfl) (v := .int (sI s79 175 45)) rfl ?_
      refine X_putSI (ci := 4) (j := 51) (q := (RX4, TX4, 54)) C rfl (by decide) q1817 rfl rfl dX4_goesOn_94 (LX_S hX (k := 175) rfl) rfl rfl rfl ?_
      refine X_nm (fun s81 e82 => ?_)
      have h := h s81 e82
      refine t_X4_goesOn_l97 hX hd C hn ?_ gFU s81 h
      · intro s94 h
        exact t_X4_goesOn_b117 hX hd C hn s94 h
  · have h := h.2 c10
    refine X_aload_n C dX4_goesOn_71 rfl 0 rfl (isRV_r _) ?_
    refine X_iconst (v := 0) C dX4_goesOn_72 rfl ?_
    refine X_putSI (ci := 4) (j := 48) (q := (RX4, TX4, 54)) C rfl (by decide) q1814 rfl rfl dX4_goesOn_73 (LX_S hX (k := 175) rfl) rfl rfl rfl ?_
    refine X_nm (fun s97 e98 => ?_)
    have h := h s97 e98
    exact X_vret C rfl dX4_goesOn_76 (hn s97 h)
def w_X4_goesOn (st : St) (Φ : St → Prop) : Prop := w_X4_goesOn_l0 Φ (fun (s7 : St) => w_X4_goesOn_b52 Φ s7) gFU st
theorem nm_X4_goesOn : yX4_goesOn.cls ≠ "java/lang/invoke/MethodHandle" ∧ yX4_goesOn.cls ≠ "java/lang/invoke/VarHandle" ∧ (parseMethodDescriptor yX4_goesOn.desc).map (fun d => d.parameters.length) = some 0 := by decide +kernel
theorem e_X4_goesOn : plainFor yX4_goesOn = true := plainFor_of_name (by decide +kernel)
theorem m_X4_goesOn {θ : Th} {l : Launch} (hl0 : l.stackTraces = false) (hX : LX θ) {d : Nat} (hd : 1 ≤ d) (st : St) {Φ : St → Prop} (h : w_X4_goesOn st Φ) : Ct θ l yX4_goesOn (ws_ yX4_goesOn cX4_goesOn 2 (none : Option Jvm.ClassFile.FieldType)) d [.ref (ad θ 175)] st (pV Φ, noX) := by
  refine Ct_entry hl0 e_X4_goesOn (Nat.le_of_ble_eq_true rfl) (fun κ hκ _ C => ?_)
  have hn : ∀ st, Φ st → ((pV Φ, noX) : Ph).1 st none := fun st q => ⟨rfl, q⟩
  change X _ _ _ _ _ [(0, .ref (ad θ 175))] _
  unfold w_X4_goesOn at h
  refine t_X4_goesOn_l0 hX hd C hn ?_ gFU st h
  · intro s7 h
    exact t_X4_goesOn_b52 hX hd C hn s7 h

def w_X4_takes_2_b30 (Φ : St → Int32 → Prop) (st : St) (x1 : Int32) : Prop := w_X4_fails st (fun (s3 : St) => Φ s3 x1)
theorem t_X4_takes_2_b30 {θ : Th} {κ : Kx} {Ph : Ph} (hX : LX θ) {d : Nat} (hd : 2 ≤ d) (C : Cx θ κ yX4_takes_2 cX4_takes_2 4 (some Jvm.ClassFile.FieldType.int) [] d) {Φ : St → Int32 → Prop} (hn : ∀ st r, Φ st r → Ph.1 st (some (.int r))) (st : St) (x1 : Int32) (h : w_X4_takes_2_b30 Φ st x1) : X θ κ Ph st 30 [(0, .ref (ad θ 175)), (1, .int x1)] [] := by
  unfold w_X4_takes_2_b30 at h
  refine X_aload_n C dX4_takes_2_30 rfl 0 rfl (isRV_r _) ?_
  refine X_callVS (ci := 4) (q := (RX4, TX4, 54)) (As := []) (rest := []) C rfl (LX_S hX (k := 175) rfl) q2237 q2239 qs106 q136 q2240 ⟨rfl, nm_X4_fails⟩ rfl dX4_takes_2_31 (m_X4_fails (Cx_l C) hX (d := d - 1) (by omega) st h) (by omega) (by decide) (Nat.le_of_ble_eq_true rfl) (fun s3 w4 hE5 hP6 => ?_) (fun s9 E7 q8 hE5 hP6 => ?_)
  rotate_left
  · exact False.elim hP6
  obtain ⟨rfl, h⟩ := hP6
  refine X_tln ?_
  refine X_iload_n C dX4_takes_2_34 rfl 1 rfl ?_
  exact X_iret C rfl dX4_takes_2_35 (hn s3 _ h)
def w_X4_takes_2 (st : St) (p1 : Int32) (p2 : Int32) (Φ : St → Int32 → Prop) : Prop := ((0 ≤ (sI st 175 50)) → w_X4_takes_2_b30 Φ st p1) ∧ ((¬ 0 ≤ (sI st 175 50)) → (((sI st 175 48) ≠ 2) → w_X4_takes_2_b30 Φ st p1) ∧ (((sI st 175 48) = 2) → w_X4_isIn (sI st 175 49).toInt64 p1.toInt64 p2.toInt64 (fun (r11 : Int32) => ((r11 ≠ 0) → ∀ v20 : Int32, v20 = (sI st 175 49) → w_X4_goesOn st (fun (s23 : St) => Φ s23 v20)) ∧ ((r11 = 0) → w_X4_takes_2_b30 Φ st p1))))
theorem nm_X4_takes_2 : yX4_takes_2.cls ≠ "java/lang/invoke/MethodHandle" ∧ yX4_takes_2.cls ≠ "java/lang/invoke/VarHandle" ∧ (parseMethodDescriptor yX4_takes_2.desc).map (fun d => d.parameters.length) = some 2 := by decide +kernel
theorem e_X4_takes_2 : plainFor yX4_takes_2 = true := plainFor_of_name (by decide +kernel)
theorem m_X4_takes_2 {θ : Th} {l : Launch} (hl0 : l.stackTraces = false) (hX : LX θ) {d : Nat} (hd : 2 ≤ d) (st : St) (p1 : Int32) (p2 : Int32) {Φ : St → Int32 → Prop} (h : w_X4_takes_2 st p1 p2 Φ) : Ct θ l yX4_takes_2 (ws_ yX4_takes_2 cX4_takes_2 4 (some Jvm.ClassFile.FieldType.int)) d [.ref (ad θ 175), .int p1, .int p2] st (pI Φ, noX) := by
  refine Ct_entry hl0 e_X4_takes_2 (Nat.le_of_ble_eq_true rfl) (fun κ hκ _ C => ?_)
  have hn : ∀ st r, Φ st r → ((pI Φ, noX) : Ph).1 st (some (.int r)) := fun st r q => ⟨r, rfl, q⟩
  change X _ _ _ _ _ [(0, .ref (ad θ 175)), (1, .int p1), (2, .int p2)] _
  unfold w_X4_takes_2 at h
  refine X_aload_n C dX4_takes_2_0 rfl 0 rfl (isRV_r _) ?_
  refine X_getS (ci := 4) (j := 50) (q := (RX4, TX4, 54)) C rfl (by decide) q1816 rfl dX4_takes_2_1 (LX_S hX (k := 175) rfl) (v := .int (sI st 175 50)) rfl ?_
  refine X_if_ge (tgt := 30) C dX4_takes_2_4 (by decide) (fun c1 => ?_) (fun c1 => ?_)
  · have h := h.1 c1
    refine X_sub [0, 1] (lo2 := [(0, _), (1, _)]) rfl ?_
    exact t_X4_takes_2_b30 hX hd C hn st p1 h
  · have h := h.2 c1
    refine X_aload_n C dX4_takes_2_7 rfl 0 rfl (isRV_r _) ?_
    refine X_getS (ci := 4) (j := 48) (q := (RX4, TX4, 54)) C rfl (by decide) q1814 rfl dX4_takes_2_8 (LX_S hX (k := 175) rfl) (v := .int (sI st 175 48)) rfl ?_
    refine X_iconst (v := 2) C dX4_takes_2_11 rfl ?_
    refine X_icmp_ne (tgt := 30) C dX4_takes_2_12 (by decide) (fun c10 => ?_) (fun c10 => ?_)
    · have h := h.1 c10
      refine X_sub [0, 1] (lo2 := [(0, _), (1, _)]) rfl ?_
      exact t_X4_takes_2_b30 hX hd C hn st p1 h
    · have h := h.2 c10
      refine X_aload_n C dX4_takes_2_15 rfl 0 rfl (isRV_r _) ?_
      refine X_getS (ci := 4) (j := 49) (q := (RX4, TX4, 54)) C rfl (by decide) q1815 rfl dX4_takes_2_16 (LX_S hX (k := 175) rfl) (v := .int (sI st 175 49)) rfl ?_
      refine X_i2l C dX4_takes_2_19 ?_
      refine X_iload_n C dX4_takes_2_20 rfl 1 rfl ?_
      refine X_i2l C dX4_takes_2_21 ?_
      refine X_iload_n C dX4_takes_2_22 rfl 2 rfl ?_
      refine X_i2l C dX4_takes_2_23 ?_
      refine X_callS (As := [_, _, _]) (rest := []) C q1936 q1937 q136 q1938 nm_X4_isIn rfl dX4_takes_2_24 (m_X4_isIn (Cx_l C) hX (d := d - 1) (by omega) st (sI st 175 49).toInt64 p1.toInt64 p2.toInt64 h) (by omega) (by decide) (Nat.le_of_ble_eq_true rfl) (fun s17 w12 hE13 hP14 => ?_) (fun s18 E15 q16 hE13 hP14 => ?_)
      rotate_left
      · exact False.elim hP14
      obtain ⟨r11, rfl, rfl, h⟩ := hP14
      refine X_tls ?_
      refine X_if_ne (tgt := 36) C dX4_takes_2_27 (by decide) (fun c19 => ?_) (fun c19 => ?_)
      · have h := h.1 c19
        refine X_aload_n C dX4_takes_2_36 rfl 0 rfl (isRV_r _) ?_
        refine X_getS (ci := 4) (j := 49) (q := (RX4, TX4, 54)) C rfl (by decide) q1815 rfl dX4_takes_2_37 (LX_S hX (k := 175) rfl) (v := .int (sI st 175 49)) rfl ?_
        refine X_topi (fun v20 e21 => ?_)
        have h := h v20 e21
        refine X_istore_n C dX4_takes_2_40 rfl (lo2 := [(3, _), (0, _), (1, _), (2, _)]) (by decide) rfl ?_
        refine X_aload_n C dX4_takes_2_41 rfl 1 rfl (isRV_r _) ?_
        refine X_callVS (ci := 4) (q := (RX4, TX4, 54)) (As := []) (rest := []) C rfl (LX_S hX (k := 175) rfl) q2225 q2227 qs103 q136 q2228 ⟨rfl, nm_X4_goesOn⟩ rfl dX4_takes_2_42 (m_X4_goesOn (Cx_l C) hX (d := d - 1) (by omega) st h) (by omega) (by decide) (Nat.le_of_ble_eq_true rfl) (fun s23 w24 hE25 hP26 => ?_) (fun s29 E27 q28 hE25 hP26 => ?_)
        rotate_left
        · exact False.elim hP26
        obtain ⟨rfl, h⟩ := hP26
        refine X_tln ?_
        refine X_iload_n C dX4_takes_2_45 rfl 0 rfl ?_
        exact X_iret C rfl dX4_takes_2_46 (hn s23 _ h)
      · have h := h.2 c19
        refine X_sub [0, 1] (lo2 := [(0, _), (1, _)]) rfl ?_
        exact t_X4_takes_2_b30 hX hd C hn st p1 h

def w_X4_isSign (st0 : St) (p1 : Int32) (Φ : Int32 → Prop) : Prop := (((sI st0 175 48) ≠ 3) → Φ 0) ∧ (((sI st0 175 48) = 3) → (((sI st0 175 49) ≠ p1) → Φ 0) ∧ (((sI st0 175 49) = p1) → Φ 1))
theorem nm_X4_isSign : yX4_isSign.cls ≠ "java/lang/invoke/MethodHandle" ∧ yX4_isSign.cls ≠ "java/lang/invoke/VarHandle" ∧ (parseMethodDescriptor yX4_isSign.desc).map (fun d => d.parameters.length) = some 1 := by decide +kernel
theorem e_X4_isSign : plainFor yX4_isSign = true := plainFor_of_name (by decide +kernel)
theorem m_X4_isSign {θ : Th} {l : Launch} (hl0 : l.stackTraces = false) (hX : LX θ) {d : Nat} (hd : 0 ≤ d) (st0 : St) (p1 : Int32) {Φ : Int32 → Prop} (h : w_X4_isSign st0 p1 Φ) : Ct θ l yX4_isSign (ws_ yX4_isSign cX4_isSign 2 (some Jvm.ClassFile.FieldType.boolean)) d [.ref (ad θ 175), .int p1] st0 (rI st0 Φ, noX) := by
  refine Ct_entry hl0 e_X4_isSign (Nat.le_of_ble_eq_true rfl) (fun κ hκ _ C => ?_)
  have hn : ∀ r, Φ r → ((rI st0 Φ, noX) : Ph).1 st0 (some (.int r)) := fun r q => ⟨r, rfl, rfl, q⟩
  change X _ _ _ _ _ [(0, .ref (ad θ 175)), (1, .int p1)] _
  unfold w_X4_isSign at h
  refine X_aload_n C dX4_isSign_0 rfl 0 rfl (isRV_r _) ?_
  refine X_getS (ci := 4) (j := 48) (q := (RX4, TX4, 54)) C rfl (by decide) q1814 rfl dX4_isSign_1 (LX_S hX (k := 175) rfl) (v := .int (sI st0 175 48)) rfl ?_
  refine X_iconst (v := 3) C dX4_isSign_4 rfl ?_
  refine X_icmp_ne (tgt := 20) C dX4_isSign_5 (by decide) (fun c1 => ?_) (fun c1 => ?_)
  · have h := h.1 c1
    refine X_iconst (v := 0) C dX4_isSign_20 rfl ?_
    exact X_zret C rfl rfl dX4_isSign_21 (hn _ h)
  · have h := h.2 c1
    refine X_aload_n C dX4_isSign_8 rfl 0 rfl (isRV_r _) ?_
    refine X_getS (ci := 4) (j := 49) (q := (RX4, TX4, 54)) C rfl (by decide) q1815 rfl dX4_isSign_9 (LX_S hX (k := 175) rfl) (v := .int (sI st0 175 49)) rfl ?_
    refine X_iload_n C dX4_isSign_12 rfl 1 rfl ?_
    refine X_icmp_ne (tgt := 20) C dX4_isSign_13 (by decide) (fun c2 => ?_) (fun c2 => ?_)
    · have h := h.1 c2
      refine X_iconst (v := 0) C dX4_isSign_20 rfl ?_
      exact X_zret C rfl rfl dX4_isSign_21 (hn _ h)
    · have h := h.2 c2
      refine X_iconst (v := 1) C dX4_isSign_16 rfl ?_
      refine X_goto (tgt := 21) C dX4_isSign_17 (by decide) ?_
      exact X_zret C rfl rfl dX4_isSign_21 (hn _ h)

def w_X4_takesSigned_b30 (Φ : St → Int32 → Prop) (st : St) (x1 : Int32) (x2 : Int32) : Prop := w_X4_takes_2 st 0 x1 (fun (s4 : St) (r3 : Int32) => ((x2 = 0) → Φ s4 r3) ∧ ((¬ x2 = 0) → Φ s4 (-r3)))
theorem t_X4_takesSigned_b30 {θ : Th} {κ : Kx} {Ph : Ph} (hX : LX θ) {d : Nat} (hd : 3 ≤ d) (C : Cx θ κ yX4_takesSigned cX4_takesSigned 4 (some Jvm.ClassFile.FieldType.int) [] d) {Φ : St → Int32 → Prop} (hn : ∀ st r, Φ st r → Ph.1 st (some (.int r))) (st : St) (x1 : Int32) (x2 : Int32) (h : w_X4_takesSigned_b30 Φ st x1 x2) : X θ κ Ph st 30 [(0, .ref (ad θ 175)), (1, .int x1), (2, .int x2)] [] := by
  unfold w_X4_takesSigned_b30 at h
  refine X_aload_n C dX4_takesSigned_30 rfl 0 rfl (isRV_r _) ?_
  refine X_iconst (v := 0) C dX4_takesSigned_31 rfl ?_
  refine X_iload_n C dX4_takesSigned_32 rfl 1 rfl ?_
  refine X_callVS (ci := 4) (q := (RX4, TX4, 54)) (As := [_, _]) (rest := []) C rfl (LX_S hX (k := 175) rfl) q2253 q2255 qs109 q136 q2256 ⟨rfl, nm_X4_takes_2⟩ rfl dX4_takesSigned_33 (m_X4_takes_2 (Cx_l C) hX (d := d - 1) (by omega) st 0 x1 h) (by omega) (by decide) (Nat.le_of_ble_eq_true rfl) (fun s4 w5 hE6 hP7 => ?_) (fun s10 E8 q9 hE6 hP7 => ?_)
  rotate_left
  · exact False.elim hP7
  obtain ⟨r3, rfl, h⟩ := hP7
  refine X_tls ?_
  refine X_istore_n C dX4_takesSigned_36 rfl (lo2 := [(3, _), (0, _), (1, _), (2, _)]) (by decide) rfl ?_
  refine X_iload_n C dX4_takesSigned_37 rfl 3 rfl ?_
  refine X_if_eq (tgt := 46) C dX4_takesSigned_38 (by decide) (fun c11 => ?_) (fun c11 => ?_)
  · have h := h.1 c11
    refine X_iload_n C dX4_takesSigned_46 rfl 0 rfl ?_
    exact X_iret C rfl dX4_takesSigned_47 (hn s4 _ h)
  · have h := h.2 c11
    refine X_iload_n C dX4_takesSigned_41 rfl 0 rfl ?_
    refine X_ineg C dX4_takesSigned_42 ?_
    refine X_goto (tgt := 47) C dX4_takesSigned_43 (by decide) ?_
    exact X_iret C rfl dX4_takesSigned_47 (hn s4 _ h)
def w_X4_takesSigned_b21 (Φ : St → Int32 → Prop) (st : St) (x1 : Int32) (z0 : Int32) : Prop := ((z0 = 0) → w_X4_takesSigned_b30 Φ st x1 z0) ∧ ((¬ z0 = 0) → w_X4_goesOn st (fun (s13 : St) => w_X4_takesSigned_b30 Φ s13 x1 z0))
theorem t_X4_takesSigned_b21 {θ : Th} {κ : Kx} {Ph : Ph} (hX : LX θ) {d : Nat} (hd : 3 ≤ d) (C : Cx θ κ yX4_takesSigned cX4_takesSigned 4 (some Jvm.ClassFile.FieldType.int) [] d) {Φ : St → Int32 → Prop} (hn : ∀ st r, Φ st r → Ph.1 st (some (.int r))) (st : St) (x1 : Int32) (z0 : Int32) (h : w_X4_takesSigned_b21 Φ st x1 z0) : X θ κ Ph st 21 [(0, .ref (ad θ 175)), (1, .int x1)] [.int z0] := by
  unfold w_X4_takesSigned_b21 at h
  refine X_istore_n C dX4_takesSigned_21 rfl (lo2 := [(2, _), (0, _), (1, _)]) (by decide) rfl ?_
  refine X_iload_n C dX4_takesSigned_22 rfl 0 rfl ?_
  refine X_if_eq (tgt := 30) C dX4_takesSigned_23 (by decide) (fun c2 => ?_) (fun c2 => ?_)
  · have h := h.1 c2
    refine X_sub [1, 2, 0] (lo2 := [(0, _), (1, _), (2, _)]) rfl ?_
    exact t_X4_takesSigned_b30 hX hd C hn st x1 z0 h
  · have h := h.2 c2
    refine X_aload_n C dX4_takesSigned_26 rfl 1 rfl (isRV_r _) ?_
    refine X_callVS (ci := 4) (q := (RX4, TX4, 54)) (As := []) (rest := []) C rfl (LX_S hX (k := 175) rfl) q2225 q2227 qs103 q136 q2228 ⟨rfl, nm_X4_goesOn⟩ rfl dX4_takesSigned_27 (m_X4_goesOn (Cx_l C) hX (d := d - 1) (by omega) st h) (by omega) (by decide) (Nat.le_of_ble_eq_true rfl) (fun s13 w14 hE15 hP16 => ?_) (fun s19 E17 q18 hE15 hP16 => ?_)
    rotate_left
    · exact False.elim hP16
    obtain ⟨rfl, h⟩ := hP16
    refine X_tln ?_
    refine X_sub [1, 2, 0] (lo2 := [(0, _), (1, _), (2, _)]) rfl ?_
    exact t_X4_takesSigned_b30 hX hd C hn s13 x1 z0 h
def w_X4_takesSigned_b20 (Φ : St → Int32 → Prop) (st : St) (x1 : Int32) : Prop := w_X4_takesSigned_b21 Φ st x1 0
theorem t_X4_takesSigned_b20 {θ : Th} {κ : Kx} {Ph : Ph} (hX : LX θ) {d : Nat} (hd : 3 ≤ d) (C : Cx θ κ yX4_takesSigned cX4_takesSigned 4 (some Jvm.ClassFile.FieldType.int) [] d) {Φ : St → Int32 → Prop} (hn : ∀ st r, Φ st r → Ph.1 st (some (.int r))) (st : St) (x1 : Int32) (h : w_X4_takesSigned_b20 Φ st x1) : X θ κ Ph st 20 [(0, .ref (ad θ 175)), (1, .int x1)] [] := by
  unfold w_X4_takesSigned_b20 at h
  refine X_iconst (v := 0) C dX4_takesSigned_20 rfl ?_
  exact t_X4_takesSigned_b21 hX hd C hn st x1 0 h
def w_X4_takesSigned (st : St) (p1 : Int32) (Φ : St → Int32 → Prop) : Prop := ((0 ≤ (sI st 175 50)) → w_X4_takesSigned_b20 Φ st p1) ∧ ((¬ 0 ≤ (sI st 175 50)) → w_X4_isSign st 45 (fun (r20 : Int32) => ((r20 = 0) → w_X4_takesSigned_b20 Φ st p1) ∧ ((¬ r20 = 0) → w_X4_takesSigned_b21 Φ st p1 1)))
theorem nm_X4_takesSigned : yX4_takesSigned.cls ≠ "java/lang/invoke/MethodHandle" ∧ yX4_takesSigned.cls ≠ "java/lang/invoke/VarHandle" ∧ (parseMethodDescriptor yX4_takesSigned.desc).map (fun d => d.parameters.length) = some 1 := by decide +kernel
theorem e_X4_takesSigned : plainFor yX4_takesSigned = true := plainFor_of_name (by decide +kernel)
theorem m_X4_takesSigned {θ : Th} {l : Launch} (hl0 : l.stackTraces = false) (hX : LX θ) {d : Nat} (hd : 3 ≤ d) (st : St) (p1 : Int32) {Φ : St → Int32 → Prop} (h : w_X4_takesSigned st p1 Φ) : Ct θ l yX4_takesSigned (ws_ yX4_takesSigned cX4_takesSigned 4 (some Jvm.ClassFile.FieldType.int)) d [.ref (ad θ 175), .int p1] st (pI Φ, noX) := by
  refine Ct_entry hl0 e_X4_takesSigned (Nat.le_of_ble_eq_true rfl) (fun κ hκ _ C => ?_)
  have hn : ∀ st r, Φ st r → ((pI Φ, noX) : Ph).1 st (some (.int r)) := fun st r q => ⟨r, rfl, q⟩
  change X _ _ _ _ _ [(0, .ref (ad θ 175)), (1, .int p1)] _
  unfold w_X4_takesSigned at h
  refine X_aload_n C dX4_takesSigned_0 rfl 0 rfl (isRV_r _) ?_
  refine X_getS (ci := 4) (j := 50) (q := (RX4, TX4, 54)) C rfl (by decide) q1816 rfl dX4_takesSigned_1 (LX_S hX (k := 175) rfl) (v := .int (sI st 175 50)) rfl ?_
  refine X_if_ge (tgt := 20) C dX4_takesSigned_4 (by decide) (fun c1 => ?_) (fun c1 => ?_)
  · have h := h.1 c1
    exact t_X4_takesSigned_b20 hX hd C hn st p1 h
  · have h := h.2 c1
    refine X_aload_n C dX4_takesSigned_7 rfl 0 rfl (isRV_r _) ?_
    refine X_bipush (v := 45) C dX4_takesSigned_8 rfl ?_
    refine X_callVS (ci := 4) (q := (RX4, TX4, 54)) (As := [_]) (rest := []) C rfl (LX_S hX (k := 175) rfl) q2263 q2265 qs111 q136 q2266 ⟨rfl, nm_X4_isSign⟩ rfl dX4_takesSigned_10 (m_X4_isSign (Cx_l C) hX (d := d - 1) (by omega) st 45 h) (by omega) (by decide) (Nat.le_of_ble_eq_true rfl) (fun s26 w21 hE22 hP23 => ?_) (fun s27 E24 q25 hE22 hP23 => ?_)
    rotate_left
    · exact False.elim hP23
    obtain ⟨r20, rfl, rfl, h⟩ := hP23
    refine X_tls ?_
    refine X_if_eq (tgt := 20) C dX4_takesSigned_13 (by decide) (fun c28 => ?_) (fun c28 => ?_)
    · have h := h.1 c28
      exact t_X4_takesSigned_b20 hX hd C hn st p1 h
    · have h := h.2 c28
      refine X_iconst (v := 1) C dX4_takesSigned_16 rfl ?_
      refine X_goto (tgt := 21) C dX4_takesSigned_17 (by decide) ?_
      exact t_X4_takesSigned_b21 hX hd C hn st p1 1 h

def w_X4_depthOf (st0 : St) (p1 : Int32) (Φ : Int32 → Prop) : Prop := vp_in ((36 + (3 * p1)) + 2) 97 ∧ Φ (sI st0 177 ((36 + (3 * p1)) + 2).toNatClampNeg)
theorem nm_X4_depthOf : yX4_depthOf.cls ≠ "java/lang/invoke/MethodHandle" ∧ yX4_depthOf.cls ≠ "java/lang/invoke/VarHandle" ∧ (parseMethodDescriptor yX4_depthOf.desc).map (fun d => d.parameters.length) = some 1 := by decide +kernel
theorem e_X4_depthOf : plainFor yX4_depthOf = true := plainFor_of_name (by decide +kernel)
theorem m_X4_depthOf {θ : Th} {l : Launch} (hl0 : l.stackTraces = false) (hX : LX θ) {d : Nat} (hd : 0 ≤ d) (st0 : St) (p1 : Int32) {Φ : Int32 → Prop} (h : w_X4_depthOf st0 p1 Φ) : Ct θ l yX4_depthOf (ws_ yX4_depthOf cX4_depthOf 2 (some Jvm.ClassFile.FieldType.int)) d [.ref (ad θ 175), .int p1] st0 (rI st0 Φ, noX) := by
  refine Ct_entry hl0 e_X4_depthOf (Nat.le_of_ble_eq_true rfl) (fun κ hκ _ C => ?_)
  have hn : ∀ r, Φ r → ((rI st0 Φ, noX) : Ph).1 st0 (some (.int r)) := fun r q => ⟨r, rfl, rfl, q⟩
  change X _ _ _ _ _ [(0, .ref (ad θ 175)), (1, .int p1)] _
  unfold w_X4_depthOf at h
  refine X_aload_n C dX4_depthOf_0 rfl 0 rfl (isRV_r _) ?_
  refine X_getF (ci := 4) (j := 1) (q := (RX4, TX4, 54)) C rfl (by decide) q1767 rfl dX4_depthOf_1 (b := 177) (LX_S hX (k := 175) rfl) (LX_F hX (k := 175) (j := 1) rfl) rfl ?_
  refine X_bipush (v := 36) C dX4_depthOf_4 rfl ?_
  refine X_iconst (v := 3) C dX4_depthOf_6 rfl ?_
  refine X_iload_n C dX4_depthOf_7 rfl 1 rfl ?_
  refine X_imul C dX4_depthOf_8 ?_
  refine X_iadd C dX4_depthOf_9 ?_
  refine X_iconst (v := 2) C dX4_depthOf_10 rfl ?_
  refine X_iadd C dX4_depthOf_11 ?_
  have g1 := h.1
  have h := h.2
  refine X_ialdS C (LX_S hX (k := 177) rfl) (LX_L hX (k := 177) rfl) g1 rfl dX4_depthOf_12 ?_
  exact X_iret C rfl dX4_depthOf_13 (hn _ h)

def w_X4_isUnder_l37 (Φ : Int32 → Prop) (E55 : St → Prop) (E63 : St → Prop) : Nat → St → Int32 → Int32 → Int32 → Prop
  | 0, _, _, _, _ => False
  | n + 1, st0, x1, x2, x3 => ((x2 ≤ x3) → E63 st0) ∧ ((¬ x2 ≤ x3) → w_X4_depthOf st0 x3 (fun (r23 : Int32) => w_X4_depthOf st0 x1 (fun (r31 : Int32) => ((r31 < r23) → w_X4_isUnder_l37 Φ E55 E63 n st0 x1 x2 (x3 + 1)) ∧ ((¬ r31 < r23) → E55 st0))))
theorem t_X4_isUnder_l37 {θ : Th} {κ : Kx} {Ph : Ph} (hX : LX θ) {st0 : St} {d : Nat} (hd : 1 ≤ d) (C : Cx θ κ yX4_isUnder cX4_isUnder 4 (some Jvm.ClassFile.FieldType.boolean) [] d) {Φ : Int32 → Prop} (hn : ∀ r, Φ r → Ph.1 st0 (some (.int r))) {E55 : St → Prop} {E63 : St → Prop} (hE55 : E55 st0 → X θ κ Ph st0 55 [] []) (hE63 : E63 st0 → X θ κ Ph st0 63 [] []) : ∀ (n : Nat) (x1 : Int32) (x2 : Int32) (x3 : Int32), w_X4_isUnder_l37 Φ E55 E63 n st0 x1 x2 x3 → X θ κ Ph st0 37 [(0, .ref (ad θ 175)), (1, .int x1), (2, .int x2), (3, .int x3)] [] := by
  intro n
  induction n with
  | zero => intro x1 x2 x3 h; exact h.elim
  | succ n hK37 =>
    intro x1 x2 x3 h
    rw [w_X4_isUnder_l37] at h
    refine X_iload_n C dX4_isUnder_37 rfl 3 rfl ?_
    refine X_iload_n C dX4_isUnder_38 rfl 2 rfl ?_
    refine X_icmp_ge (tgt := 63) C dX4_isUnder_39 (by decide) (fun c22 => ?_) (fun c22 => ?_)
    · have h := h.1 c22
      refine X_sub [] (lo2 := []) rfl ?_
      exact hE63 h
    · have h := h.2 c22
      refine X_aload_n C dX4_isUnder_42 rfl 0 rfl (isRV_r _) ?_
      refine X_iload_n C dX4_isUnder_43 rfl 3 rfl ?_
      refine X_callVS (ci := 4) (q := (RX4, TX4, 54)) (As := [_]) (rest := []) C rfl (LX_S hX (k := 175) rfl) q2295 q2297 qs117 q136 q2298 ⟨rfl, nm_X4_depthOf⟩ rfl dX4_isUnder_44 (m_X4_depthOf (Cx_l C) hX (d := d - 1) (by omega) st0 x3 h) (by omega) (by decide) (Nat.le_of_ble_eq_true rfl) (fun s29 w24 hE25 hP26 => ?_) (fun s30 E27 q28 hE25 hP26 => ?_)
      rotate_left
      · exact False.elim hP26
      obtain ⟨r23, rfl, rfl, h⟩ := hP26
      refine X_tls ?_
      refine X_aload_n C dX4_isUnder_47 rfl 0 rfl (isRV_r _) ?_
      refine X_iload_n C dX4_isUnder_48 rfl 1 rfl ?_
      refine X_callVS (ci := 4) (q := (RX4, TX4, 54)) (As := [_]) (rest := [_]) C rfl (LX_S hX (k := 175) rfl) q2295 q2297 qs117 q136 q2298 ⟨rfl, nm_X4_depthOf⟩ rfl dX4_isUnder_49 (m_X4_depthOf (Cx_l C) hX (d := d - 1) (by omega) st0 x1 h) (by omega) (by decide) (Nat.le_of_ble_eq_true rfl) (fun s37 w32 hE33 hP34 => ?_) (fun s38 E35 q36 hE33 hP34 => ?_)
      rotate_left
      · exact False.elim hP34
      obtain ⟨r31, rfl, rfl, h⟩ := hP34
      refine X_tls ?_
      refine X_icmp_gt (tgt := 57) C dX4_isUnder_52 (by decide) (fun c39 => ?_) (fun c39 => ?_)
      · have h := h.1 c39
        refine X_iinc (v := (x3 + 1)) C (j := 3) dX4_isUnder_57 rfl rfl (lo2 := [(3, _), (0, _), (1, _), (2, _)]) (by decide) rfl ?_
        refine X_goto (tgt := 37) C dX4_isUnder_60 (by decide) ?_
        refine X_sub [1, 2, 3, 0] (lo2 := [(0, _), (1, _), (2, _), (3, _)]) rfl ?_
        exact hK37 x1 x2 (x3 + 1) h
      · have h := h.2 c39
        refine X_sub [] (lo2 := []) rfl ?_
        exact hE55 h
def w_X4_isUnder_b55 (Φ : Int32 → Prop) (st0 : St) : Prop := Φ 0
theorem t_X4_isUnder_b55 {θ : Th} {κ : Kx} {Ph : Ph} (hX : LX θ) {st0 : St} {d : Nat} (hd : 1 ≤ d) (C : Cx θ κ yX4_isUnder cX4_isUnder 4 (some Jvm.ClassFile.FieldType.boolean) [] d) {Φ : Int32 → Prop} (hn : ∀ r, Φ r → Ph.1 st0 (some (.int r))) (h : w_X4_isUnder_b55 Φ st0) : X θ κ Ph st0 55 [] [] := by
  unfold w_X4_isUnder_b55 at h
  refine X_iconst (v := 0) C dX4_isUnder_55 rfl ?_
  exact X_zret C rfl rfl dX4_isUnder_56 (hn _ h)
def w_X4_isUnder_b63 (Φ : Int32 → Prop) (st0 : St) : Prop := Φ 1
theorem t_X4_isUnder_b63 {θ : Th} {κ : Kx} {Ph : Ph} (hX : LX θ) {st0 : St} {d : Nat} (hd : 1 ≤ d) (C : Cx θ κ yX4_isUnder cX4_isUnder 4 (some Jvm.ClassFile.FieldType.boolean) [] d) {Φ : Int32 → Prop} (hn : ∀ r, Φ r → Ph.1 st0 (some (.int r))) (h : w_X4_isUnder_b63 Φ st0) : X θ κ Ph st0 63 [] [] := by
  unfold w_X4_isUnder_b63 at h
  refine X_iconst (v := 1) C dX4_isUnder_63 rfl ?_
  exact X_zret C rfl rfl dX4_isUnder_64 (hn _ h)
def w_X4_isUnder (st0 : St) (p1 : Int32) (p2 : Int32) (Φ : Int32 → Prop) : Prop := ((p2 ≤ p1) → Φ 0) ∧ ((¬ p2 ≤ p1) → (((sI st0 177 35) ≤ p2) → Φ 0) ∧ ((¬ (sI st0 177 35) ≤ p2) → w_X4_depthOf st0 p2 (fun (r3 : Int32) => w_X4_depthOf st0 p1 (fun (r11 : Int32) => ((r3 = (r11 + 1)) → ∀ v20 : Int32, v20 = (p1 + 1) → w_X4_isUnder_l37 Φ (fun (_ : St) => w_X4_isUnder_b55 Φ st0) (fun (_ : St) => w_X4_isUnder_b63 Φ st0) gFU st0 p1 p2 v20) ∧ ((¬ r3 = (r11 + 1)) → Φ 0)))))
theorem nm_X4_isUnder : yX4_isUnder.cls ≠ "java/lang/invoke/MethodHandle" ∧ yX4_isUnder.cls ≠ "java/lang/invoke/VarHandle" ∧ (parseMethodDescriptor yX4_isUnder.desc).map (fun d => d.parameters.length) = some 2 := by decide +kernel
theorem e_X4_isUnder : plainFor yX4_isUnder = true := plainFor_of_name (by decide +kernel)
theorem m_X4_isUnder {θ : Th} {l : Launch} (hl0 : l.stackTraces = false) (hX : LX θ) {d : Nat} (hd : 1 ≤ d) (st0 : St) (p1 : Int32) (p2 : Int32) {Φ : Int32 → Prop} (h : w_X4_isUnder st0 p1 p2 Φ) : Ct θ l yX4_isUnder (ws_ yX4_isUnder cX4_isUnder 4 (some Jvm.ClassFile.FieldType.boolean)) d [.ref (ad θ 175), .int p1, .int p2] st0 (rI st0 Φ, noX) := by
  refine Ct_entry hl0 e_X4_isUnder (Nat.le_of_ble_eq_true rfl) (fun κ hκ _ C => ?_)
  have hn : ∀ r, Φ r → ((rI st0 Φ, noX) : Ph).1 st0 (some (.int r)) := fun r q => ⟨r, rfl, rfl, q⟩
  change X _ _ _ _ _ [(0, .ref (ad θ 175)), (1, .int p1), (2, .int p2)] _
  unfold w_X4_isUnder at h
  refine X_iload_n C dX4_isUnder_0 rfl 2 rfl ?_
  refine X_iload_n C dX4_isUnder_1 rfl 1 rfl ?_
  refine X_icmp_le (tgt := 31) C dX4_isUnder_2 (by decide) (fun c1 => ?_) (fun c1 => ?_)
  · have h := h.1 c1
    refine X_iconst (v := 0) C dX4_isUnder_31 rfl ?_
    exact X_zret C rfl rfl dX4_isUnder_32 (hn _ h)
  · have h := h.2 c1
    refine X_iload_n C dX4_isUnder_5 rfl 2 rfl ?_
    refine X_aload_n C dX4_isUnder_6 rfl 0 rfl (isRV_r _) ?_
    refine X_getF (ci := 4) (j := 1) (q := (RX4, TX4, 54)) C rfl (by decide) q1767 rfl dX4_isUnder_7 (b := 177) (LX_S hX (k := 175) rfl) (LX_F hX (k := 175) (j := 1) rfl) rfl ?_
    refine X_bipush (v := 35) C dX4_isUnder_10 rfl ?_
    refine X_ialdS C (LX_S hX (k := 177) rfl) (LX_L hX (k := 177) rfl) (vp_dec rfl) rfl dX4_isUnder_12 ?_
    refine X_icmp_ge (tgt := 31) C dX4_isUnder_13 (by decide) (fun c2 => ?_) (fun c2 => ?_)
    · have h := h.1 c2
      refine X_iconst (v := 0) C dX4_isUnder_31 rfl ?_
      exact X_zret C rfl rfl dX4_isUnder_32 (hn _ h)
    · have h := h.2 c2
      refine X_aload_n C dX4_isUnder_16 rfl 0 rfl (isRV_r _) ?_
      refine X_iload_n C dX4_isUnder_17 rfl 2 rfl ?_
      refine X_callVS (ci := 4) (q := (RX4, TX4, 54)) (As := [_]) (rest := []) C rfl (LX_S hX (k := 175) rfl) q2295 q2297 qs117 q136 q2298 ⟨rfl, nm_X4_depthOf⟩ rfl dX4_isUnder_18 (m_X4_depthOf (Cx_l C) hX (d := d - 1) (by omega) st0 p2 h) (by omega) (by decide) (Nat.le_of_ble_eq_true rfl) (fun s9 w4 hE5 hP6 => ?_) (fun s10 E7 q8 hE5 hP6 => ?_)
      rotate_left
      · exact False.elim hP6
      obtain ⟨r3, rfl, rfl, h⟩ := hP6
      refine X_tls ?_
      refine X_aload_n C dX4_isUnder_21 rfl 0 rfl (isRV_r _) ?_
      refine X_iload_n C dX4_isUnder_22 rfl 1 rfl ?_
      refine X_callVS (ci := 4) (q := (RX4, TX4, 54)) (As := [_]) (rest := [_]) C rfl (LX_S hX (k := 175) rfl) q2295 q2297 qs117 q136 q2298 ⟨rfl, nm_X4_depthOf⟩ rfl dX4_isUnder_23 (m_X4_depthOf (Cx_l C) hX (d := d - 1) (by omega) st0 p1 h) (by omega) (by decide) (Nat.le_of_ble_eq_true rfl) (fun s17 w12 hE13 hP14 => ?_) (fun s18 E15 q16 hE13 hP14 => ?_)
      rotate_left
      · exact False.elim hP14
      obtain ⟨r11, rfl, rfl, h⟩ := hP14
      refine X_tls ?_
      refine X_iconst (v := 1) C dX4_isUnder_26 rfl ?_
      refine X_iadd C dX4_isUnder_27 ?_
      refine X_icmp_eq (tgt := 33) C dX4_isUnder_28 (by decide) (fun c19 => ?_) (fun c19 => ?_)
      · have h := h.1 c19
        refine X_iload_n C dX4_isUnder_33 rfl 1 rfl ?_
        refine X_iconst (v := 1) C dX4_isUnder_34 rfl ?_
        refine X_iadd C dX4_isUnder_35 ?_
        refine X_topi (fun v20 e21 => ?_)
        have h := h v20 e21
        refine X_istore_n C dX4_isUnder_36 rfl (lo2 := [(3, _), (0, _), (1, _), (2, _)]) (by decide) rfl ?_
        refine X_sub [1, 2, 3, 0] (lo2 := [(0, _), (1, _), (2, _), (3, _)]) rfl ?_
        refine t_X4_isUnder_l37 hX hd C hn ?_ ?_ gFU p1 p2 v20 h
        · intro h
          exact t_X4_isUnder_b55 hX hd C hn h
        · intro h
          exact t_X4_isUnder_b63 hX hd C hn h
      · have h := h.2 c19
        refine X_iconst (v := 0) C dX4_isUnder_31 rfl ?_
        exact X_zret C rfl rfl dX4_isUnder_32 (hn _ h)

def w_X4_underMany_b32 (Φ : Int32 → Prop) (K6 : St → Int32 → Int32 → Int32 → Prop) (st0 : St) (x1 : Int32) (x3 : Int32) (z0 : Int32) (z1 : Int32) : Prop := ∀ v13 : Int32, v13 = (z1 + z0) → K6 st0 x1 v13 (x3 + 1)
theorem t_X4_underMany_b32 {θ : Th} {κ : Kx} {Ph : Ph} (hX : LX θ) {st0 : St} {d : Nat} (hd : 2 ≤ d) (C : Cx θ κ yX4_underMany cX4_underMany 4 (some Jvm.ClassFile.FieldType.int) [] d) {Φ : Int32 → Prop} (hn : ∀ r, Φ r → Ph.1 st0 (some (.int r))) {K6 : St → Int32 → Int32 → Int32 → Prop} (hK6 : ∀ (x1 : Int32) (x2 : Int32) (x3 : Int32), K6 st0 x1 x2 x3 → X θ κ Ph st0 6 [(0, .ref (ad θ 175)), (1, .int x1), (2, .int x2), (3, .int x3)] []) (x1 : Int32) (x3 : Int32) (z0 : Int32) (z1 : Int32) (h : w_X4_underMany_b32 Φ K6 st0 x1 x3 z0 z1) : X θ κ Ph st0 32 [(0, .ref (ad θ 175)), (1, .int x1), (3, .int x3)] [.int z0, .int z1] := by
  unfold w_X4_underMany_b32 at h
  refine X_iadd C dX4_underMany_32 ?_
  refine X_topi (fun v13 e14 => ?_)
  have h := h v13 e14
  refine X_istore_n C dX4_underMany_33 rfl (lo2 := [(2, _), (0, _), (1, _), (3, _)]) (by decide) rfl ?_
  refine X_iinc (v := (x3 + 1)) C (j := 3) dX4_underMany_34 rfl rfl (lo2 := [(3, _), (2, _), (0, _), (1, _)]) (by decide) rfl ?_
  refine X_goto (tgt := 6) C dX4_underMany_37 (by decide) ?_
  refine X_sub [2, 3, 1, 0] (lo2 := [(0, _), (1, _), (2, _), (3, _)]) rfl ?_
  exact hK6 x1 v13 (x3 + 1) h
def w_X4_underMany_l6 (Φ : Int32 → Prop) (E40 : St → Int32 → Prop) : Nat → St → Int32 → Int32 → Int32 → Prop
  | 0, _, _, _, _ => False
  | n + 1, st0, x1, x2, x3 => (((sI st0 177 35) ≤ x3) → E40 st0 x2) ∧ ((¬ (sI st0 177 35) ≤ x3) → w_X4_isUnder st0 x1 x3 (fun (r4 : Int32) => ((r4 = 0) → w_X4_underMany_b32 Φ (w_X4_underMany_l6 Φ E40 n) st0 x1 x3 0 x2) ∧ ((¬ r4 = 0) → w_X4_underMany_b32 Φ (w_X4_underMany_l6 Φ E40 n) st0 x1 x3 1 x2)))
theorem t_X4_underMany_l6 {θ : Th} {κ : Kx} {Ph : Ph} (hX : LX θ) {st0 : St} {d : Nat} (hd : 2 ≤ d) (C : Cx θ κ yX4_underMany cX4_underMany 4 (some Jvm.ClassFile.FieldType.int) [] d) {Φ : Int32 → Prop} (hn : ∀ r, Φ r → Ph.1 st0 (some (.int r))) {E40 : St → Int32 → Prop} (hE40 : ∀ (x2 : Int32), E40 st0 x2 → X θ κ Ph st0 40 [(2, .int x2)] []) : ∀ (n : Nat) (x1 : Int32) (x2 : Int32) (x3 : Int32), w_X4_underMany_l6 Φ E40 n st0 x1 x2 x3 → X θ κ Ph st0 6 [(0, .ref (ad θ 175)), (1, .int x1), (2, .int x2), (3, .int x3)] [] := by
  intro n
  induction n with
  | zero => intro x1 x2 x3 h; exact h.elim
  | succ n hK6 =>
    intro x1 x2 x3 h
    rw [w_X4_underMany_l6] at h
    refine X_iload_n C dX4_underMany_6 rfl 3 rfl ?_
    refine X_aload_n C dX4_underMany_7 rfl 0 rfl (isRV_r _) ?_
    refine X_getF (ci := 4) (j := 1) (q := (RX4, TX4, 54)) C rfl (by decide) q1767 rfl dX4_underMany_8 (b := 177) (LX_S hX (k := 175) rfl) (LX_F hX (k := 175) (j := 1) rfl) rfl ?_
    refine X_bipush (v := 35) C dX4_underMany_11 rfl ?_
    refine X_ialdS C (LX_S hX (k := 177) rfl) (LX_L hX (k := 177) rfl) (vp_dec rfl) rfl dX4_underMany_13 ?_
    refine X_icmp_ge (tgt := 40) C dX4_underMany_14 (by decide) (fun c3 => ?_) (fun c3 => ?_)
    · have h := h.1 c3
      refine X_sub [2] (lo2 := [(2, _)]) rfl ?_
      exact hE40 x2 h
    · have h := h.2 c3
      refine X_iload_n C dX4_underMany_17 rfl 2 rfl ?_
      refine X_aload_n C dX4_underMany_18 rfl 0 rfl (isRV_r _) ?_
      refine X_iload_n C dX4_underMany_19 rfl 1 rfl ?_
      refine X_iload_n C dX4_underMany_20 rfl 3 rfl ?_
      refine X_callVS (ci := 4) (q := (RX4, TX4, 54)) (As := [_, _]) (rest := [_]) C rfl (LX_S hX (k := 175) rfl) q2291 q2293 qs116 q136 q2294 ⟨rfl, nm_X4_isUnder⟩ rfl dX4_underMany_21 (m_X4_isUnder (Cx_l C) hX (d := d - 1) (by omega) st0 x1 x3 h) (by omega) (by decide) (Nat.le_of_ble_eq_true rfl) (fun s10 w5 hE6 hP7 => ?_) (fun s11 E8 q9 hE6 hP7 => ?_)
      rotate_left
      · exact False.elim hP7
      obtain ⟨r4, rfl, rfl, h⟩ := hP7
      refine X_tls ?_
      refine X_if_eq (tgt := 31) C dX4_underMany_24 (by decide) (fun c12 => ?_) (fun c12 => ?_)
      · have h := h.1 c12
        refine X_iconst (v := 0) C dX4_underMany_31 rfl ?_
        refine X_sub [0, 1, 3] (lo2 := [(0, _), (1, _), (3, _)]) rfl ?_
        exact t_X4_underMany_b32 hX hd C hn hK6 x1 x3 0 x2 h
      · have h := h.2 c12
        refine X_iconst (v := 1) C dX4_underMany_27 rfl ?_
        refine X_goto (tgt := 32) C dX4_underMany_28 (by decide) ?_
        refine X_sub [0, 1, 3] (lo2 := [(0, _), (1, _), (3, _)]) rfl ?_
        exact t_X4_underMany_b32 hX hd C hn hK6 x1 x3 1 x2 h
def w_X4_underMany_b40 (Φ : Int32 → Prop) (st0 : St) (x2 : Int32) : Prop := Φ x2
theorem t_X4_underMany_b40 {θ : Th} {κ : Kx} {Ph : Ph} (hX : LX θ) {st0 : St} {d : Nat} (hd : 2 ≤ d) (C : Cx θ κ yX4_underMany cX4_underMany 4 (some Jvm.ClassFile.FieldType.int) [] d) {Φ : Int32 → Prop} (hn : ∀ r, Φ r → Ph.1 st0 (some (.int r))) (x2 : Int32) (h : w_X4_underMany_b40 Φ st0 x2) : X θ κ Ph st0 40 [(2, .int x2)] [] := by
  unfold w_X4_underMany_b40 at h
  refine X_iload_n C dX4_underMany_40 rfl 0 rfl ?_
  exact X_iret C rfl dX4_underMany_41 (hn _ h)
def w_X4_underMany (st0 : St) (p1 : Int32) (Φ : Int32 → Prop) : Prop := ∀ v1 : Int32, v1 = (p1 + 1) → w_X4_underMany_l6 Φ (fun (_ : St) (x2 : Int32) => w_X4_underMany_b40 Φ st0 x2) gFU st0 p1 0 v1
theorem nm_X4_underMany : yX4_underMany.cls ≠ "java/lang/invoke/MethodHandle" ∧ yX4_underMany.cls ≠ "java/lang/invoke/VarHandle" ∧ (parseMethodDescriptor yX4_underMany.desc).map (fun d => d.parameters.length) = some 1 := by decide +kernel
theorem e_X4_underMany : plainFor yX4_underMany = true := plainFor_of_name (by decide +kernel)
theorem m_X4_underMany {θ : Th} {l : Launch} (hl0 : l.stackTraces = false) (hX : LX θ) {d : Nat} (hd : 2 ≤ d) (st0 : St) (p1 : Int32) {Φ : Int32 → Prop} (h : w_X4_underMany st0 p1 Φ) : Ct θ l yX4_underMany (ws_ yX4_underMany cX4_underMany 4 (some Jvm.ClassFile.FieldType.int)) d [.ref (ad θ 175), .int p1] st0 (rI st0 Φ, noX) := by
  refine Ct_entry hl0 e_X4_underMany (Nat.le_of_ble_eq_true rfl) (fun κ hκ _ C => ?_)
  have hn : ∀ r, Φ r → ((rI st0 Φ, noX) : Ph).1 st0 (some (.int r)) := fun r q => ⟨r, rfl, rfl, q⟩
  change X _ _ _ _ _ [(0, .ref (ad θ 175)), (1, .int p1)] _
  unfold w_X4_underMany at h
  refine X_iconst (v := 0) C dX4_underMany_0 rfl ?_
  refine X_istore_n C dX4_underMany_1 rfl (lo2 := [(2, _), (0, _), (1, _)]) (by decide) rfl ?_
  refine X_iload_n C dX4_underMany_2 rfl 2 rfl ?_
  refine X_iconst (v := 1) C dX4_underMany_3 rfl ?_
  refine X_iadd C dX4_underMany_4 ?_
  refine X_topi (fun v1 e2 => ?_)
  have h := h v1 e2
  refine X_istore_n C dX4_underMany_5 rfl (lo2 := [(3, _), (2, _), (0, _), (1, _)]) (by decide) rfl ?_
  refine X_sub [2, 3, 1, 0] (lo2 := [(0, _), (1, _), (2, _), (3, _)]) rfl ?_
  refine t_X4_underMany_l6 hX hd C hn ?_ gFU p1 0 v1 h
  · intro x2 h
    exact t_X4_underMany_b40 hX hd C hn x2 h

def w_X4_tree_b94 (Φ : St → Int32 → Prop) (K41 : St → Int32 → Int32 → Int32 → Int32 → Prop) (st : St) (x1 : Int32) (x2 : Int32) (x4 : Int32) (z0 : Int32) : Prop := K41 st x1 x2 z0 (x4 + 1)
theorem t_X4_tree_b94 {θ : Th} {κ : Kx} {Ph : Ph} (hX : LX θ) {d : Nat} (hd : 3 ≤ d) (C : Cx θ κ yX4_tree cX4_tree 5 (some Jvm.ClassFile.FieldType.int) [] d) {Φ : St → Int32 → Prop} (hn : ∀ st r, Φ st r → Ph.1 st (some (.int r))) {K41 : St → Int32 → Int32 → Int32 → Int32 → Prop} (hK41 : ∀ (st : St) (x1 : Int32) (x2 : Int32) (x3 : Int32) (x4 : Int32), K41 st x1 x2 x3 x4 → X θ κ Ph st 41 [(0, .ref (ad θ 175)), (1, .int x1), (2, .int x2), (3, .int x3), (4, .int x4)] []) (st : St) (x1 : Int32) (x2 : Int32) (x4 : Int32) (z0 : Int32) (h : w_X4_tree_b94 Φ K41 st x1 x2 x4 z0) : X θ κ Ph st 94 [(0, .ref (ad θ 175)), (1, .int x1), (2, .int x2), (4, .int x4)] [.int z0] := by
  unfold w_X4_tree_b94 at h
  refine X_istore_n C dX4_tree_94 rfl (lo2 := [(3, _), (0, _), (1, _), (2, _), (4, _)]) (by decide) rfl ?_
  refine X_iinc (v := (x4 + 1)) C (j := 4) dX4_tree_95 rfl rfl (lo2 := [(4, _), (3, _), (0, _), (1, _), (2, _)]) (by decide) rfl ?_
  refine X_goto (tgt := 41) C dX4_tree_98 (by decide) ?_
  refine X_sub [2, 3, 4, 1, 0] (lo2 := [(0, _), (1, _), (2, _), (3, _), (4, _)]) rfl ?_
  exact hK41 st x1 x2 z0 (x4 + 1) h
def w_X4_tree_b68 (Φ : St → Int32 → Prop) (K41 : St → Int32 → Int32 → Int32 → Int32 → Prop) (st : St) (x1 : Int32) (x3 : Int32) (x4 : Int32) (z0 : Int32) (z1 : Int32) : Prop := ∀ v21 : Int32, v21 = (z1 + z0) → w_X4_depthOf st x4 (fun (r23 : Int32) => (((r23 + 1) ≤ x3) → w_X4_tree_b94 Φ K41 st x1 v21 x4 x3) ∧ ((¬ (r23 + 1) ≤ x3) → w_X4_depthOf st x4 (fun (r32 : Int32) => w_X4_tree_b94 Φ K41 st x1 v21 x4 (r32 + 1))))
theorem t_X4_tree_b68 {θ : Th} {κ : Kx} {Ph : Ph} (hX : LX θ) {d : Nat} (hd : 3 ≤ d) (C : Cx θ κ yX4_tree cX4_tree 5 (some Jvm.ClassFile.FieldType.int) [] d) {Φ : St → Int32 → Prop} (hn : ∀ st r, Φ st r → Ph.1 st (some (.int r))) {K41 : St → Int32 → Int32 → Int32 → Int32 → Prop} (hK41 : ∀ (st : St) (x1 : Int32) (x2 : Int32) (x3 : Int32) (x4 : Int32), K41 st x1 x2 x3 x4 → X θ κ Ph st 41 [(0, .ref (ad θ 175)), (1, .int x1), (2, .int x2), (3, .int x3), (4, .int x4)] []) (st : St) (x1 : Int32) (x3 : Int32) (x4 : Int32) (z0 : Int32) (z1 : Int32) (h : w_X4_tree_b68 Φ K41 st x1 x3 x4 z0 z1) : X θ κ Ph st 68 [(0, .ref (ad θ 175)), (1, .int x1), (3, .int x3), (4, .int x4)] [.int z0, .int z1] := by
  unfold w_X4_tree_b68 at h
  refine X_iadd C dX4_tree_68 ?_
  refine X_topi (fun v21 e22 => ?_)
  have h := h v21 e22
  refine X_istore_n C dX4_tree_69 rfl (lo2 := [(2, _), (0, _), (1, _), (3, _), (4, _)]) (by decide) rfl ?_
  refine X_aload_n C dX4_tree_70 rfl 1 rfl (isRV_r _) ?_
  refine X_iload C dX4_tree_71 4 rfl ?_
  refine X_callVS (ci := 4) (q := (RX4, TX4, 54)) (As := [_]) (rest := []) C rfl (LX_S hX (k := 175) rfl) q2295 q2297 qs117 q136 q2298 ⟨rfl, nm_X4_depthOf⟩ rfl dX4_tree_73 (m_X4_depthOf (Cx_l C) hX (d := d - 1) (by omega) st x4 h) (by omega) (by decide) (Nat.le_of_ble_eq_true rfl) (fun s29 w24 hE25 hP26 => ?_) (fun s30 E27 q28 hE25 hP26 => ?_)
  rotate_left
  · exact False.elim hP26
  obtain ⟨r23, rfl, rfl, h⟩ := hP26
  refine X_tls ?_
  refine X_iconst (v := 1) C dX4_tree_76 rfl ?_
  refine X_iadd C dX4_tree_77 ?_
  refine X_iload_n C dX4_tree_78 rfl 3 rfl ?_
  refine X_icmp_le (tgt := 93) C dX4_tree_79 (by decide) (fun c31 => ?_) (fun c31 => ?_)
  · have h := h.1 c31
    refine X_iload_n C dX4_tree_93 rfl 3 rfl ?_
    refine X_sub [1, 2, 0, 4] (lo2 := [(0, _), (1, _), (2, _), (4, _)]) rfl ?_
    exact t_X4_tree_b94 hX hd C hn hK41 st x1 v21 x4 x3 h
  · have h := h.2 c31
    refine X_aload_n C dX4_tree_82 rfl 1 rfl (isRV_r _) ?_
    refine X_iload C dX4_tree_83 4 rfl ?_
    refine X_callVS (ci := 4) (q := (RX4, TX4, 54)) (As := [_]) (rest := []) C rfl (LX_S hX (k := 175) rfl) q2295 q2297 qs117 q136 q2298 ⟨rfl, nm_X4_depthOf⟩ rfl dX4_tree_85 (m_X4_depthOf (Cx_l C) hX (d := d - 1) (by omega) st x4 h) (by omega) (by decide) (Nat.le_of_ble_eq_true rfl) (fun s38 w33 hE34 hP35 => ?_) (fun s39 E36 q37 hE34 hP35 => ?_)
    rotate_left
    · exact False.elim hP35
    obtain ⟨r32, rfl, rfl, h⟩ := hP35
    refine X_tls ?_
    refine X_iconst (v := 1) C dX4_tree_88 rfl ?_
    refine X_iadd C dX4_tree_89 ?_
    refine X_goto (tgt := 94) C dX4_tree_90 (by decide) ?_
    refine X_sub [1, 2, 0, 4] (lo2 := [(0, _), (1, _), (2, _), (4, _)]) rfl ?_
    exact t_X4_tree_b94 hX hd C hn hK41 st x1 v21 x4 (r32 + 1) h
def w_X4_tree_l41 (Φ : St → Int32 → Prop) (E101 : St → Int32 → Int32 → Int32 → Prop) : Nat → St → Int32 → Int32 → Int32 → Int32 → Prop
  | 0, _, _, _, _, _ => False
  | n + 1, st, x1, x2, x3, x4 => (((sI st 177 35) ≤ x4) → E101 st x1 x2 x3) ∧ ((¬ (sI st 177 35) ≤ x4) → w_X4_underMany st x4 (fun (r12 : Int32) => ((r12 ≠ 0) → w_X4_tree_b68 Φ (w_X4_tree_l41 Φ E101 n) st x1 x3 x4 0 x2) ∧ ((r12 = 0) → w_X4_tree_b68 Φ (w_X4_tree_l41 Φ E101 n) st x1 x3 x4 1 x2)))
theorem t_X4_tree_l41 {θ : Th} {κ : Kx} {Ph : Ph} (hX : LX θ) {d : Nat} (hd : 3 ≤ d) (C : Cx θ κ yX4_tree cX4_tree 5 (some Jvm.ClassFile.FieldType.int) [] d) {Φ : St → Int32 → Prop} (hn : ∀ st r, Φ st r → Ph.1 st (some (.int r))) {E101 : St → Int32 → Int32 → Int32 → Prop} (hE101 : ∀ (st : St) (x1 : Int32) (x2 : Int32) (x3 : Int32), E101 st x1 x2 x3 → X θ κ Ph st 101 [(0, .ref (ad θ 175)), (1, .int x1), (2, .int x2), (3, .int x3)] []) : ∀ (n : Nat) (st : St) (x1 : Int32) (x2 : Int32) (x3 : Int32) (x4 : Int32), w_X4_tree_l41 Φ E101 n st x1 x2 x3 x4 → X θ κ Ph st 41 [(0, .ref (ad θ 175)), (1, .int x1), (2, .int x2), (3, .int x3), (4, .int x4)] [] := by
  intro n
  induction n with
  | zero => intro st x1 x2 x3 x4 h; exact h.elim
  | succ n hK41 =>
    intro st x1 x2 x3 x4 h
    rw [w_X4_tree_l41] at h
    refine X_iload C dX4_tree_41 4 rfl ?_
    refine X_aload_n C dX4_tree_43 rfl 0 rfl (isRV_r _) ?_
    refine X_getF (ci := 4) (j := 1) (q := (RX4, TX4, 54)) C rfl (by decide) q1767 rfl dX4_tree_44 (b := 177) (LX_S hX (k := 175) rfl) (LX_F hX (k := 175) (j := 1) rfl) rfl ?_
    refine X_bipush (v := 35) C dX4_tree_47 rfl ?_
    refine X_ialdS C (LX_S hX (k := 177) rfl) (LX_L hX (k := 177) rfl) (vp_dec rfl) rfl dX4_tree_49 ?_
    refine X_icmp_ge (tgt := 101) C dX4_tree_50 (by decide) (fun c11 => ?_) (fun c11 => ?_)
    · have h := h.1 c11
      refine X_sub [0, 1, 2, 3] (lo2 := [(0, _), (1, _), (2, _), (3, _)]) rfl ?_
      exact hE101 st x1 x2 x3 h
    · have h := h.2 c11
      refine X_iload_n C dX4_tree_53 rfl 2 rfl ?_
      refine X_aload_n C dX4_tree_54 rfl 0 rfl (isRV_r _) ?_
      refine X_iload C dX4_tree_55 4 rfl ?_
      refine X_callVS (ci := 4) (q := (RX4, TX4, 54)) (As := [_]) (rest := [_]) C rfl (LX_S hX (k := 175) rfl) q2287 q2289 qs115 q136 q2290 ⟨rfl, nm_X4_underMany⟩ rfl dX4_tree_57 (m_X4_underMany (Cx_l C) hX (d := d - 1) (by omega) st x4 h) (by omega) (by decide) (Nat.le_of_ble_eq_true rfl) (fun s18 w13 hE14 hP15 => ?_) (fun s19 E16 q17 hE14 hP15 => ?_)
      rotate_left
      · exact False.elim hP15
      obtain ⟨r12, rfl, rfl, h⟩ := hP15
      refine X_tls ?_
      refine X_if_ne (tgt := 67) C dX4_tree_60 (by decide) (fun c20 => ?_) (fun c20 => ?_)
      · have h := h.1 c20
        refine X_iconst (v := 0) C dX4_tree_67 rfl ?_
        refine X_sub [0, 1, 3, 4] (lo2 := [(0, _), (1, _), (3, _), (4, _)]) rfl ?_
        exact t_X4_tree_b68 hX hd C hn hK41 st x1 x3 x4 0 x2 h
      · have h := h.2 c20
        refine X_iconst (v := 1) C dX4_tree_63 rfl ?_
        refine X_goto (tgt := 68) C dX4_tree_64 (by decide) ?_
        refine X_sub [0, 1, 3, 4] (lo2 := [(0, _), (1, _), (3, _), (4, _)]) rfl ?_
        exact t_X4_tree_b68 hX hd C hn hK41 st x1 x3 x4 1 x2 h
def w_X4_tree_b101 (Φ : St → Int32 → Prop) (st : St) (x1 : Int32) (x2 : Int32) (x3 : Int32) : Prop := ((x1 ≠ 0) → ((x1 ≠ 1) → ((x1 ≠ 2) → Φ st (sI st 177 36)) ∧ ((x1 = 2) → Φ st x3)) ∧ ((x1 = 1) → Φ st x2)) ∧ ((x1 = 0) → Φ st (sI st 177 35))
theorem t_X4_tree_b101 {θ : Th} {κ : Kx} {Ph : Ph} (hX : LX θ) {d : Nat} (hd : 3 ≤ d) (C : Cx θ κ yX4_tree cX4_tree 5 (some Jvm.ClassFile.FieldType.int) [] d) {Φ : St → Int32 → Prop} (hn : ∀ st r, Φ st r → Ph.1 st (some (.int r))) (st : St) (x1 : Int32) (x2 : Int32) (x3 : Int32) (h : w_X4_tree_b101 Φ st x1 x2 x3) : X θ κ Ph st 101 [(0, .ref (ad θ 175)), (1, .int x1), (2, .int x2), (3, .int x3)] [] := by
  unfold w_X4_tree_b101 at h
  refine X_iload_n C dX4_tree_101 rfl 1 rfl ?_
  refine X_if_ne (tgt := 115) C dX4_tree_102 (by decide) (fun c41 => ?_) (fun c41 => ?_)
  · have h := h.1 c41
    refine X_iload_n C dX4_tree_115 rfl 1 rfl ?_
    refine X_iconst (v := 1) C dX4_tree_116 rfl ?_
    refine X_icmp_ne (tgt := 124) C dX4_tree_117 (by decide) (fun c42 => ?_) (fun c42 => ?_)
    · have h := h.1 c42
      refine X_iload_n C dX4_tree_124 rfl 1 rfl ?_
      refine X_iconst (v := 2) C dX4_tree_125 rfl ?_
      refine X_icmp_ne (tgt := 133) C dX4_tree_126 (by decide) (fun c43 => ?_) (fun c43 => ?_)
      · have h := h.1 c43
        refine X_aload_n C dX4_tree_133 rfl 0 rfl (isRV_r _) ?_
        refine X_getF (ci := 4) (j := 1) (q := (RX4, TX4, 54)) C rfl (by decide) q1767 rfl dX4_tree_134 (b := 177) (LX_S hX (k := 175) rfl) (LX_F hX (k := 175) (j := 1) rfl) rfl ?_
        refine X_bipush (v := 36) C dX4_tree_137 rfl ?_
        refine X_ialdS C (LX_S hX (k := 177) rfl) (LX_L hX (k := 177) rfl) (vp_dec rfl) rfl dX4_tree_139 ?_
        exact X_iret C rfl dX4_tree_140 (hn st _ h)
      · have h := h.2 c43
        refine X_iload_n C dX4_tree_129 rfl 3 rfl ?_
        refine X_goto (tgt := 140) C dX4_tree_130 (by decide) ?_
        exact X_iret C rfl dX4_tree_140 (hn st _ h)
    · have h := h.2 c42
      refine X_iload_n C dX4_tree_120 rfl 2 rfl ?_
      refine X_goto (tgt := 140) C dX4_tree_121 (by decide) ?_
      exact X_iret C rfl dX4_tree_140 (hn st _ h)
  · have h := h.2 c41
    refine X_aload_n C dX4_tree_105 rfl 0 rfl (isRV_r _) ?_
    refine X_getF (ci := 4) (j := 1) (q := (RX4, TX4, 54)) C rfl (by decide) q1767 rfl dX4_tree_106 (b := 177) (LX_S hX (k := 175) rfl) (LX_F hX (k := 175) (j := 1) rfl) rfl ?_
    refine X_bipush (v := 35) C dX4_tree_109 rfl ?_
    refine X_ialdS C (LX_S hX (k := 177) rfl) (LX_L hX (k := 177) rfl) (vp_dec rfl) rfl dX4_tree_111 ?_
    refine X_goto (tgt := 140) C dX4_tree_112 (by decide) ?_
    exact X_iret C rfl dX4_tree_140 (hn st _ h)
def w_X4_tree (st : St) (p1 : Int32) (Φ : St → Int32 → Prop) : Prop := w_X4_isIn p1.toInt64 0 3 (fun (r1 : Int32) => ((r1 ≠ 0) → (((sI st 177 35) ≠ 0) → w_X4_tree_l41 Φ (fun (s40 : St) (x1 : Int32) (x2 : Int32) (x3 : Int32) => w_X4_tree_b101 Φ s40 x1 x2 x3) gFU st p1 0 0 0) ∧ (((sI st 177 35) = 0) → w_X4_finds st 2 (fun (s45 : St) (r44 : Int32) => Φ s45 r44))) ∧ ((r1 = 0) → w_X4_finds st 1 (fun (s53 : St) (r52 : Int32) => Φ s53 r52)))
theorem nm_X4_tree : yX4_tree.cls ≠ "java/lang/invoke/MethodHandle" ∧ yX4_tree.cls ≠ "java/lang/invoke/VarHandle" ∧ (parseMethodDescriptor yX4_tree.desc).map (fun d => d.parameters.length) = some 1 := by decide +kernel
theorem e_X4_tree : plainFor yX4_tree = true := plainFor_of_name (by decide +kernel)
theorem m_X4_tree {θ : Th} {l : Launch} (hl0 : l.stackTraces = false) (hX : LX θ) {d : Nat} (hd : 3 ≤ d) (st : St) (p1 : Int32) {Φ : St → Int32 → Prop} (h : w_X4_tree st p1 Φ) : Ct θ l yX4_tree (ws_ yX4_tree cX4_tree 5 (some Jvm.ClassFile.FieldType.int)) d [.ref (ad θ 175), .int p1] st (pI Φ, noX) := by
  refine Ct_entry hl0 e_X4_tree (Nat.le_of_ble_eq_true rfl) (fun κ hκ _ C => ?_)
  have hn : ∀ st r, Φ st r → ((pI Φ, noX) : Ph).1 st (some (.int r)) := fun st r q => ⟨r, rfl, q⟩
  change X _ _ _ _ _ [(0, .ref (ad θ 175)), (1, .int p1)] _
  unfold w_X4_tree at h
  refine X_iload_n C dX4_tree_0 rfl 1 rfl ?_
  refine X_i2l C dX4_tree_1 ?_
  refine X_lconst (v := 0) C dX4_tree_2 rfl ?_
  refine X_ldc2 C q1935 dX4_tree_3 ?_
  refine X_callS (As := [_, _, _]) (rest := []) C q1936 q1937 q136 q1938 nm_X4_isIn rfl dX4_tree_6 (m_X4_isIn (Cx_l C) hX (d := d - 1) (by omega) st p1.toInt64 0 3 h) (by omega) (by decide) (Nat.le_of_ble_eq_true rfl) (fun s7 w2 hE3 hP4 => ?_) (fun s8 E5 q6 hE3 hP4 => ?_)
  rotate_left
  · exact False.elim hP4
  obtain ⟨r1, rfl, rfl, h⟩ := hP4
  refine X_tls ?_
  refine X_if_ne (tgt := 18) C dX4_tree_9 (by decide) (fun c9 => ?_) (fun c9 => ?_)
  · have h := h.1 c9
    refine X_aload_n C dX4_tree_18 rfl 0 rfl (isRV_r _) ?_
    refine X_getF (ci := 4) (j := 1) (q := (RX4, TX4, 54)) C rfl (by decide) q1767 rfl dX4_tree_19 (b := 177) (LX_S hX (k := 175) rfl) (LX_F hX (k := 175) (j := 1) rfl) rfl ?_
    refine X_bipush (v := 35) C dX4_tree_22 rfl ?_
    refine X_ialdS C (LX_S hX (k := 177) rfl) (LX_L hX (k := 177) rfl) (vp_dec rfl) rfl dX4_tree_24 ?_
    refine X_if_ne (tgt := 34) C dX4_tree_25 (by decide) (fun c10 => ?_) (fun c10 => ?_)
    · have h := h.1 c10
      refine X_iconst (v := 0) C dX4_tree_34 rfl ?_
      refine X_istore_n C dX4_tree_35 rfl (lo2 := [(2, _), (0, _), (1, _)]) (by decide) rfl ?_
      refine X_iconst (v := 0) C dX4_tree_36 rfl ?_
      refine X_istore_n C dX4_tree_37 rfl (lo2 := [(3, _), (2, _), (0, _), (1, _)]) (by decide) rfl ?_
      refine X_iconst (v := 0) C dX4_tree_38 rfl ?_
      refine X_istore C dX4_tree_39 (lo2 := [(4, _), (3, _), (2, _), (0, _), (1, _)]) (by decide) rfl ?_
      refine X_sub [3, 4, 2, 1, 0] (lo2 := [(0, _), (1, _), (2, _), (3, _), (4, _)]) rfl ?_
      refine t_X4_tree_l41 hX hd C hn ?_ gFU st p1 0 0 0 h
      · intro s40 x1 x2 x3 h
        exact t_X4_tree_b101 hX hd C hn s40 x1 x2 x3 h
    · have h := h.2 c10
      refine X_aload_n C dX4_tree_28 rfl 0 rfl (isRV_r _) ?_
      refine X_iconst (v := 2) C dX4_tree_29 rfl ?_
      refine X_callVS (ci := 4) (q := (RX4, TX4, 54)) (As := [_]) (rest := []) C rfl (LX_S hX (k := 175) rfl) q1939 q1941 qs63 q136 q1942 ⟨rfl, nm_X4_finds⟩ rfl dX4_tree_30 (m_X4_finds (Cx_l C) hX (d := d - 1) (by omega) st 2 h) (by omega) (by decide) (Nat.le_of_ble_eq_true rfl) (fun s45 w46 hE47 hP48 => ?_) (fun s51 E49 q50 hE47 hP48 => ?_)
      rotate_left
      · exact False.elim hP48
      obtain ⟨r44, rfl, h⟩ := hP48
      refine X_tls ?_
      exact X_iret C rfl dX4_tree_33 (hn s45 _ h)
  · have h := h.2 c9
    refine X_aload_n C dX4_tree_12 rfl 0 rfl (isRV_r _) ?_
    refine X_iconst (v := 1) C dX4_tree_13 rfl ?_
    refine X_callVS (ci := 4) (q := (RX4, TX4, 54)) (As := [_]) (rest := []) C rfl (LX_S hX (k := 175) rfl) q1939 q1941 qs63 q136 q1942 ⟨rfl, nm_X4_finds⟩ rfl dX4_tree_14 (m_X4_finds (Cx_l C) hX (d := d - 1) (by omega) st 1 h) (by omega) (by decide) (Nat.le_of_ble_eq_true rfl) (fun s53 w54 hE55 hP56 => ?_) (fun s59 E57 q58 hE55 hP56 => ?_)
    rotate_left
    · exact False.elim hP56
    obtain ⟨r52, rfl, h⟩ := hP56
    refine X_tls ?_
    exact X_iret C rfl dX4_tree_17 (hn s53 _ h)

def w_X4_weighsUnder_b59 (Φ : St → Prop) (K9 : St → Int32 → Int32 → Int32 → Prop) (st : St) (x1 : Int32) (x2 : Int32) (x3 : Int32) : Prop := K9 st x1 x2 (x3 + 1)
theorem t_X4_weighsUnder_b59 {θ : Th} {κ : Kx} {Ph : Ph} (hX : LX θ) {d : Nat} (hd : 4 ≤ d) (C : Cx θ κ yX4_weighsUnder cX4_weighsUnder 4 (none : Option Jvm.ClassFile.FieldType) [] d) {Φ : St → Prop} (hn : ∀ st, Φ st → Ph.1 st none) {K9 : St → Int32 → Int32 → Int32 → Prop} (hK9 : ∀ (st : St) (x1 : Int32) (x2 : Int32) (x3 : Int32), K9 st x1 x2 x3 → X θ κ Ph st 9 [(0, .ref (ad θ 175)), (1, .int x1), (2, .int x2), (3, .int x3)] []) (st : St) (x1 : Int32) (x2 : Int32) (x3 : Int32) (h : w_X4_weighsUnder_b59 Φ K9 st x1 x2 x3) : X θ κ Ph st 59 [(0, .ref (ad θ 175)), (1, .int x1), (2, .int x2), (3, .int x3)] [] := by
  unfold w_X4_weighsUnder_b59 at h
  refine X_iinc (v := (x3 + 1)) C (j := 3) dX4_weighsUnder_59 rfl rfl (lo2 := [(3, _), (0, _), (1, _), (2, _)]) (by decide) rfl ?_
  refine X_goto (tgt := 9) C dX4_weighsUnder_62 (by decide) ?_
  refine X_sub [1, 2, 3, 0] (lo2 := [(0, _), (1, _), (2, _), (3, _)]) rfl ?_
  exact hK9 st x1 x2 (x3 + 1) h
def w_X4_weighsUnder_l9 (Φ : St → Prop) (E65 : St → Int32 → Int32 → Prop) : Nat → St → Int32 → Int32 → Int32 → Prop
  | 0, _, _, _, _ => False
  | n + 1, st, x1, x2, x3 => (((sI st 177 35) ≤ x3) → E65 st x1 x2) ∧ ((¬ (sI st 177 35) ≤ x3) → w_X4_isUnder st x1 x3 (fun (r6 : Int32) => ((r6 = 0) → w_X4_weighsUnder_b59 Φ (w_X4_weighsUnder_l9 Φ E65 n) st x1 x2 x3) ∧ ((¬ r6 = 0) → vp_in (36 + (3 * x3)) 97 ∧ vp_in (sI st 175 36) 3 ∧ ∀ s17, s17 = putI st 197 ((sI st 175 36).toNatClampNeg) (sI st 177 (36 + (3 * x3)).toNatClampNeg) → ∀ s19, s19 = putI s17 175 36 ((sI s17 175 36) + 1) → w_X4_weighsUnder_b59 Φ (w_X4_weighsUnder_l9 Φ E65 n) s19 x1 x2 x3)))
theorem t_X4_weighsUnder_l9 {θ : Th} {κ : Kx} {Ph : Ph} (hX : LX θ) {d : Nat} (hd : 4 ≤ d) (C : Cx θ κ yX4_weighsUnder cX4_weighsUnder 4 (none : Option Jvm.ClassFile.FieldType) [] d) {Φ : St → Prop} (hn : ∀ st, Φ st → Ph.1 st none) {E65 : St → Int32 → Int32 → Prop} (hE65 : ∀ (st : St) (x1 : Int32) (x2 : Int32), E65 st x1 x2 → X θ κ Ph st 65 [(0, .ref (ad θ 175)), (1, .int x1), (2, .int x2)] []) : ∀ (n : Nat) (st : St) (x1 : Int32) (x2 : Int32) (x3 : Int32), w_X4_weighsUnder_l9 Φ E65 n st x1 x2 x3 → X θ κ Ph st 9 [(0, .ref (ad θ 175)), (1, .int x1), (2, .int x2), (3, .int x3)] [] := by
  intro n
  induction n with
  | zero => intro st x1 x2 x3 h; exact h.elim
  | succ n hK9 =>
    intro st x1 x2 x3 h
    rw [w_X4_weighsUnder_l9] at h
    refine X_iload_n C dX4_weighsUnder_9 rfl 3 rfl ?_
    refine X_aload_n C dX4_weighsUnder_10 rfl 0 rfl (isRV_r _) ?_
    refine X_getF (ci := 4) (j := 1) (q := (RX4, TX4, 54)) C rfl (by decide) q1767 rfl dX4_weighsUnder_11 (b := 177) (LX_S hX (k := 175) rfl) (LX_F hX (k := 175) (j := 1) rfl) rfl ?_
    refine X_bipush (v := 35) C dX4_weighsUnder_14 rfl ?_
    refine X_ialdS C (LX_S hX (k := 177) rfl) (LX_L hX (k := 177) rfl) (vp_dec rfl) rfl dX4_weighsUnder_16 ?_
    refine X_icmp_ge (tgt := 65) C dX4_weighsUnder_17 (by decide) (fun c5 => ?_) (fun c5 => ?_)
    · have h := h.1 c5
      refine X_sub [0, 1, 2] (lo2 := [(0, _), (1, _), (2, _)]) rfl ?_
      exact hE65 st x1 x2 h
    · have h := h.2 c5
      refine X_aload_n C dX4_weighsUnder_20 rfl 0 rfl (isRV_r _) ?_
      refine X_iload_n C dX4_weighsUnder_21 rfl 1 rfl ?_
      refine X_iload_n C dX4_weighsUnder_22 rfl 3 rfl ?_
      refine X_callVS (ci := 4) (q := (RX4, TX4, 54)) (As := [_, _]) (rest := []) C rfl (LX_S hX (k := 175) rfl) q2291 q2293 qs116 q136 q2294 ⟨rfl, nm_X4_isUnder⟩ rfl dX4_weighsUnder_23 (m_X4_isUnder (Cx_l C) hX (d := d - 1) (by omega) st x1 x3 h) (by omega) (by decide) (Nat.le_of_ble_eq_true rfl) (fun s12 w7 hE8 hP9 => ?_) (fun s13 E10 q11 hE8 hP9 => ?_)
      rotate_left
      · exact False.elim hP9
      obtain ⟨r6, rfl, rfl, h⟩ := hP9
      refine X_tls ?_
      refine X_if_eq (tgt := 59) C dX4_weighsUnder_26 (by decide) (fun c14 => ?_) (fun c14 => ?_)
      · have h := h.1 c14
        exact t_X4_weighsUnder_b59 hX hd C hn hK9 st x1 x2 x3 h
      · have h := h.2 c14
        refine X_aload_n C dX4_weighsUnder_29 rfl 0 rfl (isRV_r _) ?_
        refine X_getF (ci := 4) (j := 35) (q := (RX4, TX4, 54)) C rfl (by decide) q1801 rfl dX4_weighsUnder_30 (b := 197) (LX_S hX (k := 175) rfl) (LX_F hX (k := 175) (j := 35) rfl) rfl ?_
        refine X_aload_n C dX4_weighsUnder_33 rfl 0 rfl (isRV_r _) ?_
        refine X_getS (ci := 4) (j := 36) (q := (RX4, TX4, 54)) C rfl (by decide) q1802 rfl dX4_weighsUnder_34 (LX_S hX (k := 175) rfl) (v := .int (sI st 175 36)) rfl ?_
        refine X_aload_n C dX4_weighsUnder_37 rfl 0 rfl (isRV_r _) ?_
        refine X_getF (ci := 4) (j := 1) (q := (RX4, TX4, 54)) C rfl (by decide) q1767 rfl dX4_weighsUnder_38 (b := 177) (LX_S hX (k := 175) rfl) (LX_F hX (k := 175) (j := 1) rfl) rfl ?_
        refine X_bipush (v := 36) C dX4_weighsUnder_41 rfl ?_
        refine X_iconst (v := 3) C dX4_weighsUnder_43 rfl ?_
        refine X_iload_n C dX4_weighsUnder_44 rfl 3 rfl ?_
        refine X_imul C dX4_weighsUnder_45 ?_
        refine X_iadd C dX4_weighsUnder_46 ?_
        have g15 := h.1
        have h := h.2
        refine X_ialdS C (LX_S hX (k := 177) rfl) (LX_L hX (k := 177) rfl) g15 rfl dX4_weighsUnder_47 ?_
        have g16 := h.1
        have h := h.2
        refine X_iastS C (LX_S hX (k := 197) rfl) (LX_L hX (k := 197) rfl) g16 rfl dX4_weighsUnder_48 ?_
        refine X_nm (fun s17 e18 => ?_)
        have h := h s17 e18
        refine X_aload_n C dX4_weighsUnder_49 rfl 0 rfl (isRV_r _) ?_
        refine X_dup C dX4_weighsUnder_50 rfl ?_
        refine X_getS (ci := 4) (j := 36) (q := (RX4, TX4, 54)) C rfl (by decide) q1802 rfl dX4_weighsUnder_51 (LX_S hX (k := 175) rfl) (v := .int (sI s17 175 36)) rfl ?_
        refine X_iconst (v := 1) C dX4_weighsUnder_54 rfl ?_
        refine X_iadd C dX4_weighsUnder_55 ?_
        refine X_putSI (ci := 4) (j := 36) (q := (RX4, TX4, 54)) C rfl (by decide) q1802 rfl rfl dX4_weighsUnder_56 (LX_S hX (k := 175) rfl) rfl rfl rfl ?_
        refine X_nm (fun s19 e20 => ?_)
        have h := h s19 e20
        exact t_X4_weighsUnder_b59 hX hd C hn hK9 s19 x1 x2 x3 h
def w_X4_weighsUnder_b65 (Φ : St → Prop) (st : St) (x1 : Int32) (x2 : Int32) : Prop := vp_in (36 + (3 * x1)) 97 ∧ w_X4_weighs st (sI st 177 (36 + (3 * x1)).toNatClampNeg) (fun (s24 : St) (r23 : Int32) => vp_in x2 3 ∧ w_X4_lowest s24 (sL s24 198 x2.toNatClampNeg) (sL s24 175 38) (fun (s33 : St) => Φ s33))
theorem t_X4_weighsUnder_b65 {θ : Th} {κ : Kx} {Ph : Ph} (hX : LX θ) {d : Nat} (hd : 4 ≤ d) (C : Cx θ κ yX4_weighsUnder cX4_weighsUnder 4 (none : Option Jvm.ClassFile.FieldType) [] d) {Φ : St → Prop} (hn : ∀ st, Φ st → Ph.1 st none) (st : St) (x1 : Int32) (x2 : Int32) (h : w_X4_weighsUnder_b65 Φ st x1 x2) : X θ κ Ph st 65 [(0, .ref (ad θ 175)), (1, .int x1), (2, .int x2)] [] := by
  unfold w_X4_weighsUnder_b65 at h
  refine X_aload_n C dX4_weighsUnder_65 rfl 0 rfl (isRV_r _) ?_
  refine X_aload_n C dX4_weighsUnder_66 rfl 0 rfl (isRV_r _) ?_
  refine X_getF (ci := 4) (j := 1) (q := (RX4, TX4, 54)) C rfl (by decide) q1767 rfl dX4_weighsUnder_67 (b := 177) (LX_S hX (k := 175) rfl) (LX_F hX (k := 175) (j := 1) rfl) rfl ?_
  refine X_bipush (v := 36) C dX4_weighsUnder_70 rfl ?_
  refine X_iconst (v := 3) C dX4_weighsUnder_72 rfl ?_
  refine X_iload_n C dX4_weighsUnder_73 rfl 1 rfl ?_
  refine X_imul C dX4_weighsUnder_74 ?_
  refine X_iadd C dX4_weighsUnder_75 ?_
  have g22 := h.1
  have h := h.2
  refine X_ialdS C (LX_S hX (k := 177) rfl) (LX_L hX (k := 177) rfl) g22 rfl dX4_weighsUnder_76 ?_
  refine X_callVS (ci := 4) (q := (RX4, TX4, 54)) (As := [_]) (rest := []) C rfl (LX_S hX (k := 175) rfl) q2116 q2118 qs87 q136 q2119 ⟨rfl, nm_X4_weighs⟩ rfl dX4_weighsUnder_77 (m_X4_weighs (Cx_l C) hX (d := d - 1) (by omega) st (sI st 177 (36 + (3 * x1)).toNatClampNeg) h) (by omega) (by decide) (Nat.le_of_ble_eq_true rfl) (fun s24 w25 hE26 hP27 => ?_) (fun s30 E28 q29 hE26 hP27 => ?_)
  rotate_left
  · exact False.elim hP27
  obtain ⟨r23, rfl, h⟩ := hP27
  refine X_tls ?_
  refine X_pop C dX4_weighsUnder_80 rfl ?_
  refine X_aload_n C dX4_weighsUnder_81 rfl 0 rfl (isRV_r _) ?_
  refine X_aload_n C dX4_weighsUnder_82 rfl 0 rfl (isRV_r _) ?_
  refine X_getF (ci := 4) (j := 37) (q := (RX4, TX4, 54)) C rfl (by decide) q1803 rfl dX4_weighsUnder_83 (b := 198) (LX_S hX (k := 175) rfl) (LX_F hX (k := 175) (j := 37) rfl) rfl ?_
  refine X_iload_n C dX4_weighsUnder_86 rfl 2 rfl ?_
  have g31 := h.1
  have h := h.2
  refine X_laldS C (LX_S hX (k := 198) rfl) (LX_L hX (k := 198) rfl) g31 rfl dX4_weighsUnder_87 ?_
  refine X_aload_n C dX4_weighsUnder_88 rfl 0 rfl (isRV_r _) ?_
  refine X_getS (ci := 4) (j := 38) (q := (RX4, TX4, 54)) C rfl (by decide) q1804 rfl dX4_weighsUnder_89 (LX_S hX (k := 175) rfl) (v := .long (sL s24 175 38)) rfl ?_
  refine X_callVS (ci := 4) (q := (RX4, TX4, 54)) (As := [_, _]) (rest := []) C rfl (LX_S hX (k := 175) rfl) q2081 q2083 qs82 q136 q2084 ⟨rfl, nm_X4_lowest⟩ rfl dX4_weighsUnder_92 (m_X4_lowest (Cx_l C) hX (d := d - 1) (by omega) s24 (sL s24 198 x2.toNatClampNeg) (sL s24 175 38) h) (by omega) (by decide) (Nat.le_of_ble_eq_true rfl) (fun s33 w34 hE35 hP36 => ?_) (fun s39 E37 q38 hE35 hP36 => ?_)
  rotate_left
  · exact False.elim hP36
  obtain ⟨rfl, h⟩ := hP36
  refine X_tln ?_
  exact X_vret C rfl dX4_weighsUnder_95 (hn s33 h)
def w_X4_weighsUnder (st : St) (p1 : Int32) (p2 : Int32) (Φ : St → Prop) : Prop := ∀ s1, s1 = putI st 175 36 0 → ∀ v3 : Int32, v3 = (p1 + 1) → w_X4_weighsUnder_l9 Φ (fun (s21 : St) (x1 : Int32) (x2 : Int32) => w_X4_weighsUnder_b65 Φ s21 x1 x2) gFU s1 p1 p2 v3
theorem nm_X4_weighsUnder : yX4_weighsUnder.cls ≠ "java/lang/invoke/MethodHandle" ∧ yX4_weighsUnder.cls ≠ "java/lang/invoke/VarHandle" ∧ (parseMethodDescriptor yX4_weighsUnder.desc).map (fun d => d.parameters.length) = some 2 := by decide +kernel
theorem e_X4_weighsUnder : plainFor yX4_weighsUnder = true := plainFor_of_name (by decide +kernel)
theorem m_X4_weighsUnder {θ : Th} {l : Launch} (hl0 : l.stackTraces = false) (hX : LX θ) {d : Nat} (hd : 4 ≤ d) (st : St) (p1 : Int32) (p2 : Int32) {Φ : St → Prop} (h : w_X4_weighsUnder st p1 p2 Φ) : Ct θ l yX4_weighsUnder (ws_ yX4_weighsUnder cX4_weighsUnder 4 (none : Option Jvm.ClassFile.FieldType)) d [.ref (ad θ 175), .int p1, .int p2] st (pV Φ, noX) := by
  refine Ct_entry hl0 e_X4_weighsUnder (Nat.le_of_ble_eq_true rfl) (fun κ hκ _ C => ?_)
  have hn : ∀ st, Φ st → ((pV Φ, noX) : Ph).1 st none := fun st q => ⟨rfl, q⟩
  change X _ _ _ _ _ [(0, .ref (ad θ 175)), (1, .int p1), (2, .int p2)] _
  unfold w_X4_weighsUnder at h
  refine X_aload_n C dX4_weighsUnder_0 rfl 0 rfl (isRV_r _) ?_
  refine X_iconst (v := 0) C dX4_weighsUnder_1 rfl ?_
  refine X_putSI (ci := 4) (j := 36) (q := (RX4, TX4, 54)) C rfl (by decide) q1802 rfl rfl dX4_weighsUnder_2 (LX_S hX (k := 175) rfl) rfl rfl rfl ?_
  refine X_nm (fun s1 e2 => ?_)
  have h := h s1 e2
  refine X_iload_n C dX4_weighsUnder_5 rfl 1 rfl ?_
  refine X_iconst (v := 1) C dX4_weighsUnder_6 rfl ?_
  refine X_iadd C dX4_weighsUnder_7 ?_
  refine X_topi (fun v3 e4 => ?_)
  have h := h v3 e4
  refine X_istore_n C dX4_weighsUnder_8 rfl (lo2 := [(3, _), (0, _), (1, _), (2, _)]) (by decide) rfl ?_
  refine X_sub [1, 2, 3, 0] (lo2 := [(0, _), (1, _), (2, _), (3, _)]) rfl ?_
  refine t_X4_weighsUnder_l9 hX hd C hn ?_ gFU s1 p1 p2 v3 h
  · intro s21 x1 x2 h
    exact t_X4_weighsUnder_b65 hX hd C hn s21 x1 x2 h

def w_X4_puts (st : St) (p1 : Int32) (Φ : St → Prop) : Prop := vp_in (sI st 175 14) 600 ∧ ∀ s2, s2 = putI st 184 ((sI st 175 14).toNatClampNeg) p1 → ∀ s4, s4 = putI s2 175 14 ((sI s2 175 14) + 1) → Φ s4
theorem nm_X4_puts : yX4_puts.cls ≠ "java/lang/invoke/MethodHandle" ∧ yX4_puts.cls ≠ "java/lang/invoke/VarHandle" ∧ (parseMethodDescriptor yX4_puts.desc).map (fun d => d.parameters.length) = some 1 := by decide +kernel
theorem e_X4_puts : plainFor yX4_puts = true := plainFor_of_name (by decide +kernel)
theorem m_X4_puts {θ : Th} {l : Launch} (hl0 : l.stackTraces = false) (hX : LX θ) {d : Nat} (hd : 0 ≤ d) (st : St) (p1 : Int32) {Φ : St → Prop} (h : w_X4_puts st p1 Φ) : Ct θ l yX4_puts (ws_ yX4_puts cX4_puts 2 (none : Option Jvm.ClassFile.FieldType)) d [.ref (ad θ 175), .int p1] st (pV Φ, noX) := by
  refine Ct_entry hl0 e_X4_puts (Nat.le_of_ble_eq_true rfl) (fun κ hκ _ C => ?_)
  have hn : ∀ st, Φ st → ((pV Φ, noX) : Ph).1 st none := fun st q => ⟨rfl, q⟩
  change X _ _ _ _ _ [(0, .ref (ad θ 175)), (1, .int p1)] _
  unfold w_X4_puts at h
  refine X_aload_n C dX4_puts_0 rfl 0 rfl (isRV_r _) ?_
  refine X_getF (ci := 4) (j := 12) (q := (RX4, TX4, 54)) C rfl (by decide) q1778 rfl dX4_puts_1 (b := 184) (LX_S hX (k := 175) rfl) (LX_F hX (k := 175) (j := 12) rfl) rfl ?_
  refine X_aload_n C dX4_puts_4 rfl 0 rfl (isRV_r _) ?_
  refine X_getS (ci := 4) (j := 14) (q := (RX4, TX4, 54)) C rfl (by decide) q1780 rfl dX4_puts_5 (LX_S hX (k := 175) rfl) (v := .int (sI st 175 14)) rfl ?_
  refine X_iload_n C dX4_puts_8 rfl 1 rfl ?_
  have g1 := h.1
  have h := h.2
  refine X_iastS C (LX_S hX (k := 184) rfl) (LX_L hX (k := 184) rfl) g1 rfl dX4_puts_9 ?_
  refine X_nm (fun s2 e3 => ?_)
  have h := h s2 e3
  refine X_aload_n C dX4_puts_10 rfl 0 rfl (isRV_r _) ?_
  refine X_dup C dX4_puts_11 rfl ?_
  refine X_getS (ci := 4) (j := 14) (q := (RX4, TX4, 54)) C rfl (by decide) q1780 rfl dX4_puts_12 (LX_S hX (k := 175) rfl) (v := .int (sI s2 175 14)) rfl ?_
  refine X_iconst (v := 1) C dX4_puts_15 rfl ?_
  refine X_iadd C dX4_puts_16 ?_
  refine X_putSI (ci := 4) (j := 14) (q := (RX4, TX4, 54)) C rfl (by decide) q1780 rfl rfl dX4_puts_17 (LX_S hX (k := 175) rfl) rfl rfl rfl ?_
  refine X_nm (fun s4 e5 => ?_)
  have h := h s4 e5
  exact X_vret C rfl dX4_puts_20 (hn s4 h)

def w_X4_writes_l28 (Φ : St → Prop) (E50 : St → Int64 → Int64 → Prop) : Nat → St → Int64 → Int64 → Prop
  | 0, _, _, _ => False
  | n + 1, st, x3, x5 => ¬ x5 = 0 ∧ (((x3 / x5) ≤ 9) → E50 st x3 x5) ∧ ((¬ (x3 / x5) ≤ 9) → ∀ v5 : Int64, v5 = (x5 * 10) → w_X4_writes_l28 Φ E50 n st x3 v5)
theorem t_X4_writes_l28 {θ : Th} {κ : Kx} {Ph : Ph} (hX : LX θ) {d : Nat} (hd : 1 ≤ d) (C : Cx θ κ yX4_writes cX4_writes 7 (none : Option Jvm.ClassFile.FieldType) [] d) {Φ : St → Prop} (hn : ∀ st, Φ st → Ph.1 st none) {E50 : St → Int64 → Int64 → Prop} (hE50 : ∀ (st : St) (x3 : Int64) (x5 : Int64), E50 st x3 x5 → X θ κ Ph st 50 [(0, .ref (ad θ 175)), (3, .long x3), (5, .long x5)] []) : ∀ (n : Nat) (st : St) (x3 : Int64) (x5 : Int64), w_X4_writes_l28 Φ E50 n st x3 x5 → X θ κ Ph st 28 [(0, .ref (ad θ 175)), (3, .long x3), (5, .long x5)] [] := by
  intro n
  induction n with
  | zero => intro st x3 x5 h; exact h.elim
  | succ n hK28 =>
    intro st x3 x5 h
    rw [w_X4_writes_l28] at h
    refine X_lload_n C dX4_writes_28 rfl 1 rfl ?_
    refine X_lload C dX4_writes_29 2 rfl ?_
    have g3 := h.1
    have h := h.2
    refine X_ldiv C dX4_writes_31 g3 ?_
    refine X_ldc2 C q2327 dX4_writes_32 ?_
    refine X_lcmp_le (tgt := 50) C dX4_writes_35 dX4_writes_36 (by decide) (fun c4 => ?_) (fun c4 => ?_)
    · have h := h.1 c4
      exact hE50 st x3 x5 h
    · have h := h.2 c4
      refine X_lload C dX4_writes_39 2 rfl ?_
      refine X_ldc2 C q2328 dX4_writes_41 ?_
      refine X_lmul C dX4_writes_44 ?_
      refine X_topl (fun v5 e6 => ?_)
      have h := h v5 e6
      refine X_lstore C dX4_writes_45 (lo2 := [(5, _), (0, _), (3, _)]) (by decide) rfl ?_
      refine X_goto (tgt := 28) C dX4_writes_47 (by decide) ?_
      refine X_sub [1, 2, 0] (lo2 := [(0, _), (3, _), (5, _)]) rfl ?_
      exact hK28 st x3 v5 h
def w_X4_writes_l50 (Φ : St → Prop) (E85 : St → Prop) : Nat → St → Int64 → Int64 → Prop
  | 0, _, _, _ => False
  | n + 1, st, x3, x5 => ((x5 ≤ 0) → E85 st) ∧ ((¬ x5 ≤ 0) → ¬ x5 = 0 ∧ w_X4_puts st (48 + ((x3 / x5) - (x3 / x5) / 10 * 10)).toInt32 (fun (s11 : St) => ∀ v18 : Int64, v18 = (x5 / 10) → w_X4_writes_l50 Φ E85 n s11 x3 v18))
theorem t_X4_writes_l50 {θ : Th} {κ : Kx} {Ph : Ph} (hX : LX θ) {d : Nat} (hd : 1 ≤ d) (C : Cx θ κ yX4_writes cX4_writes 7 (none : Option Jvm.ClassFile.FieldType) [] d) {Φ : St → Prop} (hn : ∀ st, Φ st → Ph.1 st none) {E85 : St → Prop} (hE85 : ∀ (st : St), E85 st → X θ κ Ph st 85 [] []) : ∀ (n : Nat) (st : St) (x3 : Int64) (x5 : Int64), w_X4_writes_l50 Φ E85 n st x3 x5 → X θ κ Ph st 50 [(0, .ref (ad θ 175)), (3, .long x3), (5, .long x5)] [] := by
  intro n
  induction n with
  | zero => intro st x3 x5 h; exact h.elim
  | succ n hK50 =>
    intro st x3 x5 h
    rw [w_X4_writes_l50] at h
    refine X_lload C dX4_writes_50 2 rfl ?_
    refine X_lconst (v := 0) C dX4_writes_52 rfl ?_
    refine X_lcmp_le (tgt := 85) C dX4_writes_53 dX4_writes_54 (by decide) (fun c8 => ?_) (fun c8 => ?_)
    · have h := h.1 c8
      refine X_sub [] (lo2 := []) rfl ?_
      exact hE85 st h
    · have h := h.2 c8
      refine X_aload_n C dX4_writes_57 rfl 0 rfl (isRV_r _) ?_
      refine X_ldc2 C q2329 dX4_writes_58 ?_
      refine X_lload_n C dX4_writes_61 rfl 1 rfl ?_
      refine X_lload C dX4_writes_62 2 rfl ?_
      have g9 := h.1
      have h := h.2
      refine X_ldiv C dX4_writes_64 g9 ?_
      refine X_ldc2 C q2328 dX4_writes_65 ?_
      refine X_lrem C dX4_writes_68 (by decide) ?_
      refine X_ladd C dX4_writes_69 ?_
      refine X_l2i C dX4_writes_70 ?_
      refine X_callVS (ci := 4) (q := (RX4, TX4, 54)) (As := [_]) (rest := []) C rfl (LX_S hX (k := 175) rfl) q2319 q2321 qs121 q136 q2322 ⟨rfl, nm_X4_puts⟩ rfl dX4_writes_71 (m_X4_puts (Cx_l C) hX (d := d - 1) (by omega) st (48 + ((x3 / x5) - (x3 / x5) / 10 * 10)).toInt32 h) (by omega) (by decide) (Nat.le_of_ble_eq_true rfl) (fun s11 w12 hE13 hP14 => ?_) (fun s17 E15 q16 hE13 hP14 => ?_)
      rotate_left
      · exact False.elim hP14
      obtain ⟨rfl, h⟩ := hP14
      refine X_tln ?_
      refine X_lload C dX4_writes_74 2 rfl ?_
      refine X_ldc2 C q2328 dX4_writes_76 ?_
      refine X_ldiv C dX4_writes_79 (by decide) ?_
      refine X_topl (fun v18 e19 => ?_)
      have h := h v18 e19
      refine X_lstore C dX4_writes_80 (lo2 := [(5, _), (0, _), (3, _)]) (by decide) rfl ?_
      refine X_goto (tgt := 50) C dX4_writes_82 (by decide) ?_
      refine X_sub [1, 2, 0] (lo2 := [(0, _), (3, _), (5, _)]) rfl ?_
      exact hK50 s11 x3 v18 h
def w_X4_writes_b85 (Φ : St → Prop) (st : St) : Prop := Φ st
theorem t_X4_writes_b85 {θ : Th} {κ : Kx} {Ph : Ph} (hX : LX θ) {d : Nat} (hd : 1 ≤ d) (C : Cx θ κ yX4_writes cX4_writes 7 (none : Option Jvm.ClassFile.FieldType) [] d) {Φ : St → Prop} (hn : ∀ st, Φ st → Ph.1 st none) (st : St) (h : w_X4_writes_b85 Φ st) : X θ κ Ph st 85 [] [] := by
  unfold w_X4_writes_b85 at h
  exact X_vret C rfl dX4_writes_85 (hn st h)
def w_X4_writes_b24 (Φ : St → Prop) (st : St) (z0 : Int64) : Prop := w_X4_writes_l28 Φ (fun (s7 : St) (x3 : Int64) (x5 : Int64) => w_X4_writes_l50 Φ (fun (s20 : St) => w_X4_writes_b85 Φ s20) gFU s7 x3 x5) gFU st z0 1
theorem t_X4_writes_b24 {θ : Th} {κ : Kx} {Ph : Ph} (hX : LX θ) {d : Nat} (hd : 1 ≤ d) (C : Cx θ κ yX4_writes cX4_writes 7 (none : Option Jvm.ClassFile.FieldType) [] d) {Φ : St → Prop} (hn : ∀ st, Φ st → Ph.1 st none) (st : St) (z0 : Int64) (h : w_X4_writes_b24 Φ st z0) : X θ κ Ph st 24 [(0, .ref (ad θ 175))] [.long z0] := by
  unfold w_X4_writes_b24 at h
  refine X_lstore_n C dX4_writes_24 rfl (lo2 := [(3, _), (0, _)]) (by decide) rfl ?_
  refine X_lconst (v := 1) C dX4_writes_25 rfl ?_
  refine X_lstore C dX4_writes_26 (lo2 := [(5, _), (3, _), (0, _)]) (by decide) rfl ?_
  refine X_sub [2, 1, 0] (lo2 := [(0, _), (3, _), (5, _)]) rfl ?_
  refine t_X4_writes_l28 hX hd C hn ?_ gFU st z0 1 h
  · intro s7 x3 x5 h
    refine t_X4_writes_l50 hX hd C hn ?_ gFU s7 x3 x5 h
    · intro s20 h
      exact t_X4_writes_b85 hX hd C hn s20 h
def w_X4_writes_b12 (Φ : St → Prop) (st : St) (x1 : Int64) : Prop := ((0 ≤ x1) → w_X4_writes_b24 Φ st x1) ∧ ((¬ 0 ≤ x1) → w_X4_writes_b24 Φ st (-x1))
theorem t_X4_writes_b12 {θ : Th} {κ : Kx} {Ph : Ph} (hX : LX θ) {d : Nat} (hd : 1 ≤ d) (C : Cx θ κ yX4_writes cX4_writes 7 (none : Option Jvm.ClassFile.FieldType) [] d) {Φ : St → Prop} (hn : ∀ st, Φ st → Ph.1 st none) (st : St) (x1 : Int64) (h : w_X4_writes_b12 Φ st x1) : X θ κ Ph st 12 [(0, .ref (ad θ 175)), (1, .long x1)] [] := by
  unfold w_X4_writes_b12 at h
  refine X_lload_n C dX4_writes_12 rfl 1 rfl ?_
  refine X_lconst (v := 0) C dX4_writes_13 rfl ?_
  refine X_lcmp_ge (tgt := 23) C dX4_writes_14 dX4_writes_15 (by decide) (fun c2 => ?_) (fun c2 => ?_)
  · have h := h.1 c2
    refine X_lload_n C dX4_writes_23 rfl 1 rfl ?_
    refine X_sub [0] (lo2 := [(0, _)]) rfl ?_
    exact t_X4_writes_b24 hX hd C hn st x1 h
  · have h := h.2 c2
    refine X_lload_n C dX4_writes_18 rfl 1 rfl ?_
    refine X_lneg C dX4_writes_19 ?_
    refine X_goto (tgt := 24) C dX4_writes_20 (by decide) ?_
    refine X_sub [0] (lo2 := [(0, _)]) rfl ?_
    exact t_X4_writes_b24 hX hd C hn st (-x1) h
def w_X4_writes (st : St) (p1 : Int64) (Φ : St → Prop) : Prop := ((0 ≤ p1) → w_X4_writes_b12 Φ st p1) ∧ ((¬ 0 ≤ p1) → w_X4_puts st 45 (fun (s22 : St) => w_X4_writes_b12 Φ s22 p1))
theorem nm_X4_writes : yX4_writes.cls ≠ "java/lang/invoke/MethodHandle" ∧ yX4_writes.cls ≠ "java/lang/invoke/VarHandle" ∧ (parseMethodDescriptor yX4_writes.desc).map (fun d => d.parameters.length) = some 1 := by decide +kernel
theorem e_X4_writes : plainFor yX4_writes = true := plainFor_of_name (by decide +kernel)
theorem m_X4_writes {θ : Th} {l : Launch} (hl0 : l.stackTraces = false) (hX : LX θ) {d : Nat} (hd : 1 ≤ d) (st : St) (p1 : Int64) {Φ : St → Prop} (h : w_X4_writes st p1 Φ) : Ct θ l yX4_writes (ws_ yX4_writes cX4_writes 7 (none : Option Jvm.ClassFile.FieldType)) d [.ref (ad θ 175), .long p1] st (pV Φ, noX) := by
  refine Ct_entry hl0 e_X4_writes (Nat.le_of_ble_eq_true rfl) (fun κ hκ _ C => ?_)
  have hn : ∀ st, Φ st → ((pV Φ, noX) : Ph).1 st none := fun st q => ⟨rfl, q⟩
  change X _ _ _ _ _ [(0, .ref (ad θ 175)), (1, .long p1)] _
  unfold w_X4_writes at h
  refine X_lload_n C dX4_writes_0 rfl 1 rfl ?_
  refine X_lconst (v := 0) C dX4_writes_1 rfl ?_
  refine X_lcmp_ge (tgt := 12) C dX4_writes_2 dX4_writes_3 (by decide) (fun c1 => ?_) (fun c1 => ?_)
  · have h := h.1 c1
    exact t_X4_writes_b12 hX hd C hn st p1 h
  · have h := h.2 c1
    refine X_aload_n C dX4_writes_6 rfl 0 rfl (isRV_r _) ?_
    refine X_bipush (v := 45) C dX4_writes_7 rfl ?_
    refine X_callVS (ci := 4) (q := (RX4, TX4, 54)) (As := [_]) (rest := []) C rfl (LX_S hX (k := 175) rfl) q2319 q2321 qs121 q136 q2322 ⟨rfl, nm_X4_puts⟩ rfl dX4_writes_9 (m_X4_puts (Cx_l C) hX (d := d - 1) (by omega) st 45 h) (by omega) (by decide) (Nat.le_of_ble_eq_true rfl) (fun s22 w23 hE24 hP25 => ?_) (fun s28 E26 q27 hE24 hP25 => ?_)
    rotate_left
    · exact False.elim hP25
    obtain ⟨rfl, h⟩ := hP25
    refine X_tln ?_
    exact t_X4_writes_b12 hX hd C hn s22 p1 h

def w_X4_writesFraction (st : St) (Φ : St → Prop) : Prop := ∀ v1 : Int64, v1 = (sL st 175 19) → w_X4_writes st (sL st 175 18) (fun (s4 : St) => ((v1 = 1) → Φ s4) ∧ ((¬ v1 = 1) → w_X4_puts s4 47 (fun (s13 : St) => w_X4_writes s13 v1 (fun (s21 : St) => Φ s21))))
theorem nm_X4_writesFraction : yX4_writesFraction.cls ≠ "java/lang/invoke/MethodHandle" ∧ yX4_writesFraction.cls ≠ "java/lang/invoke/VarHandle" ∧ (parseMethodDescriptor yX4_writesFraction.desc).map (fun d => d.parameters.length) = some 0 := by decide +kernel
theorem e_X4_writesFraction : plainFor yX4_writesFraction = true := plainFor_of_name (by decide +kernel)
theorem m_X4_writesFraction {θ : Th} {l : Launch} (hl0 : l.stackTraces = false) (hX : LX θ) {d : Nat} (hd : 2 ≤ d) (st : St) {Φ : St → Prop} (h : w_X4_writesFraction st Φ) : Ct θ l yX4_writesFraction (ws_ yX4_writesFraction cX4_writesFraction 3 (none : Option Jvm.ClassFile.FieldType)) d [.ref (ad θ 175)] st (pV Φ, noX) := by
  refine Ct_entry hl0 e_X4_writesFraction (Nat.le_of_ble_eq_true rfl) (fun κ hκ _ C => ?_)
  have hn : ∀ st, Φ st → ((pV Φ, noX) : Ph).1 st none := fun st q => ⟨rfl, q⟩
  change X _ _ _ _ _ [(0, .ref (ad θ 175))] _
  unfold w_X4_writesFraction at h
  refine X_aload_n C dX4_writesFraction_0 rfl 0 rfl (isRV_r _) ?_
  refine X_getS (ci := 4) (j := 19) (q := (RX4, TX4, 54)) C rfl (by decide) q1785 rfl dX4_writesFraction_1 (LX_S hX (k := 175) rfl) (v := .long (sL st 175 19)) rfl ?_
  refine X_topl (fun v1 e2 => ?_)
  have h := h v1 e2
  refine X_lstore_n C dX4_writesFraction_4 rfl (lo2 := [(1, _), (0, _)]) (by decide) rfl ?_
  refine X_aload_n C dX4_writesFraction_5 rfl 1 rfl (isRV_r _) ?_
  refine X_aload_n C dX4_writesFraction_6 rfl 1 rfl (isRV_r _) ?_
  refine X_getS (ci := 4) (j := 18) (q := (RX4, TX4, 54)) C rfl (by decide) q1784 rfl dX4_writesFraction_7 (LX_S hX (k := 175) rfl) (v := .long (sL st 175 18)) rfl ?_
  refine X_callVS (ci := 4) (q := (RX4, TX4, 54)) (As := [_]) (rest := []) C rfl (LX_S hX (k := 175) rfl) q2323 q2325 qs122 q136 q2326 ⟨rfl, nm_X4_writes⟩ rfl dX4_writesFraction_10 (m_X4_writes (Cx_l C) hX (d := d - 1) (by omega) st (sL st 175 18) h) (by omega) (by decide) (Nat.le_of_ble_eq_true rfl) (fun s4 w5 hE6 hP7 => ?_) (fun s10 E8 q9 hE6 hP7 => ?_)
  rotate_left
  · exact False.elim hP7
  obtain ⟨rfl, h⟩ := hP7
  refine X_tln ?_
  refine X_lload_n C dX4_writesFraction_13 rfl 0 rfl ?_
  refine X_lconst (v := 1) C dX4_writesFraction_14 rfl ?_
  refine X_lcmp_eq (tgt := 30) C dX4_writesFraction_15 dX4_writesFraction_16 (by decide) (fun c11 => ?_) (fun c11 => ?_)
  · have h := h.1 c11
    exact X_vret C rfl dX4_writesFraction_30 (hn s4 h)
  · have h := h.2 c11
    refine X_aload_n C dX4_writesFraction_19 rfl 1 rfl (isRV_r _) ?_
    refine X_bipush (v := 47) C dX4_writesFraction_20 rfl ?_
    refine X_callVS (ci := 4) (q := (RX4, TX4, 54)) (As := [_]) (rest := []) C rfl (LX_S hX (k := 175) rfl) q2319 q2321 qs121 q136 q2322 ⟨rfl, nm_X4_puts⟩ rfl dX4_writesFraction_22 (m_X4_puts (Cx_l C) hX (d := d - 1) (by omega) s4 47 h) (by omega) (by decide) (Nat.le_of_ble_eq_true rfl) (fun s13 w14 hE15 hP16 => ?_) (fun s19 E17 q18 hE15 hP16 => ?_)
    rotate_left
    · exact False.elim hP16
    obtain ⟨rfl, h⟩ := hP16
    refine X_tln ?_
    refine X_aload_n C dX4_writesFraction_25 rfl 1 rfl (isRV_r _) ?_
    refine X_lload_n C dX4_writesFraction_26 rfl 0 rfl ?_
    refine X_callVS (ci := 4) (q := (RX4, TX4, 54)) (As := [_]) (rest := []) C rfl (LX_S hX (k := 175) rfl) q2323 q2325 qs122 q136 q2326 ⟨rfl, nm_X4_writes⟩ rfl dX4_writesFraction_27 (m_X4_writes (Cx_l C) hX (d := d - 1) (by omega) s13 v1 h) (by omega) (by decide) (Nat.le_of_ble_eq_true rfl) (fun s21 w22 hE23 hP24 => ?_) (fun s27 E25 q26 hE23 hP24 => ?_)
    rotate_left
    · exact False.elim hP24
    obtain ⟨rfl, h⟩ := hP24
    refine X_tln ?_
    exact X_vret C rfl dX4_writesFraction_30 (hn s21 h)

def w_X4_writesPoint_b24 (Φ : St → Prop) (K2 : St → Int32 → Int32 → Prop) (st : St) (x1 : Int32) (x2 : Int32) (z0 : Int32) : Prop := w_X4_puts st z0 (fun (s4 : St) => w_X4_gives s4 x1 x2 (fun (r11 : Int32) => w_X4_writes s4 r11.toInt64 (fun (s20 : St) => K2 s20 x1 (x2 + 1))))
theorem t_X4_writesPoint_b24 {θ : Th} {κ : Kx} {Ph : Ph} (hX : LX θ) {d : Nat} (hd : 7 ≤ d) (C : Cx θ κ yX4_writesPoint cX4_writesPoint 3 (none : Option Jvm.ClassFile.FieldType) [] d) {Φ : St → Prop} (hn : ∀ st, Φ st → Ph.1 st none) {K2 : St → Int32 → Int32 → Prop} (hK2 : ∀ (st : St) (x1 : Int32) (x2 : Int32), K2 st x1 x2 → X θ κ Ph st 2 [(0, .ref (ad θ 175)), (1, .int x1), (2, .int x2)] []) (st : St) (x1 : Int32) (x2 : Int32) (z0 : Int32) (h : w_X4_writesPoint_b24 Φ K2 st x1 x2 z0) : X θ κ Ph st 24 [(0, .ref (ad θ 175)), (1, .int x1), (2, .int x2)] [.int z0, .ref (ad θ 175)] := by
  unfold w_X4_writesPoint_b24 at h
  refine X_callVS (ci := 4) (q := (RX4, TX4, 54)) (As := [_]) (rest := []) C rfl (LX_S hX (k := 175) rfl) q2319 q2321 qs121 q136 q2322 ⟨rfl, nm_X4_puts⟩ rfl dX4_writesPoint_24 (m_X4_puts (Cx_l C) hX (d := d - 1) (by omega) st z0 h) (by omega) (by decide) (Nat.le_of_ble_eq_true rfl) (fun s4 w5 hE6 hP7 => ?_) (fun s10 E8 q9 hE6 hP7 => ?_)
  rotate_left
  · exact False.elim hP7
  obtain ⟨rfl, h⟩ := hP7
  refine X_tln ?_
  refine X_aload_n C dX4_writesPoint_27 rfl 0 rfl (isRV_r _) ?_
  refine X_aload_n C dX4_writesPoint_28 rfl 0 rfl (isRV_r _) ?_
  refine X_iload_n C dX4_writesPoint_29 rfl 1 rfl ?_
  refine X_iload_n C dX4_writesPoint_30 rfl 2 rfl ?_
  refine X_callVS (ci := 4) (q := (RX4, TX4, 54)) (As := [_, _]) (rest := [_]) C rfl (LX_S hX (k := 175) rfl) q2014 q2016 qs70 q136 q2017 ⟨rfl, nm_X4_gives⟩ rfl dX4_writesPoint_31 (m_X4_gives (Cx_l C) hX (d := d - 1) (by omega) s4 x1 x2 h) (by omega) (by decide) (Nat.le_of_ble_eq_true rfl) (fun s17 w12 hE13 hP14 => ?_) (fun s18 E15 q16 hE13 hP14 => ?_)
  rotate_left
  · exact False.elim hP14
  obtain ⟨r11, rfl, rfl, h⟩ := hP14
  refine X_tls ?_
  refine X_i2l C dX4_writesPoint_34 ?_
  refine X_callVS (ci := 4) (q := (RX4, TX4, 54)) (As := [_]) (rest := []) C rfl (LX_S hX (k := 175) rfl) q2323 q2325 qs122 q136 q2326 ⟨rfl, nm_X4_writes⟩ rfl dX4_writesPoint_35 (m_X4_writes (Cx_l C) hX (d := d - 1) (by omega) s4 r11.toInt64 h) (by omega) (by decide) (Nat.le_of_ble_eq_true rfl) (fun s20 w21 hE22 hP23 => ?_) (fun s26 E24 q25 hE22 hP23 => ?_)
  rotate_left
  · exact False.elim hP23
  obtain ⟨rfl, h⟩ := hP23
  refine X_tln ?_
  refine X_iinc (v := (x2 + 1)) C (j := 2) dX4_writesPoint_38 rfl rfl (lo2 := [(2, _), (0, _), (1, _)]) (by decide) rfl ?_
  refine X_goto (tgt := 2) C dX4_writesPoint_41 (by decide) ?_
  refine X_sub [1, 2, 0] (lo2 := [(0, _), (1, _), (2, _)]) rfl ?_
  exact hK2 s20 x1 (x2 + 1) h
def w_X4_writesPoint_l2 (Φ : St → Prop) (E44 : St → Int32 → Prop) : Nat → St → Int32 → Int32 → Prop
  | 0, _, _, _ => False
  | n + 1, st, x1, x2 => (((sI st 177 0) ≤ x2) → E44 st x1) ∧ ((¬ (sI st 177 0) ≤ x2) → ((x2 ≠ 0) → w_X4_writesPoint_b24 Φ (w_X4_writesPoint_l2 Φ E44 n) st x1 x2 44) ∧ ((x2 = 0) → w_X4_writesPoint_b24 Φ (w_X4_writesPoint_l2 Φ E44 n) st x1 x2 40))
theorem t_X4_writesPoint_l2 {θ : Th} {κ : Kx} {Ph : Ph} (hX : LX θ) {d : Nat} (hd : 7 ≤ d) (C : Cx θ κ yX4_writesPoint cX4_writesPoint 3 (none : Option Jvm.ClassFile.FieldType) [] d) {Φ : St → Prop} (hn : ∀ st, Φ st → Ph.1 st none) {E44 : St → Int32 → Prop} (hE44 : ∀ (st : St) (x1 : Int32), E44 st x1 → X θ κ Ph st 44 [(0, .ref (ad θ 175)), (1, .int x1)] []) : ∀ (n : Nat) (st : St) (x1 : Int32) (x2 : Int32), w_X4_writesPoint_l2 Φ E44 n st x1 x2 → X θ κ Ph st 2 [(0, .ref (ad θ 175)), (1, .int x1), (2, .int x2)] [] := by
  intro n
  induction n with
  | zero => intro st x1 x2 h; exact h.elim
  | succ n hK2 =>
    intro st x1 x2 h
    rw [w_X4_writesPoint_l2] at h
    refine X_iload_n C dX4_writesPoint_2 rfl 2 rfl ?_
    refine X_aload_n C dX4_writesPoint_3 rfl 0 rfl (isRV_r _) ?_
    refine X_getF (ci := 4) (j := 1) (q := (RX4, TX4, 54)) C rfl (by decide) q1767 rfl dX4_writesPoint_4 (b := 177) (LX_S hX (k := 175) rfl) (LX_F hX (k := 175) (j := 1) rfl) rfl ?_
    refine X_iconst (v := 0) C dX4_writesPoint_7 rfl ?_
    refine X_ialdS C (LX_S hX (k := 177) rfl) (LX_L hX (k := 177) rfl) (vp_dec rfl) rfl dX4_writesPoint_8 ?_
    refine X_icmp_ge (tgt := 44) C dX4_writesPoint_9 (by decide) (fun c1 => ?_) (fun c1 => ?_)
    · have h := h.1 c1
      refine X_sub [0, 1] (lo2 := [(0, _), (1, _)]) rfl ?_
      exact hE44 st x1 h
    · have h := h.2 c1
      refine X_aload_n C dX4_writesPoint_12 rfl 0 rfl (isRV_r _) ?_
      refine X_iload_n C dX4_writesPoint_13 rfl 2 rfl ?_
      refine X_if_ne (tgt := 22) C dX4_writesPoint_14 (by decide) (fun c2 => ?_) (fun c2 => ?_)
      · have h := h.1 c2
        refine X_bipush (v := 44) C dX4_writesPoint_22 rfl ?_
        exact t_X4_writesPoint_b24 hX hd C hn hK2 st x1 x2 44 h
      · have h := h.2 c2
        refine X_bipush (v := 40) C dX4_writesPoint_17 rfl ?_
        refine X_goto (tgt := 24) C dX4_writesPoint_19 (by decide) ?_
        exact t_X4_writesPoint_b24 hX hd C hn hK2 st x1 x2 40 h
def w_X4_writesPoint_b44 (Φ : St → Prop) (st : St) (x1 : Int32) : Prop := w_X4_puts st 41 (fun (s29 : St) => w_X4_puts s29 61 (fun (s37 : St) => w_X4_u s37 x1 (fun (s45 : St) => w_X4_writesFraction s45 (fun (s53 : St) => Φ s53))))
theorem t_X4_writesPoint_b44 {θ : Th} {κ : Kx} {Ph : Ph} (hX : LX θ) {d : Nat} (hd : 7 ≤ d) (C : Cx θ κ yX4_writesPoint cX4_writesPoint 3 (none : Option Jvm.ClassFile.FieldType) [] d) {Φ : St → Prop} (hn : ∀ st, Φ st → Ph.1 st none) (st : St) (x1 : Int32) (h : w_X4_writesPoint_b44 Φ st x1) : X θ κ Ph st 44 [(0, .ref (ad θ 175)), (1, .int x1)] [] := by
  unfold w_X4_writesPoint_b44 at h
  refine X_aload_n C dX4_writesPoint_44 rfl 0 rfl (isRV_r _) ?_
  refine X_bipush (v := 41) C dX4_writesPoint_45 rfl ?_
  refine X_callVS (ci := 4) (q := (RX4, TX4, 54)) (As := [_]) (rest := []) C rfl (LX_S hX (k := 175) rfl) q2319 q2321 qs121 q136 q2322 ⟨rfl, nm_X4_puts⟩ rfl dX4_writesPoint_47 (m_X4_puts (Cx_l C) hX (d := d - 1) (by omega) st 41 h) (by omega) (by decide) (Nat.le_of_ble_eq_true rfl) (fun s29 w30 hE31 hP32 => ?_) (fun s35 E33 q34 hE31 hP32 => ?_)
  rotate_left
  · exact False.elim hP32
  obtain ⟨rfl, h⟩ := hP32
  refine X_tln ?_
  refine X_aload_n C dX4_writesPoint_50 rfl 0 rfl (isRV_r _) ?_
  refine X_bipush (v := 61) C dX4_writesPoint_51 rfl ?_
  refine X_callVS (ci := 4) (q := (RX4, TX4, 54)) (As := [_]) (rest := []) C rfl (LX_S hX (k := 175) rfl) q2319 q2321 qs121 q136 q2322 ⟨rfl, nm_X4_puts⟩ rfl dX4_writesPoint_53 (m_X4_puts (Cx_l C) hX (d := d - 1) (by omega) s29 61 h) (by omega) (by decide) (Nat.le_of_ble_eq_true rfl) (fun s37 w38 hE39 hP40 => ?_) (fun s43 E41 q42 hE39 hP40 => ?_)
  rotate_left
  · exact False.elim hP40
  obtain ⟨rfl, h⟩ := hP40
  refine X_tln ?_
  refine X_aload_n C dX4_writesPoint_56 rfl 0 rfl (isRV_r _) ?_
  refine X_iload_n C dX4_writesPoint_57 rfl 1 rfl ?_
  refine X_callVS (ci := 4) (q := (RX4, TX4, 54)) (As := [_]) (rest := []) C rfl (LX_S hX (k := 175) rfl) q2042 q2044 qs74 q136 q2045 ⟨rfl, nm_X4_u⟩ rfl dX4_writesPoint_58 (m_X4_u (Cx_l C) hX (d := d - 1) (by omega) s37 x1 h) (by omega) (by decide) (Nat.le_of_ble_eq_true rfl) (fun s45 w46 hE47 hP48 => ?_) (fun s51 E49 q50 hE47 hP48 => ?_)
  rotate_left
  · exact False.elim hP48
  obtain ⟨rfl, h⟩ := hP48
  refine X_tln ?_
  refine X_aload_n C dX4_writesPoint_61 rfl 0 rfl (isRV_r _) ?_
  refine X_callVS (ci := 4) (q := (RX4, TX4, 54)) (As := []) (rest := []) C rfl (LX_S hX (k := 175) rfl) q2330 q2332 qs123 q136 q2333 ⟨rfl, nm_X4_writesFraction⟩ rfl dX4_writesPoint_62 (m_X4_writesFraction (Cx_l C) hX (d := d - 1) (by omega) s45 h) (by omega) (by decide) (Nat.le_of_ble_eq_true rfl) (fun s53 w54 hE55 hP56 => ?_) (fun s59 E57 q58 hE55 hP56 => ?_)
  rotate_left
  · exact False.elim hP56
  obtain ⟨rfl, h⟩ := hP56
  refine X_tln ?_
  exact X_vret C rfl dX4_writesPoint_65 (hn s53 h)
def w_X4_writesPoint (st : St) (p1 : Int32) (Φ : St → Prop) : Prop := w_X4_writesPoint_l2 Φ (fun (s27 : St) (x1 : Int32) => w_X4_writesPoint_b44 Φ s27 x1) gFU st p1 0
theorem nm_X4_writesPoint : yX4_writesPoint.cls ≠ "java/lang/invoke/MethodHandle" ∧ yX4_writesPoint.cls ≠ "java/lang/invoke/VarHandle" ∧ (parseMethodDescriptor yX4_writesPoint.desc).map (fun d => d.parameters.length) = some 1 := by decide +kernel
theorem e_X4_writesPoint : plainFor yX4_writesPoint = true := plainFor_of_name (by decide +kernel)
theorem m_X4_writesPoint {θ : Th} {l : Launch} (hl0 : l.stackTraces = false) (hX : LX θ) {d : Nat} (hd : 7 ≤ d) (st : St) (p1 : Int32) {Φ : St → Prop} (h : w_X4_writesPoint st p1 Φ) : Ct θ l yX4_writesPoint (ws_ yX4_writesPoint cX4_writesPoint 3 (none : Option Jvm.ClassFile.FieldType)) d [.ref (ad θ 175), .int p1] st (pV Φ, noX) := by
  refine Ct_entry hl0 e_X4_writesPoint (Nat.le_of_ble_eq_true rfl) (fun κ hκ _ C => ?_)
  have hn : ∀ st, Φ st → ((pV Φ, noX) : Ph).1 st none := fun st q => ⟨rfl, q⟩
  change X _ _ _ _ _ [(0, .ref (ad θ 175)), (1, .int p1)] _
  unfold w_X4_writesPoint at h
  refine X_iconst (v := 0) C dX4_writesPoint_0 rfl ?_
  refine X_istore_n C dX4_writesPoint_1 rfl (lo2 := [(2, _), (0, _), (1, _)]) (by decide) rfl ?_
  refine X_sub [1, 2, 0] (lo2 := [(0, _), (1, _), (2, _)]) rfl ?_
  refine t_X4_writesPoint_l2 hX hd C hn ?_ gFU st p1 0 h
  · intro s27 x1 h
    exact t_X4_writesPoint_b44 hX hd C hn s27 x1 h

def w_X4_writesGame_b45 (Φ : St → Prop) (K14 : St → Int32 → Int32 → Int32 → Prop) (st : St) (x1 : Int32) (x2 : Int32) (x3 : Int32) : Prop := w_X4_place x1 x2 x3 (fun (r4 : Int32) => vp_in r4 97 ∧ w_X4_writes st (sI st 177 r4.toNatClampNeg).toInt64 (fun (s14 : St) => K14 s14 x1 x2 (x3 + 1)))
theorem t_X4_writesGame_b45 {θ : Th} {κ : Kx} {Ph : Ph} (hX : LX θ) {d : Nat} (hd : 2 ≤ d) (C : Cx θ κ yX4_writesGame cX4_writesGame 4 (none : Option Jvm.ClassFile.FieldType) [] d) {Φ : St → Prop} (hn : ∀ st, Φ st → Ph.1 st none) {K14 : St → Int32 → Int32 → Int32 → Prop} (hK14 : ∀ (st : St) (x1 : Int32) (x2 : Int32) (x3 : Int32), K14 st x1 x2 x3 → X θ κ Ph st 14 [(0, .ref (ad θ 175)), (1, .int x1), (2, .int x2), (3, .int x3)] []) (st : St) (x1 : Int32) (x2 : Int32) (x3 : Int32) (h : w_X4_writesGame_b45 Φ K14 st x1 x2 x3) : X θ κ Ph st 45 [(0, .ref (ad θ 175)), (1, .int x1), (2, .int x2), (3, .int x3)] [] := by
  unfold w_X4_writesGame_b45 at h
  refine X_aload_n C dX4_writesGame_45 rfl 0 rfl (isRV_r _) ?_
  refine X_aload_n C dX4_writesGame_46 rfl 0 rfl (isRV_r _) ?_
  refine X_getF (ci := 4) (j := 1) (q := (RX4, TX4, 54)) C rfl (by decide) q1767 rfl dX4_writesGame_47 (b := 177) (LX_S hX (k := 175) rfl) (LX_F hX (k := 175) (j := 1) rfl) rfl ?_
  refine X_iload_n C dX4_writesGame_50 rfl 1 rfl ?_
  refine X_iload_n C dX4_writesGame_51 rfl 2 rfl ?_
  refine X_iload_n C dX4_writesGame_52 rfl 3 rfl ?_
  refine X_callS (As := [_, _, _]) (rest := [_, _]) C q1966 q1967 q136 q1968 nm_X4_place rfl dX4_writesGame_53 (m_X4_place (Cx_l C) hX (d := d - 1) (by omega) st x1 x2 x3 h) (by omega) (by decide) (Nat.le_of_ble_eq_true rfl) (fun s10 w5 hE6 hP7 => ?_) (fun s11 E8 q9 hE6 hP7 => ?_)
  rotate_left
  · exact False.elim hP7
  obtain ⟨r4, rfl, rfl, h⟩ := hP7
  refine X_tls ?_
  have g12 := h.1
  have h := h.2
  refine X_ialdS C (LX_S hX (k := 177) rfl) (LX_L hX (k := 177) rfl) g12 rfl dX4_writesGame_56 ?_
  refine X_i2l C dX4_writesGame_57 ?_
  refine X_callVS (ci := 4) (q := (RX4, TX4, 54)) (As := [_]) (rest := []) C rfl (LX_S hX (k := 175) rfl) q2323 q2325 qs122 q136 q2326 ⟨rfl, nm_X4_writes⟩ rfl dX4_writesGame_58 (m_X4_writes (Cx_l C) hX (d := d - 1) (by omega) st (sI st 177 r4.toNatClampNeg).toInt64 h) (by omega) (by decide) (Nat.le_of_ble_eq_true rfl) (fun s14 w15 hE16 hP17 => ?_) (fun s20 E18 q19 hE16 hP17 => ?_)
  rotate_left
  · exact False.elim hP17
  obtain ⟨rfl, h⟩ := hP17
  refine X_tln ?_
  refine X_iinc (v := (x3 + 1)) C (j := 3) dX4_writesGame_61 rfl rfl (lo2 := [(3, _), (0, _), (1, _), (2, _)]) (by decide) rfl ?_
  refine X_goto (tgt := 14) C dX4_writesGame_64 (by decide) ?_
  refine X_sub [1, 2, 3, 0] (lo2 := [(0, _), (1, _), (2, _), (3, _)]) rfl ?_
  exact hK14 s14 x1 x2 (x3 + 1) h
def w_X4_writesGame_b42 (Φ : St → Prop) (K14 : St → Int32 → Int32 → Int32 → Prop) (st : St) (x1 : Int32) (x2 : Int32) (x3 : Int32) (z0 : Int32) : Prop := w_X4_puts st z0 (fun (s23 : St) => w_X4_writesGame_b45 Φ K14 s23 x1 x2 x3)
theorem t_X4_writesGame_b42 {θ : Th} {κ : Kx} {Ph : Ph} (hX : LX θ) {d : Nat} (hd : 2 ≤ d) (C : Cx θ κ yX4_writesGame cX4_writesGame 4 (none : Option Jvm.ClassFile.FieldType) [] d) {Φ : St → Prop} (hn : ∀ st, Φ st → Ph.1 st none) {K14 : St → Int32 → Int32 → Int32 → Prop} (hK14 : ∀ (st : St) (x1 : Int32) (x2 : Int32) (x3 : Int32), K14 st x1 x2 x3 → X θ κ Ph st 14 [(0, .ref (ad θ 175)), (1, .int x1), (2, .int x2), (3, .int x3)] []) (st : St) (x1 : Int32) (x2 : Int32) (x3 : Int32) (z0 : Int32) (h : w_X4_writesGame_b42 Φ K14 st x1 x2 x3 z0) : X θ κ Ph st 42 [(0, .ref (ad θ 175)), (1, .int x1), (2, .int x2), (3, .int x3)] [.int z0, .ref (ad θ 175)] := by
  unfold w_X4_writesGame_b42 at h
  refine X_callVS (ci := 4) (q := (RX4, TX4, 54)) (As := [_]) (rest := []) C rfl (LX_S hX (k := 175) rfl) q2319 q2321 qs121 q136 q2322 ⟨rfl, nm_X4_puts⟩ rfl dX4_writesGame_42 (m_X4_puts (Cx_l C) hX (d := d - 1) (by omega) st z0 h) (by omega) (by decide) (Nat.le_of_ble_eq_true rfl) (fun s23 w24 hE25 hP26 => ?_) (fun s29 E27 q28 hE25 hP26 => ?_)
  rotate_left
  · exact False.elim hP26
  obtain ⟨rfl, h⟩ := hP26
  refine X_tln ?_
  exact t_X4_writesGame_b45 hX hd C hn hK14 s23 x1 x2 x3 h
def w_X4_writesGame_l14 (Φ : St → Prop) (E67 : St → Int32 → Int32 → Prop) : Nat → St → Int32 → Int32 → Int32 → Prop
  | 0, _, _, _, _ => False
  | n + 1, st, x1, x2, x3 => (((sI st 177 3) ≤ x3) → E67 st x1 x2) ∧ ((¬ (sI st 177 3) ≤ x3) → (((x2 + x3) ≤ 0) → w_X4_writesGame_b45 Φ (w_X4_writesGame_l14 Φ E67 n) st x1 x2 x3) ∧ ((¬ (x2 + x3) ≤ 0) → ((x3 ≠ 0) → w_X4_writesGame_b42 Φ (w_X4_writesGame_l14 Φ E67 n) st x1 x2 x3 44) ∧ ((x3 = 0) → w_X4_writesGame_b42 Φ (w_X4_writesGame_l14 Φ E67 n) st x1 x2 x3 59)))
theorem t_X4_writesGame_l14 {θ : Th} {κ : Kx} {Ph : Ph} (hX : LX θ) {d : Nat} (hd : 2 ≤ d) (C : Cx θ κ yX4_writesGame cX4_writesGame 4 (none : Option Jvm.ClassFile.FieldType) [] d) {Φ : St → Prop} (hn : ∀ st, Φ st → Ph.1 st none) {E67 : St → Int32 → Int32 → Prop} (hE67 : ∀ (st : St) (x1 : Int32) (x2 : Int32), E67 st x1 x2 → X θ κ Ph st 67 [(0, .ref (ad θ 175)), (1, .int x1), (2, .int x2)] []) : ∀ (n : Nat) (st : St) (x1 : Int32) (x2 : Int32) (x3 : Int32), w_X4_writesGame_l14 Φ E67 n st x1 x2 x3 → X θ κ Ph st 14 [(0, .ref (ad θ 175)), (1, .int x1), (2, .int x2), (3, .int x3)] [] := by
  intro n
  induction n with
  | zero => intro st x1 x2 x3 h; exact h.elim
  | succ n hK14 =>
    intro st x1 x2 x3 h
    rw [w_X4_writesGame_l14] at h
    refine X_iload_n C dX4_writesGame_14 rfl 3 rfl ?_
    refine X_aload_n C dX4_writesGame_15 rfl 0 rfl (isRV_r _) ?_
    refine X_getF (ci := 4) (j := 1) (q := (RX4, TX4, 54)) C rfl (by decide) q1767 rfl dX4_writesGame_16 (b := 177) (LX_S hX (k := 175) rfl) (LX_F hX (k := 175) (j := 1) rfl) rfl ?_
    refine X_iconst (v := 3) C dX4_writesGame_19 rfl ?_
    refine X_ialdS C (LX_S hX (k := 177) rfl) (LX_L hX (k := 177) rfl) (vp_dec rfl) rfl dX4_writesGame_20 ?_
    refine X_icmp_ge (tgt := 67) C dX4_writesGame_21 (by decide) (fun c2 => ?_) (fun c2 => ?_)
    · have h := h.1 c2
      refine X_sub [0, 1, 2] (lo2 := [(0, _), (1, _), (2, _)]) rfl ?_
      exact hE67 st x1 x2 h
    · have h := h.2 c2
      refine X_iload_n C dX4_writesGame_24 rfl 2 rfl ?_
      refine X_iload_n C dX4_writesGame_25 rfl 3 rfl ?_
      refine X_iadd C dX4_writesGame_26 ?_
      refine X_if_le (tgt := 45) C dX4_writesGame_27 (by decide) (fun c3 => ?_) (fun c3 => ?_)
      · have h := h.1 c3
        exact t_X4_writesGame_b45 hX hd C hn hK14 st x1 x2 x3 h
      · have h := h.2 c3
        refine X_aload_n C dX4_writesGame_30 rfl 0 rfl (isRV_r _) ?_
        refine X_iload_n C dX4_writesGame_31 rfl 3 rfl ?_
        refine X_if_ne (tgt := 40) C dX4_writesGame_32 (by decide) (fun c21 => ?_) (fun c21 => ?_)
        · have h := h.1 c21
          refine X_bipush (v := 44) C dX4_writesGame_40 rfl ?_
          exact t_X4_writesGame_b42 hX hd C hn hK14 st x1 x2 x3 44 h
        · have h := h.2 c21
          refine X_bipush (v := 59) C dX4_writesGame_35 rfl ?_
          refine X_goto (tgt := 42) C dX4_writesGame_37 (by decide) ?_
          exact t_X4_writesGame_b42 hX hd C hn hK14 st x1 x2 x3 59 h
def w_X4_writesGame_b67 (Φ : St → Prop) (K2 : St → Int32 → Int32 → Prop) (st : St) (x1 : Int32) (x2 : Int32) : Prop := K2 st x1 (x2 + 1)
theorem t_X4_writesGame_b67 {θ : Th} {κ : Kx} {Ph : Ph} (hX : LX θ) {d : Nat} (hd : 2 ≤ d) (C : Cx θ κ yX4_writesGame cX4_writesGame 4 (none : Option Jvm.ClassFile.FieldType) [] d) {Φ : St → Prop} (hn : ∀ st, Φ st → Ph.1 st none) {K2 : St → Int32 → Int32 → Prop} (hK2 : ∀ (st : St) (x1 : Int32) (x2 : Int32), K2 st x1 x2 → X θ κ Ph st 2 [(0, .ref (ad θ 175)), (1, .int x1), (2, .int x2)] []) (st : St) (x1 : Int32) (x2 : Int32) (h : w_X4_writesGame_b67 Φ K2 st x1 x2) : X θ κ Ph st 67 [(0, .ref (ad θ 175)), (1, .int x1), (2, .int x2)] [] := by
  unfold w_X4_writesGame_b67 at h
  refine X_iinc (v := (x2 + 1)) C (j := 2) dX4_writesGame_67 rfl rfl (lo2 := [(2, _), (0, _), (1, _)]) (by decide) rfl ?_
  refine X_goto (tgt := 2) C dX4_writesGame_70 (by decide) ?_
  refine X_sub [1, 2, 0] (lo2 := [(0, _), (1, _), (2, _)]) rfl ?_
  exact hK2 st x1 (x2 + 1) h
def w_X4_writesGame_l2 (Φ : St → Prop) (E73 : St → Prop) : Nat → St → Int32 → Int32 → Prop
  | 0, _, _, _ => False
  | n + 1, st, x1, x2 => (((sI st 177 2) ≤ x2) → E73 st) ∧ ((¬ (sI st 177 2) ≤ x2) → w_X4_writesGame_l14 Φ (fun (s30 : St) (x1 : Int32) (x2 : Int32) => w_X4_writesGame_b67 Φ (w_X4_writesGame_l2 Φ E73 n) s30 x1 x2) gFU st x1 x2 0)
theorem t_X4_writesGame_l2 {θ : Th} {κ : Kx} {Ph : Ph} (hX : LX θ) {d : Nat} (hd : 2 ≤ d) (C : Cx θ κ yX4_writesGame cX4_writesGame 4 (none : Option Jvm.ClassFile.FieldType) [] d) {Φ : St → Prop} (hn : ∀ st, Φ st → Ph.1 st none) {E73 : St → Prop} (hE73 : ∀ (st : St), E73 st → X θ κ Ph st 73 [] []) : ∀ (n : Nat) (st : St) (x1 : Int32) (x2 : Int32), w_X4_writesGame_l2 Φ E73 n st x1 x2 → X θ κ Ph st 2 [(0, .ref (ad θ 175)), (1, .int x1), (2, .int x2)] [] := by
  intro n
  induction n with
  | zero => intro st x1 x2 h; exact h.elim
  | succ n hK2 =>
    intro st x1 x2 h
    rw [w_X4_writesGame_l2] at h
    refine X_iload_n C dX4_writesGame_2 rfl 2 rfl ?_
    refine X_aload_n C dX4_writesGame_3 rfl 0 rfl (isRV_r _) ?_
    refine X_getF (ci := 4) (j := 1) (q := (RX4, TX4, 54)) C rfl (by decide) q1767 rfl dX4_writesGame_4 (b := 177) (LX_S hX (k := 175) rfl) (LX_F hX (k := 175) (j := 1) rfl) rfl ?_
    refine X_iconst (v := 2) C dX4_writesGame_7 rfl ?_
    refine X_ialdS C (LX_S hX (k := 177) rfl) (LX_L hX (k := 177) rfl) (vp_dec rfl) rfl dX4_writesGame_8 ?_
    refine X_icmp_ge (tgt := 73) C dX4_writesGame_9 (by decide) (fun c1 => ?_) (fun c1 => ?_)
    · have h := h.1 c1
      refine X_sub [] (lo2 := []) rfl ?_
      exact hE73 st h
    · have h := h.2 c1
      refine X_iconst (v := 0) C dX4_writesGame_12 rfl ?_
      refine X_istore_n C dX4_writesGame_13 rfl (lo2 := [(3, _), (0, _), (1, _), (2, _)]) (by decide) rfl ?_
      refine X_sub [1, 2, 3, 0] (lo2 := [(0, _), (1, _), (2, _), (3, _)]) rfl ?_
      refine t_X4_writesGame_l14 hX hd C hn ?_ gFU st x1 x2 0 h
      · intro s30 x1 x2 h
        exact t_X4_writesGame_b67 hX hd C hn hK2 s30 x1 x2 h
def w_X4_writesGame_b73 (Φ : St → Prop) (st : St) : Prop := Φ st
theorem t_X4_writesGame_b73 {θ : Th} {κ : Kx} {Ph : Ph} (hX : LX θ) {d : Nat} (hd : 2 ≤ d) (C : Cx θ κ yX4_writesGame cX4_writesGame 4 (none : Option Jvm.ClassFile.FieldType) [] d) {Φ : St → Prop} (hn : ∀ st, Φ st → Ph.1 st none) (st : St) (h : w_X4_writesGame_b73 Φ st) : X θ κ Ph st 73 [] [] := by
  unfold w_X4_writesGame_b73 at h
  exact X_vret C rfl dX4_writesGame_73 (hn st h)
def w_X4_writesGame (st : St) (p1 : Int32) (Φ : St → Prop) : Prop := w_X4_writesGame_l2 Φ (fun (s31 : St) => w_X4_writesGame_b73 Φ s31) gFU st p1 0
theorem nm_X4_writesGame : yX4_writesGame.cls ≠ "java/lang/invoke/MethodHandle" ∧ yX4_writesGame.cls ≠ "java/lang/invoke/VarHandle" ∧ (parseMethodDescriptor yX4_writesGame.desc).map (fun d => d.parameters.length) = some 1 := by decide +kernel
theorem e_X4_writesGame : plainFor yX4_writesGame = true := plainFor_of_name (by decide +kernel)
theorem m_X4_writesGame {θ : Th} {l : Launch} (hl0 : l.stackTraces = false) (hX : LX θ) {d : Nat} (hd : 2 ≤ d) (st : St) (p1 : Int32) {Φ : St → Prop} (h : w_X4_writesGame st p1 Φ) : Ct θ l yX4_writesGame (ws_ yX4_writesGame cX4_writesGame 4 (none : Option Jvm.ClassFile.FieldType)) d [.ref (ad θ 175), .int p1] st (pV Φ, noX) := by
  refine Ct_entry hl0 e_X4_writesGame (Nat.le_of_ble_eq_true rfl) (fun κ hκ _ C => ?_)
  have hn : ∀ st, Φ st → ((pV Φ, noX) : Ph).1 st none := fun st q => ⟨rfl, q⟩
  change X _ _ _ _ _ [(0, .ref (ad θ 175)), (1, .int p1)] _
  unfold w_X4_writesGame at h
  refine X_iconst (v := 0) C dX4_writesGame_0 rfl ?_
  refine X_istore_n C dX4_writesGame_1 rfl (lo2 := [(2, _), (0, _), (1, _)]) (by decide) rfl ?_
  refine X_sub [1, 2, 0] (lo2 := [(0, _), (1, _), (2, _)]) rfl ?_
  refine t_X4_writesGame_l2 hX hd C hn ?_ gFU st p1 0 h
  · intro s31 h
    exact t_X4_writesGame_b73 hX hd C hn s31 h

def w_X4_writesBest_b32 (Φ : St → Prop) (K7 : St → Int32 → Prop) (st : St) (x2 : Int32) : Prop := vp_in x2 3 ∧ w_X4_lowest st (sL st 200 x2.toNatClampNeg) (sL st 175 42) (fun (s14 : St) => w_X4_writesFraction s14 (fun (s22 : St) => w_X4_puts s22 42 (fun (s30 : St) => w_X4_writes s30 (sI s30 199 x2.toNatClampNeg).toInt64 (fun (s38 : St) => K7 s38 (x2 + 1)))))
theorem t_X4_writesBest_b32 {θ : Th} {κ : Kx} {Ph : Ph} (hX : LX θ) {d : Nat} (hd : 10 ≤ d) (C : Cx θ κ yX4_writesBest cX4_writesBest 3 (none : Option Jvm.ClassFile.FieldType) [] d) {Φ : St → Prop} (hn : ∀ st, Φ st → Ph.1 st none) {K7 : St → Int32 → Prop} (hK7 : ∀ (st : St) (x2 : Int32), K7 st x2 → X θ κ Ph st 7 [(0, .ref (ad θ 175)), (2, .int x2)] []) (st : St) (x2 : Int32) (h : w_X4_writesBest_b32 Φ K7 st x2) : X θ κ Ph st 32 [(0, .ref (ad θ 175)), (2, .int x2)] [] := by
  unfold w_X4_writesBest_b32 at h
  refine X_aload_n C dX4_writesBest_32 rfl 0 rfl (isRV_r _) ?_
  refine X_aload_n C dX4_writesBest_33 rfl 0 rfl (isRV_r _) ?_
  refine X_getF (ci := 4) (j := 40) (q := (RX4, TX4, 54)) C rfl (by decide) q1806 rfl dX4_writesBest_34 (b := 200) (LX_S hX (k := 175) rfl) (LX_F hX (k := 175) (j := 40) rfl) rfl ?_
  refine X_iload_n C dX4_writesBest_37 rfl 1 rfl ?_
  have g12 := h.1
  have h := h.2
  refine X_laldS C (LX_S hX (k := 200) rfl) (LX_L hX (k := 200) rfl) g12 rfl dX4_writesBest_38 ?_
  refine X_aload_n C dX4_writesBest_39 rfl 0 rfl (isRV_r _) ?_
  refine X_getS (ci := 4) (j := 42) (q := (RX4, TX4, 54)) C rfl (by decide) q1808 rfl dX4_writesBest_40 (LX_S hX (k := 175) rfl) (v := .long (sL st 175 42)) rfl ?_
  refine X_callVS (ci := 4) (q := (RX4, TX4, 54)) (As := [_, _]) (rest := []) C rfl (LX_S hX (k := 175) rfl) q2081 q2083 qs82 q136 q2084 ⟨rfl, nm_X4_lowest⟩ rfl dX4_writesBest_43 (m_X4_lowest (Cx_l C) hX (d := d - 1) (by omega) st (sL st 200 x2.toNatClampNeg) (sL st 175 42) h) (by omega) (by decide) (Nat.le_of_ble_eq_true rfl) (fun s14 w15 hE16 hP17 => ?_) (fun s20 E18 q19 hE16 hP17 => ?_)
  rotate_left
  · exact False.elim hP17
  obtain ⟨rfl, h⟩ := hP17
  refine X_tln ?_
  refine X_aload_n C dX4_writesBest_46 rfl 0 rfl (isRV_r _) ?_
  refine X_callVS (ci := 4) (q := (RX4, TX4, 54)) (As := []) (rest := []) C rfl (LX_S hX (k := 175) rfl) q2330 q2332 qs123 q136 q2333 ⟨rfl, nm_X4_writesFraction⟩ rfl dX4_writesBest_47 (m_X4_writesFraction (Cx_l C) hX (d := d - 1) (by omega) s14 h) (by omega) (by decide) (Nat.le_of_ble_eq_true rfl) (fun s22 w23 hE24 hP25 => ?_) (fun s28 E26 q27 hE24 hP25 => ?_)
  rotate_left
  · exact False.elim hP25
  obtain ⟨rfl, h⟩ := hP25
  refine X_tln ?_
  refine X_aload_n C dX4_writesBest_50 rfl 0 rfl (isRV_r _) ?_
  refine X_bipush (v := 42) C dX4_writesBest_51 rfl ?_
  refine X_callVS (ci := 4) (q := (RX4, TX4, 54)) (As := [_]) (rest := []) C rfl (LX_S hX (k := 175) rfl) q2319 q2321 qs121 q136 q2322 ⟨rfl, nm_X4_puts⟩ rfl dX4_writesBest_53 (m_X4_puts (Cx_l C) hX (d := d - 1) (by omega) s22 42 h) (by omega) (by decide) (Nat.le_of_ble_eq_true rfl) (fun s30 w31 hE32 hP33 => ?_) (fun s36 E34 q35 hE32 hP33 => ?_)
  rotate_left
  · exact False.elim hP33
  obtain ⟨rfl, h⟩ := hP33
  refine X_tln ?_
  refine X_aload_n C dX4_writesBest_56 rfl 0 rfl (isRV_r _) ?_
  refine X_aload_n C dX4_writesBest_57 rfl 0 rfl (isRV_r _) ?_
  refine X_getF (ci := 4) (j := 39) (q := (RX4, TX4, 54)) C rfl (by decide) q1805 rfl dX4_writesBest_58 (b := 199) (LX_S hX (k := 175) rfl) (LX_F hX (k := 175) (j := 39) rfl) rfl ?_
  refine X_iload_n C dX4_writesBest_61 rfl 1 rfl ?_
  refine X_ialdS C (LX_S hX (k := 199) rfl) (LX_L hX (k := 199) rfl) g12 rfl dX4_writesBest_62 ?_
  refine X_i2l C dX4_writesBest_63 ?_
  refine X_callVS (ci := 4) (q := (RX4, TX4, 54)) (As := [_]) (rest := []) C rfl (LX_S hX (k := 175) rfl) q2323 q2325 qs122 q136 q2326 ⟨rfl, nm_X4_writes⟩ rfl dX4_writesBest_64 (m_X4_writes (Cx_l C) hX (d := d - 1) (by omega) s30 (sI s30 199 x2.toNatClampNeg).toInt64 h) (by omega) (by decide) (Nat.le_of_ble_eq_true rfl) (fun s38 w39 hE40 hP41 => ?_) (fun s44 E42 q43 hE40 hP41 => ?_)
  rotate_left
  · exact False.elim hP41
  obtain ⟨rfl, h⟩ := hP41
  refine X_tln ?_
  refine X_iinc (v := (x2 + 1)) C (j := 1) dX4_writesBest_67 rfl rfl (lo2 := [(2, _), (0, _)]) (by decide) rfl ?_
  refine X_goto (tgt := 7) C dX4_writesBest_70 (by decide) ?_
  refine X_sub [1, 0] (lo2 := [(0, _), (2, _)]) rfl ?_
  exact hK7 s38 (x2 + 1) h
def w_X4_writesBest_l7 (Φ : St → Prop) (E73 : St → Prop) : Nat → St → Int32 → Prop
  | 0, _, _ => False
  | n + 1, st, x2 => (((sI st 175 41) ≤ x2) → E73 st) ∧ ((¬ (sI st 175 41) ≤ x2) → (((sI st 175 20) ≠ 0) → E73 st) ∧ (((sI st 175 20) = 0) → ((x2 ≤ 0) → w_X4_writesBest_b32 Φ (w_X4_writesBest_l7 Φ E73 n) st x2) ∧ ((¬ x2 ≤ 0) → w_X4_puts st 43 (fun (s46 : St) => w_X4_writesBest_b32 Φ (w_X4_writesBest_l7 Φ E73 n) s46 x2))))
theorem t_X4_writesBest_l7 {θ : Th} {κ : Kx} {Ph : Ph} (hX : LX θ) {d : Nat} (hd : 10 ≤ d) (C : Cx θ κ yX4_writesBest cX4_writesBest 3 (none : Option Jvm.ClassFile.FieldType) [] d) {Φ : St → Prop} (hn : ∀ st, Φ st → Ph.1 st none) {E73 : St → Prop} (hE73 : ∀ (st : St), E73 st → X θ κ Ph st 73 [] []) : ∀ (n : Nat) (st : St) (x2 : Int32), w_X4_writesBest_l7 Φ E73 n st x2 → X θ κ Ph st 7 [(0, .ref (ad θ 175)), (2, .int x2)] [] := by
  intro n
  induction n with
  | zero => intro st x2 h; exact h.elim
  | succ n hK7 =>
    intro st x2 h
    rw [w_X4_writesBest_l7] at h
    refine X_iload_n C dX4_writesBest_7 rfl 1 rfl ?_
    refine X_aload_n C dX4_writesBest_8 rfl 0 rfl (isRV_r _) ?_
    refine X_getS (ci := 4) (j := 41) (q := (RX4, TX4, 54)) C rfl (by decide) q1807 rfl dX4_writesBest_9 (LX_S hX (k := 175) rfl) (v := .int (sI st 175 41)) rfl ?_
    refine X_icmp_ge (tgt := 73) C dX4_writesBest_12 (by decide) (fun c9 => ?_) (fun c9 => ?_)
    · have h := h.1 c9
      refine X_sub [] (lo2 := []) rfl ?_
      exact hE73 st h
    · have h := h.2 c9
      refine X_aload_n C dX4_writesBest_15 rfl 0 rfl (isRV_r _) ?_
      refine X_getS (ci := 4) (j := 20) (q := (RX4, TX4, 54)) C rfl (by decide) q1786 rfl dX4_writesBest_16 (LX_S hX (k := 175) rfl) (v := .int (sI st 175 20)) rfl ?_
      refine X_if_ne (tgt := 73) C dX4_writesBest_19 (by decide) (fun c10 => ?_) (fun c10 => ?_)
      · have h := h.1 c10
        refine X_sub [] (lo2 := []) rfl ?_
        exact hE73 st h
      · have h := h.2 c10
        refine X_iload_n C dX4_writesBest_22 rfl 1 rfl ?_
        refine X_if_le (tgt := 32) C dX4_writesBest_23 (by decide) (fun c11 => ?_) (fun c11 => ?_)
        · have h := h.1 c11
          exact t_X4_writesBest_b32 hX hd C hn hK7 st x2 h
        · have h := h.2 c11
          refine X_aload_n C dX4_writesBest_26 rfl 0 rfl (isRV_r _) ?_
          refine X_bipush (v := 43) C dX4_writesBest_27 rfl ?_
          refine X_callVS (ci := 4) (q := (RX4, TX4, 54)) (As := [_]) (rest := []) C rfl (LX_S hX (k := 175) rfl) q2319 q2321 qs121 q136 q2322 ⟨rfl, nm_X4_puts⟩ rfl dX4_writesBest_29 (m_X4_puts (Cx_l C) hX (d := d - 1) (by omega) st 43 h) (by omega) (by decide) (Nat.le_of_ble_eq_true rfl) (fun s46 w47 hE48 hP49 => ?_) (fun s52 E50 q51 hE48 hP49 => ?_)
          rotate_left
          · exact False.elim hP49
          obtain ⟨rfl, h⟩ := hP49
          refine X_tln ?_
          exact t_X4_writesBest_b32 hX hd C hn hK7 s46 x2 h
def w_X4_writesBest_b73 (Φ : St → Prop) (st : St) : Prop := Φ st
theorem t_X4_writesBest_b73 {θ : Th} {κ : Kx} {Ph : Ph} (hX : LX θ) {d : Nat} (hd : 10 ≤ d) (C : Cx θ κ yX4_writesBest cX4_writesBest 3 (none : Option Jvm.ClassFile.FieldType) [] d) {Φ : St → Prop} (hn : ∀ st, Φ st → Ph.1 st none) (st : St) (h : w_X4_writesBest_b73 Φ st) : X θ κ Ph st 73 [] [] := by
  unfold w_X4_writesBest_b73 at h
  exact X_vret C rfl dX4_writesBest_73 (hn st h)
def w_X4_writesBest (st : St) (p1 : Int32) (Φ : St → Prop) : Prop := w_X4_hullOf st p1 (fun (s2 : St) => w_X4_writesBest_l7 Φ (fun (s53 : St) => w_X4_writesBest_b73 Φ s53) gFU s2 0)
theorem nm_X4_writesBest : yX4_writesBest.cls ≠ "java/lang/invoke/MethodHandle" ∧ yX4_writesBest.cls ≠ "java/lang/invoke/VarHandle" ∧ (parseMethodDescriptor yX4_writesBest.desc).map (fun d => d.parameters.length) = some 1 := by decide +kernel
theorem e_X4_writesBest : plainFor yX4_writesBest = true := plainFor_of_name (by decide +kernel)
theorem m_X4_writesBest {θ : Th} {l : Launch} (hl0 : l.stackTraces = false) (hX : LX θ) {d : Nat} (hd : 10 ≤ d) (st : St) (p1 : Int32) {Φ : St → Prop} (h : w_X4_writesBest st p1 Φ) : Ct θ l yX4_writesBest (ws_ yX4_writesBest cX4_writesBest 3 (none : Option Jvm.ClassFile.FieldType)) d [.ref (ad θ 175), .int p1] st (pV Φ, noX) := by
  refine Ct_entry hl0 e_X4_writesBest (Nat.le_of_ble_eq_true rfl) (fun κ hκ _ C => ?_)
  have hn : ∀ st, Φ st → ((pV Φ, noX) : Ph).1 st none := fun st q => ⟨rfl, q⟩
  change X _ _ _ _ _ [(0, .ref (ad θ 175)), (1, .int p1)] _
  unfold w_X4_writesBest at h
  refine X_aload_n C dX4_writesBest_0 rfl 0 rfl (isRV_r _) ?_
  refine X_iload_n C dX4_writesBest_1 rfl 1 rfl ?_
  refine X_callVS (ci := 4) (q := (RX4, TX4, 54)) (As := [_]) (rest := []) C rfl (LX_S hX (k := 175) rfl) q2156 q2158 qs96 q136 q2159 ⟨rfl, nm_X4_hullOf⟩ rfl dX4_writesBest_2 (m_X4_hullOf (Cx_l C) hX (d := d - 1) (by omega) st p1 h) (by omega) (by decide) (Nat.le_of_ble_eq_true rfl) (fun s2 w3 hE4 hP5 => ?_) (fun s8 E6 q7 hE4 hP5 => ?_)
  rotate_left
  · exact False.elim hP5
  obtain ⟨rfl, h⟩ := hP5
  refine X_tln ?_
  refine X_iconst (v := 0) C dX4_writesBest_5 rfl ?_
  refine X_istore_n C dX4_writesBest_6 rfl (lo2 := [(2, _), (0, _), (1, _)]) (by decide) rfl ?_
  refine X_sub [1, 0] (lo2 := [(0, _), (2, _)]) rfl ?_
  refine t_X4_writesBest_l7 hX hd C hn ?_ gFU s2 0 h
  · intro s53 h
    exact t_X4_writesBest_b73 hX hd C hn s53 h

def w_X4_letter (st : St) (p1 : Int32) (Φ : St → Int32 → Prop) : Prop := w_X4_isIn p1.toInt64 0 ((sI st 175 13) - 1).toInt64 (fun (r1 : Int32) => ((r1 = 0) → w_X4_finds st 1 (fun (s11 : St) (r10 : Int32) => Φ s11 r10)) ∧ ((¬ r1 = 0) → vp_in p1 600 ∧ Φ st (sI st 183 p1.toNatClampNeg)))
theorem nm_X4_letter : yX4_letter.cls ≠ "java/lang/invoke/MethodHandle" ∧ yX4_letter.cls ≠ "java/lang/invoke/VarHandle" ∧ (parseMethodDescriptor yX4_letter.desc).map (fun d => d.parameters.length) = some 1 := by decide +kernel
theorem e_X4_letter : plainFor yX4_letter = true := plainFor_of_name (by decide +kernel)
theorem m_X4_letter {θ : Th} {l : Launch} (hl0 : l.stackTraces = false) (hX : LX θ) {d : Nat} (hd : 1 ≤ d) (st : St) (p1 : Int32) {Φ : St → Int32 → Prop} (h : w_X4_letter st p1 Φ) : Ct θ l yX4_letter (ws_ yX4_letter cX4_letter 2 (some Jvm.ClassFile.FieldType.int)) d [.ref (ad θ 175), .int p1] st (pI Φ, noX) := by
  refine Ct_entry hl0 e_X4_letter (Nat.le_of_ble_eq_true rfl) (fun κ hκ _ C => ?_)
  have hn : ∀ st r, Φ st r → ((pI Φ, noX) : Ph).1 st (some (.int r)) := fun st r q => ⟨r, rfl, q⟩
  change X _ _ _ _ _ [(0, .ref (ad θ 175)), (1, .int p1)] _
  unfold w_X4_letter at h
  refine X_iload_n C dX4_letter_0 rfl 1 rfl ?_
  refine X_i2l C dX4_letter_1 ?_
  refine X_lconst (v := 0) C dX4_letter_2 rfl ?_
  refine X_aload_n C dX4_letter_3 rfl 0 rfl (isRV_r _) ?_
  refine X_getS (ci := 4) (j := 13) (q := (RX4, TX4, 54)) C rfl (by decide) q1779 rfl dX4_letter_4 (LX_S hX (k := 175) rfl) (v := .int (sI st 175 13)) rfl ?_
  refine X_iconst (v := 1) C dX4_letter_7 rfl ?_
  refine X_isub C dX4_letter_8 ?_
  refine X_i2l C dX4_letter_9 ?_
  refine X_callS (As := [_, _, _]) (rest := []) C q1936 q1937 q136 q1938 nm_X4_isIn rfl dX4_letter_10 (m_X4_isIn (Cx_l C) hX (d := d - 1) (by omega) st p1.toInt64 0 ((sI st 175 13) - 1).toInt64 h) (by omega) (by decide) (Nat.le_of_ble_eq_true rfl) (fun s7 w2 hE3 hP4 => ?_) (fun s8 E5 q6 hE3 hP4 => ?_)
  rotate_left
  · exact False.elim hP4
  obtain ⟨r1, rfl, rfl, h⟩ := hP4
  refine X_tls ?_
  refine X_if_eq (tgt := 25) C dX4_letter_13 (by decide) (fun c9 => ?_) (fun c9 => ?_)
  · have h := h.1 c9
    refine X_aload_n C dX4_letter_25 rfl 0 rfl (isRV_r _) ?_
    refine X_iconst (v := 1) C dX4_letter_26 rfl ?_
    refine X_callVS (ci := 4) (q := (RX4, TX4, 54)) (As := [_]) (rest := []) C rfl (LX_S hX (k := 175) rfl) q1939 q1941 qs63 q136 q1942 ⟨rfl, nm_X4_finds⟩ rfl dX4_letter_27 (m_X4_finds (Cx_l C) hX (d := d - 1) (by omega) st 1 h) (by omega) (by decide) (Nat.le_of_ble_eq_true rfl) (fun s11 w12 hE13 hP14 => ?_) (fun s17 E15 q16 hE13 hP14 => ?_)
    rotate_left
    · exact False.elim hP14
    obtain ⟨r10, rfl, h⟩ := hP14
    refine X_tls ?_
    exact X_iret C rfl dX4_letter_30 (hn s11 _ h)
  · have h := h.2 c9
    refine X_aload_n C dX4_letter_16 rfl 0 rfl (isRV_r _) ?_
    refine X_getF (ci := 4) (j := 11) (q := (RX4, TX4, 54)) C rfl (by decide) q1777 rfl dX4_letter_17 (b := 183) (LX_S hX (k := 175) rfl) (LX_F hX (k := 175) (j := 11) rfl) rfl ?_
    refine X_iload_n C dX4_letter_20 rfl 1 rfl ?_
    have g18 := h.1
    have h := h.2
    refine X_ialdS C (LX_S hX (k := 183) rfl) (LX_L hX (k := 183) rfl) g18 rfl dX4_letter_21 ?_
    refine X_goto (tgt := 30) C dX4_letter_22 (by decide) ?_
    exact X_iret C rfl dX4_letter_30 (hn st _ h)

def w_X4_letters_b28 (Φ : St → Int32 → Prop) (K4 : St → Int32 → Int32 → Int32 → Prop) (st : St) (x1 : Int32) (x3 : Int32) (z0 : Int32) (z1 : Int32) : Prop := ∀ v4 : Int32, v4 = (z1 + z0) → K4 st x1 v4 (x3 + 1)
theorem t_X4_letters_b28 {θ : Th} {κ : Kx} {Ph : Ph} (hX : LX θ) {d : Nat} (hd : 0 ≤ d) (C : Cx θ κ yX4_letters cX4_letters 4 (some Jvm.ClassFile.FieldType.int) [] d) {Φ : St → Int32 → Prop} (hn : ∀ st r, Φ st r → Ph.1 st (some (.int r))) {K4 : St → Int32 → Int32 → Int32 → Prop} (hK4 : ∀ (st : St) (x1 : Int32) (x2 : Int32) (x3 : Int32), K4 st x1 x2 x3 → X θ κ Ph st 4 [(0, .ref (ad θ 175)), (1, .int x1), (2, .int x2), (3, .int x3)] []) (st : St) (x1 : Int32) (x3 : Int32) (z0 : Int32) (z1 : Int32) (h : w_X4_letters_b28 Φ K4 st x1 x3 z0 z1) : X θ κ Ph st 28 [(0, .ref (ad θ 175)), (1, .int x1), (3, .int x3)] [.int z0, .int z1] := by
  unfold w_X4_letters_b28 at h
  refine X_iadd C dX4_letters_28 ?_
  refine X_topi (fun v4 e5 => ?_)
  have h := h v4 e5
  refine X_istore_n C dX4_letters_29 rfl (lo2 := [(2, _), (0, _), (1, _), (3, _)]) (by decide) rfl ?_
  refine X_iinc (v := (x3 + 1)) C (j := 3) dX4_letters_30 rfl rfl (lo2 := [(3, _), (2, _), (0, _), (1, _)]) (by decide) rfl ?_
  refine X_goto (tgt := 4) C dX4_letters_33 (by decide) ?_
  refine X_sub [2, 3, 1, 0] (lo2 := [(0, _), (1, _), (2, _), (3, _)]) rfl ?_
  exact hK4 st x1 v4 (x3 + 1) h
def w_X4_letters_l4 (Φ : St → Int32 → Prop) (E36 : St → Int32 → Prop) : Nat → St → Int32 → Int32 → Int32 → Prop
  | 0, _, _, _, _ => False
  | n + 1, st, x1, x2, x3 => (((sI st 175 13) ≤ x3) → E36 st x2) ∧ ((¬ (sI st 175 13) ≤ x3) → vp_in x3 600 ∧ (((sI st 183 x3.toNatClampNeg) ≠ x1) → w_X4_letters_b28 Φ (w_X4_letters_l4 Φ E36 n) st x1 x3 0 x2) ∧ (((sI st 183 x3.toNatClampNeg) = x1) → w_X4_letters_b28 Φ (w_X4_letters_l4 Φ E36 n) st x1 x3 1 x2))
theorem t_X4_letters_l4 {θ : Th} {κ : Kx} {Ph : Ph} (hX : LX θ) {d : Nat} (hd : 0 ≤ d) (C : Cx θ κ yX4_letters cX4_letters 4 (some Jvm.ClassFile.FieldType.int) [] d) {Φ : St → Int32 → Prop} (hn : ∀ st r, Φ st r → Ph.1 st (some (.int r))) {E36 : St → Int32 → Prop} (hE36 : ∀ (st : St) (x2 : Int32), E36 st x2 → X θ κ Ph st 36 [(2, .int x2)] []) : ∀ (n : Nat) (st : St) (x1 : Int32) (x2 : Int32) (x3 : Int32), w_X4_letters_l4 Φ E36 n st x1 x2 x3 → X θ κ Ph st 4 [(0, .ref (ad θ 175)), (1, .int x1), (2, .int x2), (3, .int x3)] [] := by
  intro n
  induction n with
  | zero => intro st x1 x2 x3 h; exact h.elim
  | succ n hK4 =>
    intro st x1 x2 x3 h
    rw [w_X4_letters_l4] at h
    refine X_iload_n C dX4_letters_4 rfl 3 rfl ?_
    refine X_aload_n C dX4_letters_5 rfl 0 rfl (isRV_r _) ?_
    refine X_getS (ci := 4) (j := 13) (q := (RX4, TX4, 54)) C rfl (by decide) q1779 rfl dX4_letters_6 (LX_S hX (k := 175) rfl) (v := .int (sI st 175 13)) rfl ?_
    refine X_icmp_ge (tgt := 36) C dX4_letters_9 (by decide) (fun c1 => ?_) (fun c1 => ?_)
    · have h := h.1 c1
      refine X_sub [2] (lo2 := [(2, _)]) rfl ?_
      exact hE36 st x2 h
    · have h := h.2 c1
      refine X_iload_n C dX4_letters_12 rfl 2 rfl ?_
      refine X_aload_n C dX4_letters_13 rfl 0 rfl (isRV_r _) ?_
      refine X_getF (ci := 4) (j := 11) (q := (RX4, TX4, 54)) C rfl (by decide) q1777 rfl dX4_letters_14 (b := 183) (LX_S hX (k := 175) rfl) (LX_F hX (k := 175) (j := 11) rfl) rfl ?_
      refine X_iload_n C dX4_letters_17 rfl 3 rfl ?_
      have g2 := h.1
      have h := h.2
      refine X_ialdS C (LX_S hX (k := 183) rfl) (LX_L hX (k := 183) rfl) g2 rfl dX4_letters_18 ?_
      refine X_iload_n C dX4_letters_19 rfl 1 rfl ?_
      refine X_icmp_ne (tgt := 27) C dX4_letters_20 (by decide) (fun c3 => ?_) (fun c3 => ?_)
      · have h := h.1 c3
        refine X_iconst (v := 0) C dX4_letters_27 rfl ?_
        refine X_sub [0, 1, 3] (lo2 := [(0, _), (1, _), (3, _)]) rfl ?_
        exact t_X4_letters_b28 hX hd C hn hK4 st x1 x3 0 x2 h
      · have h := h.2 c3
        refine X_iconst (v := 1) C dX4_letters_23 rfl ?_
        refine X_goto (tgt := 28) C dX4_letters_24 (by decide) ?_
        refine X_sub [0, 1, 3] (lo2 := [(0, _), (1, _), (3, _)]) rfl ?_
        exact t_X4_letters_b28 hX hd C hn hK4 st x1 x3 1 x2 h
def w_X4_letters_b36 (Φ : St → Int32 → Prop) (st : St) (x2 : Int32) : Prop := Φ st x2
theorem t_X4_letters_b36 {θ : Th} {κ : Kx} {Ph : Ph} (hX : LX θ) {d : Nat} (hd : 0 ≤ d) (C : Cx θ κ yX4_letters cX4_letters 4 (some Jvm.ClassFile.FieldType.int) [] d) {Φ : St → Int32 → Prop} (hn : ∀ st r, Φ st r → Ph.1 st (some (.int r))) (st : St) (x2 : Int32) (h : w_X4_letters_b36 Φ st x2) : X θ κ Ph st 36 [(2, .int x2)] [] := by
  unfold w_X4_letters_b36 at h
  refine X_iload_n C dX4_letters_36 rfl 0 rfl ?_
  exact X_iret C rfl dX4_letters_37 (hn st _ h)
def w_X4_letters (st : St) (p1 : Int32) (Φ : St → Int32 → Prop) : Prop := w_X4_letters_l4 Φ (fun (s6 : St) (x2 : Int32) => w_X4_letters_b36 Φ s6 x2) gFU st p1 0 0
theorem nm_X4_letters : yX4_letters.cls ≠ "java/lang/invoke/MethodHandle" ∧ yX4_letters.cls ≠ "java/lang/invoke/VarHandle" ∧ (parseMethodDescriptor yX4_letters.desc).map (fun d => d.parameters.length) = some 1 := by decide +kernel
theorem e_X4_letters : plainFor yX4_letters = true := plainFor_of_name (by decide +kernel)
theorem m_X4_letters {θ : Th} {l : Launch} (hl0 : l.stackTraces = false) (hX : LX θ) {d : Nat} (hd : 0 ≤ d) (st : St) (p1 : Int32) {Φ : St → Int32 → Prop} (h : w_X4_letters st p1 Φ) : Ct θ l yX4_letters (ws_ yX4_letters cX4_letters 4 (some Jvm.ClassFile.FieldType.int)) d [.ref (ad θ 175), .int p1] st (pI Φ, noX) := by
  refine Ct_entry hl0 e_X4_letters (Nat.le_of_ble_eq_true rfl) (fun κ hκ _ C => ?_)
  have hn : ∀ st r, Φ st r → ((pI Φ, noX) : Ph).1 st (some (.int r)) := fun st r q => ⟨r, rfl, q⟩
  change X _ _ _ _ _ [(0, .ref (ad θ 175)), (1, .int p1)] _
  unfold w_X4_letters at h
  refine X_iconst (v := 0) C dX4_letters_0 rfl ?_
  refine X_istore_n C dX4_letters_1 rfl (lo2 := [(2, _), (0, _), (1, _)]) (by decide) rfl ?_
  refine X_iconst (v := 0) C dX4_letters_2 rfl ?_
  refine X_istore_n C dX4_letters_3 rfl (lo2 := [(3, _), (2, _), (0, _), (1, _)]) (by decide) rfl ?_
  refine X_sub [2, 3, 1, 0] (lo2 := [(0, _), (1, _), (2, _), (3, _)]) rfl ?_
  refine t_X4_letters_l4 hX hd C hn ?_ gFU st p1 0 0 h
  · intro s6 x2 h
    exact t_X4_letters_b36 hX hd C hn s6 x2 h

def w_X4_begin_l12 (Φ : St → Int32 → Prop) (E30 : St → Prop) : Nat → St → Int32 → Prop
  | 0, _, _ => False
  | n + 1, st, x1 => ((3 ≤ x1) → E30 st) ∧ ((¬ 3 ≤ x1) → vp_in x1 3 ∧ ∀ s7, s7 = putI st 180 (x1.toNatClampNeg) 0 → w_X4_begin_l12 Φ E30 n s7 (x1 + 1))
theorem t_X4_begin_l12 {θ : Th} {κ : Kx} {Ph : Ph} (hX : LX θ) {d : Nat} (hd : 0 ≤ d) (C : Cx θ κ yX4_begin cX4_begin 2 (some Jvm.ClassFile.FieldType.int) [] d) {Φ : St → Int32 → Prop} (hn : ∀ st r, Φ st r → Ph.1 st (some (.int r))) {E30 : St → Prop} (hE30 : ∀ (st : St), E30 st → X θ κ Ph st 30 [] []) : ∀ (n : Nat) (st : St) (x1 : Int32), w_X4_begin_l12 Φ E30 n st x1 → X θ κ Ph st 12 [(0, .ref (ad θ 175)), (1, .int x1)] [] := by
  intro n
  induction n with
  | zero => intro st x1 h; exact h.elim
  | succ n hK12 =>
    intro st x1 h
    rw [w_X4_begin_l12] at h
    refine X_iload_n C dX4_begin_12 rfl 1 rfl ?_
    refine X_iconst (v := 3) C dX4_begin_13 rfl ?_
    refine X_icmp_ge (tgt := 30) C dX4_begin_14 (by decide) (fun c5 => ?_) (fun c5 => ?_)
    · have h := h.1 c5
      refine X_sub [] (lo2 := []) rfl ?_
      exact hE30 st h
    · have h := h.2 c5
      refine X_aload_n C dX4_begin_17 rfl 0 rfl (isRV_r _) ?_
      refine X_getF (ci := 4) (j := 7) (q := (RX4, TX4, 54)) C rfl (by decide) q1773 rfl dX4_begin_18 (b := 180) (LX_S hX (k := 175) rfl) (LX_F hX (k := 175) (j := 7) rfl) rfl ?_
      refine X_iload_n C dX4_begin_21 rfl 1 rfl ?_
      refine X_iconst (v := 0) C dX4_begin_22 rfl ?_
      have g6 := h.1
      have h := h.2
      refine X_iastS C (LX_S hX (k := 180) rfl) (LX_L hX (k := 180) rfl) g6 rfl dX4_begin_23 ?_
      refine X_nm (fun s7 e8 => ?_)
      have h := h s7 e8
      refine X_iinc (v := (x1 + 1)) C (j := 1) dX4_begin_24 rfl rfl (lo2 := [(1, _), (0, _)]) (by decide) rfl ?_
      refine X_goto (tgt := 12) C dX4_begin_27 (by decide) ?_
      refine X_sub [1, 0] (lo2 := [(0, _), (1, _)]) rfl ?_
      exact hK12 s7 (x1 + 1) h
def w_X4_begin_b30 (Φ : St → Int32 → Prop) (st : St) : Prop := Φ st 1
theorem t_X4_begin_b30 {θ : Th} {κ : Kx} {Ph : Ph} (hX : LX θ) {d : Nat} (hd : 0 ≤ d) (C : Cx θ κ yX4_begin cX4_begin 2 (some Jvm.ClassFile.FieldType.int) [] d) {Φ : St → Int32 → Prop} (hn : ∀ st r, Φ st r → Ph.1 st (some (.int r))) (st : St) (h : w_X4_begin_b30 Φ st) : X θ κ Ph st 30 [] [] := by
  unfold w_X4_begin_b30 at h
  refine X_iconst (v := 1) C dX4_begin_30 rfl ?_
  exact X_iret C rfl dX4_begin_31 (hn st _ h)
def w_X4_begin (st : St) (Φ : St → Int32 → Prop) : Prop := ∀ s1, s1 = putI st 175 5 1 → ∀ s3, s3 = putI s1 175 6 0 → w_X4_begin_l12 Φ (fun (s9 : St) => w_X4_begin_b30 Φ s9) gFU s3 0
theorem nm_X4_begin : yX4_begin.cls ≠ "java/lang/invoke/MethodHandle" ∧ yX4_begin.cls ≠ "java/lang/invoke/VarHandle" ∧ (parseMethodDescriptor yX4_begin.desc).map (fun d => d.parameters.length) = some 0 := by decide +kernel
theorem e_X4_begin : plainFor yX4_begin = true := plainFor_of_name (by decide +kernel)
theorem m_X4_begin {θ : Th} {l : Launch} (hl0 : l.stackTraces = false) (hX : LX θ) {d : Nat} (hd : 0 ≤ d) (st : St) {Φ : St → Int32 → Prop} (h : w_X4_begin st Φ) : Ct θ l yX4_begin (ws_ yX4_begin cX4_begin 2 (some Jvm.ClassFile.FieldType.int)) d [.ref (ad θ 175)] st (pI Φ, noX) := by
  refine Ct_entry hl0 e_X4_begin (Nat.le_of_ble_eq_true rfl) (fun κ hκ _ C => ?_)
  have hn : ∀ st r, Φ st r → ((pI Φ, noX) : Ph).1 st (some (.int r)) := fun st r q => ⟨r, rfl, q⟩
  change X _ _ _ _ _ [(0, .ref (ad θ 175))] _
  unfold w_X4_begin at h
  refine X_aload_n C dX4_begin_0 rfl 0 rfl (isRV_r _) ?_
  refine X_iconst (v := 1) C dX4_begin_1 rfl ?_
  refine X_putSI (ci := 4) (j := 5) (q := (RX4, TX4, 54)) C rfl (by decide) q1771 rfl rfl dX4_begin_2 (LX_S hX (k := 175) rfl) rfl rfl rfl ?_
  refine X_nm (fun s1 e2 => ?_)
  have h := h s1 e2
  refine X_aload_n C dX4_begin_5 rfl 0 rfl (isRV_r _) ?_
  refine X_iconst (v := 0) C dX4_begin_6 rfl ?_
  refine X_putSI (ci := 4) (j := 6) (q := (RX4, TX4, 54)) C rfl (by decide) q1772 rfl rfl dX4_begin_7 (LX_S hX (k := 175) rfl) rfl rfl rfl ?_
  refine X_nm (fun s3 e4 => ?_)
  have h := h s3 e4
  refine X_iconst (v := 0) C dX4_begin_10 rfl ?_
  refine X_istore_n C dX4_begin_11 rfl (lo2 := [(1, _), (0, _)]) (by decide) rfl ?_
  refine X_sub [1, 0] (lo2 := [(0, _), (1, _)]) rfl ?_
  refine t_X4_begin_l12 hX hd C hn ?_ gFU s3 0 h
  · intro s9 h
    exact t_X4_begin_b30 hX hd C hn s9 h

def w_X4_above (st0 : St) (p1 : Int32) (Φ : Int32 → Prop) : Prop := vp_in p1 3 ∧ vp_in (32 + p1) 97 ∧ ∀ v3 : Int32, v3 = ((sI st0 180 p1.toNatClampNeg) - ((sI st0 175 6) * (sI st0 177 (32 + p1).toNatClampNeg))) → ((0 ≤ v3) → Φ v3) ∧ ((¬ 0 ≤ v3) → Φ 0)
theorem nm_X4_above : yX4_above.cls ≠ "java/lang/invoke/MethodHandle" ∧ yX4_above.cls ≠ "java/lang/invoke/VarHandle" ∧ (parseMethodDescriptor yX4_above.desc).map (fun d => d.parameters.length) = some 1 := by decide +kernel
theorem e_X4_above : plainFor yX4_above = true := plainFor_of_name (by decide +kernel)
theorem m_X4_above {θ : Th} {l : Launch} (hl0 : l.stackTraces = false) (hX : LX θ) {d : Nat} (hd : 0 ≤ d) (st0 : St) (p1 : Int32) {Φ : Int32 → Prop} (h : w_X4_above st0 p1 Φ) : Ct θ l yX4_above (ws_ yX4_above cX4_above 3 (some Jvm.ClassFile.FieldType.int)) d [.ref (ad θ 175), .int p1] st0 (rI st0 Φ, noX) := by
  refine Ct_entry hl0 e_X4_above (Nat.le_of_ble_eq_true rfl) (fun κ hκ _ C => ?_)
  have hn : ∀ r, Φ r → ((rI st0 Φ, noX) : Ph).1 st0 (some (.int r)) := fun r q => ⟨r, rfl, rfl, q⟩
  change X _ _ _ _ _ [(0, .ref (ad θ 175)), (1, .int p1)] _
  unfold w_X4_above at h
  refine X_aload_n C dX4_above_0 rfl 0 rfl (isRV_r _) ?_
  refine X_getF (ci := 4) (j := 7) (q := (RX4, TX4, 54)) C rfl (by decide) q1773 rfl dX4_above_1 (b := 180) (LX_S hX (k := 175) rfl) (LX_F hX (k := 175) (j := 7) rfl) rfl ?_
  refine X_iload_n C dX4_above_4 rfl 1 rfl ?_
  have g1 := h.1
  have h := h.2
  refine X_ialdS C (LX_S hX (k := 180) rfl) (LX_L hX (k := 180) rfl) g1 rfl dX4_above_5 ?_
  refine X_aload_n C dX4_above_6 rfl 0 rfl (isRV_r _) ?_
  refine X_getS (ci := 4) (j := 6) (q := (RX4, TX4, 54)) C rfl (by decide) q1772 rfl dX4_above_7 (LX_S hX (k := 175) rfl) (v := .int (sI st0 175 6)) rfl ?_
  refine X_aload_n C dX4_above_10 rfl 0 rfl (isRV_r _) ?_
  refine X_getF (ci := 4) (j := 1) (q := (RX4, TX4, 54)) C rfl (by decide) q1767 rfl dX4_above_11 (b := 177) (LX_S hX (k := 175) rfl) (LX_F hX (k := 175) (j := 1) rfl) rfl ?_
  refine X_bipush (v := 32) C dX4_above_14 rfl ?_
  refine X_iload_n C dX4_above_16 rfl 1 rfl ?_
  refine X_iadd C dX4_above_17 ?_
  have g2 := h.1
  have h := h.2
  refine X_ialdS C (LX_S hX (k := 177) rfl) (LX_L hX (k := 177) rfl) g2 rfl dX4_above_18 ?_
  refine X_imul C dX4_above_19 ?_
  refine X_isub C dX4_above_20 ?_
  refine X_topi (fun v3 e4 => ?_)
  have h := h v3 e4
  refine X_istore_n C dX4_above_21 rfl (lo2 := [(2, _), (0, _), (1, _)]) (by decide) rfl ?_
  refine X_iload_n C dX4_above_22 rfl 0 rfl ?_
  refine X_if_ge (tgt := 30) C dX4_above_23 (by decide) (fun c5 => ?_) (fun c5 => ?_)
  · have h := h.1 c5
    refine X_iload_n C dX4_above_30 rfl 0 rfl ?_
    exact X_iret C rfl dX4_above_31 (hn _ h)
  · have h := h.2 c5
    refine X_iconst (v := 0) C dX4_above_26 rfl ?_
    refine X_goto (tgt := 31) C dX4_above_27 (by decide) ?_
    exact X_iret C rfl dX4_above_31 (hn _ h)

def w_X4_aboveAll_l4 (Φ : Int32 → Prop) (E28 : St → Int32 → Prop) : Nat → St → Int32 → Int32 → Prop
  | 0, _, _, _ => False
  | n + 1, st0, x1, x2 => (((sI st0 177 0) ≤ x2) → E28 st0 x1) ∧ ((¬ (sI st0 177 0) ≤ x2) → w_X4_above st0 x2 (fun (r2 : Int32) => ∀ v10 : Int32, v10 = (x1 + r2) → w_X4_aboveAll_l4 Φ E28 n st0 v10 (x2 + 1)))
theorem t_X4_aboveAll_l4 {θ : Th} {κ : Kx} {Ph : Ph} (hX : LX θ) {st0 : St} {d : Nat} (hd : 1 ≤ d) (C : Cx θ κ yX4_aboveAll cX4_aboveAll 3 (some Jvm.ClassFile.FieldType.int) [] d) {Φ : Int32 → Prop} (hn : ∀ r, Φ r → Ph.1 st0 (some (.int r))) {E28 : St → Int32 → Prop} (hE28 : ∀ (x1 : Int32), E28 st0 x1 → X θ κ Ph st0 28 [(1, .int x1)] []) : ∀ (n : Nat) (x1 : Int32) (x2 : Int32), w_X4_aboveAll_l4 Φ E28 n st0 x1 x2 → X θ κ Ph st0 4 [(0, .ref (ad θ 175)), (1, .int x1), (2, .int x2)] [] := by
  intro n
  induction n with
  | zero => intro x1 x2 h; exact h.elim
  | succ n hK4 =>
    intro x1 x2 h
    rw [w_X4_aboveAll_l4] at h
    refine X_iload_n C dX4_aboveAll_4 rfl 2 rfl ?_
    refine X_aload_n C dX4_aboveAll_5 rfl 0 rfl (isRV_r _) ?_
    refine X_getF (ci := 4) (j := 1) (q := (RX4, TX4, 54)) C rfl (by decide) q1767 rfl dX4_aboveAll_6 (b := 177) (LX_S hX (k := 175) rfl) (LX_F hX (k := 175) (j := 1) rfl) rfl ?_
    refine X_iconst (v := 0) C dX4_aboveAll_9 rfl ?_
    refine X_ialdS C (LX_S hX (k := 177) rfl) (LX_L hX (k := 177) rfl) (vp_dec rfl) rfl dX4_aboveAll_10 ?_
    refine X_icmp_ge (tgt := 28) C dX4_aboveAll_11 (by decide) (fun c1 => ?_) (fun c1 => ?_)
    · have h := h.1 c1
      refine X_sub [1] (lo2 := [(1, _)]) rfl ?_
      exact hE28 x1 h
    · have h := h.2 c1
      refine X_iload_n C dX4_aboveAll_14 rfl 1 rfl ?_
      refine X_aload_n C dX4_aboveAll_15 rfl 0 rfl (isRV_r _) ?_
      refine X_iload_n C dX4_aboveAll_16 rfl 2 rfl ?_
      refine X_callVS (ci := 4) (q := (RX4, TX4, 54)) (As := [_]) (rest := [_]) C rfl (LX_S hX (k := 175) rfl) q2371 q2373 qs129 q136 q2374 ⟨rfl, nm_X4_above⟩ rfl dX4_aboveAll_17 (m_X4_above (Cx_l C) hX (d := d - 1) (by omega) st0 x2 h) (by omega) (by decide) (Nat.le_of_ble_eq_true rfl) (fun s8 w3 hE4 hP5 => ?_) (fun s9 E6 q7 hE4 hP5 => ?_)
      rotate_left
      · exact False.elim hP5
      obtain ⟨r2, rfl, rfl, h⟩ := hP5
      refine X_tls ?_
      refine X_iadd C dX4_aboveAll_20 ?_
      refine X_topi (fun v10 e11 => ?_)
      have h := h v10 e11
      refine X_istore_n C dX4_aboveAll_21 rfl (lo2 := [(1, _), (0, _), (2, _)]) (by decide) rfl ?_
      refine X_iinc (v := (x2 + 1)) C (j := 2) dX4_aboveAll_22 rfl rfl (lo2 := [(2, _), (1, _), (0, _)]) (by decide) rfl ?_
      refine X_goto (tgt := 4) C dX4_aboveAll_25 (by decide) ?_
      refine X_sub [2, 1, 0] (lo2 := [(0, _), (1, _), (2, _)]) rfl ?_
      exact hK4 v10 (x2 + 1) h
def w_X4_aboveAll_b28 (Φ : Int32 → Prop) (st0 : St) (x1 : Int32) : Prop := Φ x1
theorem t_X4_aboveAll_b28 {θ : Th} {κ : Kx} {Ph : Ph} (hX : LX θ) {st0 : St} {d : Nat} (hd : 1 ≤ d) (C : Cx θ κ yX4_aboveAll cX4_aboveAll 3 (some Jvm.ClassFile.FieldType.int) [] d) {Φ : Int32 → Prop} (hn : ∀ r, Φ r → Ph.1 st0 (some (.int r))) (x1 : Int32) (h : w_X4_aboveAll_b28 Φ st0 x1) : X θ κ Ph st0 28 [(1, .int x1)] [] := by
  unfold w_X4_aboveAll_b28 at h
  refine X_iload_n C dX4_aboveAll_28 rfl 0 rfl ?_
  exact X_iret C rfl dX4_aboveAll_29 (hn _ h)
def w_X4_aboveAll (st0 : St) (Φ : Int32 → Prop) : Prop := w_X4_aboveAll_l4 Φ (fun (_ : St) (x1 : Int32) => w_X4_aboveAll_b28 Φ st0 x1) gFU st0 0 0
theorem nm_X4_aboveAll : yX4_aboveAll.cls ≠ "java/lang/invoke/MethodHandle" ∧ yX4_aboveAll.cls ≠ "java/lang/invoke/VarHandle" ∧ (parseMethodDescriptor yX4_aboveAll.desc).map (fun d => d.parameters.length) = some 0 := by decide +kernel
theorem e_X4_aboveAll : plainFor yX4_aboveAll = true := plainFor_of_name (by decide +kernel)
theorem m_X4_aboveAll {θ : Th} {l : Launch} (hl0 : l.stackTraces = false) (hX : LX θ) {d : Nat} (hd : 1 ≤ d) (st0 : St) {Φ : Int32 → Prop} (h : w_X4_aboveAll st0 Φ) : Ct θ l yX4_aboveAll (ws_ yX4_aboveAll cX4_aboveAll 3 (some Jvm.ClassFile.FieldType.int)) d [.ref (ad θ 175)] st0 (rI st0 Φ, noX) := by
  refine Ct_entry hl0 e_X4_aboveAll (Nat.le_of_ble_eq_true rfl) (fun κ hκ _ C => ?_)
  have hn : ∀ r, Φ r → ((rI st0 Φ, noX) : Ph).1 st0 (some (.int r)) := fun r q => ⟨r, rfl, rfl, q⟩
  change X _ _ _ _ _ [(0, .ref (ad θ 175))] _
  unfold w_X4_aboveAll at h
  refine X_iconst (v := 0) C dX4_aboveAll_0 rfl ?_
  refine X_istore_n C dX4_aboveAll_1 rfl (lo2 := [(1, _), (0, _)]) (by decide) rfl ?_
  refine X_iconst (v := 0) C dX4_aboveAll_2 rfl ?_
  refine X_istore_n C dX4_aboveAll_3 rfl (lo2 := [(2, _), (1, _), (0, _)]) (by decide) rfl ?_
  refine X_sub [2, 1, 0] (lo2 := [(0, _), (1, _), (2, _)]) rfl ?_
  refine t_X4_aboveAll_l4 hX hd C hn ?_ gFU 0 0 h
  · intro x1 h
    exact t_X4_aboveAll_b28 hX hd C hn x1 h

def w_X4_answer_l58 (Φ : St → Int32 → Prop) (E99 : St → Int32 → Int32 → Int64 → Prop) : Nat → St → Int32 → Int32 → Int64 → Int32 → Prop
  | 0, _, _, _, _, _ => False
  | n + 1, st, x1, x2, x3, x5 => (((sI st 177 0) ≤ x5) → E99 st x1 x2 x3) ∧ ((¬ (sI st 177 0) ≤ x5) → w_X4_above st x5 (fun (r17 : Int32) => w_X4_place x5 x1 x2 (fun (r25 : Int32) => vp_in r25 97 ∧ ∀ v34 : Int64, v34 = (x3 + (r17.toInt64 * (sI st 177 r25.toNatClampNeg).toInt64)) → w_X4_answer_l58 Φ E99 n st x1 x2 v34 (x5 + 1))))
theorem t_X4_answer_l58 {θ : Th} {κ : Kx} {Ph : Ph} (hX : LX θ) {d : Nat} (hd : 5 ≤ d) (C : Cx θ κ yX4_answer cX4_answer 6 (some Jvm.ClassFile.FieldType.int) [] d) {Φ : St → Int32 → Prop} (hn : ∀ st r, Φ st r → Ph.1 st (some (.int r))) {E99 : St → Int32 → Int32 → Int64 → Prop} (hE99 : ∀ (st : St) (x1 : Int32) (x2 : Int32) (x3 : Int64), E99 st x1 x2 x3 → X θ κ Ph st 99 [(0, .ref (ad θ 175)), (1, .int x1), (2, .int x2), (3, .long x3)] []) : ∀ (n : Nat) (st : St) (x1 : Int32) (x2 : Int32) (x3 : Int64) (x5 : Int32), w_X4_answer_l58 Φ E99 n st x1 x2 x3 x5 → X θ κ Ph st 58 [(0, .ref (ad θ 175)), (1, .int x1), (2, .int x2), (3, .long x3), (5, .int x5)] [] := by
  intro n
  induction n with
  | zero => intro st x1 x2 x3 x5 h; exact h.elim
  | succ n hK58 =>
    intro st x1 x2 x3 x5 h
    rw [w_X4_answer_l58] at h
    refine X_iload C dX4_answer_58 4 rfl ?_
    refine X_aload_n C dX4_answer_60 rfl 0 rfl (isRV_r _) ?_
    refine X_getF (ci := 4) (j := 1) (q := (RX4, TX4, 54)) C rfl (by decide) q1767 rfl dX4_answer_61 (b := 177) (LX_S hX (k := 175) rfl) (LX_F hX (k := 175) (j := 1) rfl) rfl ?_
    refine X_iconst (v := 0) C dX4_answer_64 rfl ?_
    refine X_ialdS C (LX_S hX (k := 177) rfl) (LX_L hX (k := 177) rfl) (vp_dec rfl) rfl dX4_answer_65 ?_
    refine X_icmp_ge (tgt := 99) C dX4_answer_66 (by decide) (fun c16 => ?_) (fun c16 => ?_)
    · have h := h.1 c16
      refine X_sub [0, 1, 2, 3] (lo2 := [(0, _), (1, _), (2, _), (3, _)]) rfl ?_
      exact hE99 st x1 x2 x3 h
    · have h := h.2 c16
      refine X_lload_n C dX4_answer_69 rfl 3 rfl ?_
      refine X_aload_n C dX4_answer_70 rfl 0 rfl (isRV_r _) ?_
      refine X_iload C dX4_answer_71 4 rfl ?_
      refine X_callVS (ci := 4) (q := (RX4, TX4, 54)) (As := [_]) (rest := [_]) C rfl (LX_S hX (k := 175) rfl) q2371 q2373 qs129 q136 q2374 ⟨rfl, nm_X4_above⟩ rfl dX4_answer_73 (m_X4_above (Cx_l C) hX (d := d - 1) (by omega) st x5 h) (by omega) (by decide) (Nat.le_of_ble_eq_true rfl) (fun s23 w18 hE19 hP20 => ?_) (fun s24 E21 q22 hE19 hP20 => ?_)
      rotate_left
      · exact False.elim hP20
      obtain ⟨r17, rfl, rfl, h⟩ := hP20
      refine X_tls ?_
      refine X_i2l C dX4_answer_76 ?_
      refine X_aload_n C dX4_answer_77 rfl 0 rfl (isRV_r _) ?_
      refine X_getF (ci := 4) (j := 1) (q := (RX4, TX4, 54)) C rfl (by decide) q1767 rfl dX4_answer_78 (b := 177) (LX_S hX (k := 175) rfl) (LX_F hX (k := 175) (j := 1) rfl) rfl ?_
      refine X_iload C dX4_answer_81 4 rfl ?_
      refine X_iload_n C dX4_answer_83 rfl 1 rfl ?_
      refine X_iload_n C dX4_answer_84 rfl 2 rfl ?_
      refine X_callS (As := [_, _, _]) (rest := [_, _, _]) C q1966 q1967 q136 q1968 nm_X4_place rfl dX4_answer_85 (m_X4_place (Cx_l C) hX (d := d - 1) (by omega) st x5 x1 x2 h) (by omega) (by decide) (Nat.le_of_ble_eq_true rfl) (fun s31 w26 hE27 hP28 => ?_) (fun s32 E29 q30 hE27 hP28 => ?_)
      rotate_left
      · exact False.elim hP28
      obtain ⟨r25, rfl, rfl, h⟩ := hP28
      refine X_tls ?_
      have g33 := h.1
      have h := h.2
      refine X_ialdS C (LX_S hX (k := 177) rfl) (LX_L hX (k := 177) rfl) g33 rfl dX4_answer_88 ?_
      refine X_i2l C dX4_answer_89 ?_
      refine X_lmul C dX4_answer_90 ?_
      refine X_ladd C dX4_answer_91 ?_
      refine X_topl (fun v34 e35 => ?_)
      have h := h v34 e35
      refine X_lstore_n C dX4_answer_92 rfl (lo2 := [(3, _), (0, _), (1, _), (2, _), (5, _)]) (by decide) rfl ?_
      refine X_iinc (v := (x5 + 1)) C (j := 4) dX4_answer_93 rfl rfl (lo2 := [(5, _), (3, _), (0, _), (1, _), (2, _)]) (by decide) rfl ?_
      refine X_goto (tgt := 58) C dX4_answer_96 (by decide) ?_
      refine X_sub [2, 3, 4, 1, 0] (lo2 := [(0, _), (1, _), (2, _), (3, _), (5, _)]) rfl ?_
      exact hK58 st x1 x2 v34 (x5 + 1) h
def w_X4_answer_b99 (Φ : St → Int32 → Prop) (K43 : St → Int32 → Int32 → Prop) (st : St) (x1 : Int32) (x2 : Int32) (x3 : Int64) : Prop := vp_in ((3 * x1) + x2) 81 ∧ ∀ s38, s38 = putL st 188 (((3 * x1) + x2).toNatClampNeg) x3 → K43 s38 x1 (x2 + 1)
theorem t_X4_answer_b99 {θ : Th} {κ : Kx} {Ph : Ph} (hX : LX θ) {d : Nat} (hd : 5 ≤ d) (C : Cx θ κ yX4_answer cX4_answer 6 (some Jvm.ClassFile.FieldType.int) [] d) {Φ : St → Int32 → Prop} (hn : ∀ st r, Φ st r → Ph.1 st (some (.int r))) {K43 : St → Int32 → Int32 → Prop} (hK43 : ∀ (st : St) (x1 : Int32) (x2 : Int32), K43 st x1 x2 → X θ κ Ph st 43 [(0, .ref (ad θ 175)), (1, .int x1), (2, .int x2)] []) (st : St) (x1 : Int32) (x2 : Int32) (x3 : Int64) (h : w_X4_answer_b99 Φ K43 st x1 x2 x3) : X θ κ Ph st 99 [(0, .ref (ad θ 175)), (1, .int x1), (2, .int x2), (3, .long x3)] [] := by
  unfold w_X4_answer_b99 at h
  refine X_aload_n C dX4_answer_99 rfl 0 rfl (isRV_r _) ?_
  refine X_getF (ci := 4) (j := 21) (q := (RX4, TX4, 54)) C rfl (by decide) q1787 rfl dX4_answer_100 (b := 188) (LX_S hX (k := 175) rfl) (LX_F hX (k := 175) (j := 21) rfl) rfl ?_
  refine X_iconst (v := 3) C dX4_answer_103 rfl ?_
  refine X_iload_n C dX4_answer_104 rfl 1 rfl ?_
  refine X_imul C dX4_answer_105 ?_
  refine X_iload_n C dX4_answer_106 rfl 2 rfl ?_
  refine X_iadd C dX4_answer_107 ?_
  refine X_lload_n C dX4_answer_108 rfl 3 rfl ?_
  have g37 := h.1
  have h := h.2
  refine X_lastS C (LX_S hX (k := 188) rfl) (LX_L hX (k := 188) rfl) g37 rfl dX4_answer_109 ?_
  refine X_nm (fun s38 e39 => ?_)
  have h := h s38 e39
  refine X_iinc (v := (x2 + 1)) C (j := 2) dX4_answer_110 rfl rfl (lo2 := [(2, _), (0, _), (1, _), (3, _)]) (by decide) rfl ?_
  refine X_goto (tgt := 43) C dX4_answer_113 (by decide) ?_
  refine X_sub [1, 2, 0] (lo2 := [(0, _), (1, _), (2, _)]) rfl ?_
  exact hK43 s38 x1 (x2 + 1) h
def w_X4_answer_l43 (Φ : St → Int32 → Prop) (E116 : St → Int32 → Prop) : Nat → St → Int32 → Int32 → Prop
  | 0, _, _, _ => False
  | n + 1, st, x1, x2 => (((sI st 177 3) ≤ x2) → E116 st x1) ∧ ((¬ (sI st 177 3) ≤ x2) → w_X4_answer_l58 Φ (fun (s36 : St) (x1 : Int32) (x2 : Int32) (x3 : Int64) => w_X4_answer_b99 Φ (w_X4_answer_l43 Φ E116 n) s36 x1 x2 x3) gFU st x1 x2 0 0)
theorem t_X4_answer_l43 {θ : Th} {κ : Kx} {Ph : Ph} (hX : LX θ) {d : Nat} (hd : 5 ≤ d) (C : Cx θ κ yX4_answer cX4_answer 6 (some Jvm.ClassFile.FieldType.int) [] d) {Φ : St → Int32 → Prop} (hn : ∀ st r, Φ st r → Ph.1 st (some (.int r))) {E116 : St → Int32 → Prop} (hE116 : ∀ (st : St) (x1 : Int32), E116 st x1 → X θ κ Ph st 116 [(0, .ref (ad θ 175)), (1, .int x1)] []) : ∀ (n : Nat) (st : St) (x1 : Int32) (x2 : Int32), w_X4_answer_l43 Φ E116 n st x1 x2 → X θ κ Ph st 43 [(0, .ref (ad θ 175)), (1, .int x1), (2, .int x2)] [] := by
  intro n
  induction n with
  | zero => intro st x1 x2 h; exact h.elim
  | succ n hK43 =>
    intro st x1 x2 h
    rw [w_X4_answer_l43] at h
    refine X_iload_n C dX4_answer_43 rfl 2 rfl ?_
    refine X_aload_n C dX4_answer_44 rfl 0 rfl (isRV_r _) ?_
    refine X_getF (ci := 4) (j := 1) (q := (RX4, TX4, 54)) C rfl (by decide) q1767 rfl dX4_answer_45 (b := 177) (LX_S hX (k := 175) rfl) (LX_F hX (k := 175) (j := 1) rfl) rfl ?_
    refine X_iconst (v := 3) C dX4_answer_48 rfl ?_
    refine X_ialdS C (LX_S hX (k := 177) rfl) (LX_L hX (k := 177) rfl) (vp_dec rfl) rfl dX4_answer_49 ?_
    refine X_icmp_ge (tgt := 116) C dX4_answer_50 (by decide) (fun c15 => ?_) (fun c15 => ?_)
    · have h := h.1 c15
      refine X_sub [0, 1] (lo2 := [(0, _), (1, _)]) rfl ?_
      exact hE116 st x1 h
    · have h := h.2 c15
      refine X_lconst (v := 0) C dX4_answer_53 rfl ?_
      refine X_lstore_n C dX4_answer_54 rfl (lo2 := [(3, _), (0, _), (1, _), (2, _)]) (by decide) rfl ?_
      refine X_iconst (v := 0) C dX4_answer_55 rfl ?_
      refine X_istore C dX4_answer_56 (lo2 := [(5, _), (3, _), (0, _), (1, _), (2, _)]) (by decide) rfl ?_
      refine X_sub [2, 3, 4, 1, 0] (lo2 := [(0, _), (1, _), (2, _), (3, _), (5, _)]) rfl ?_
      refine t_X4_answer_l58 hX hd C hn ?_ gFU st x1 x2 0 0 h
      · intro s36 x1 x2 x3 h
        exact t_X4_answer_b99 hX hd C hn hK43 s36 x1 x2 x3 h
def w_X4_answer_b116 (Φ : St → Int32 → Prop) (K31 : St → Int32 → Prop) (st : St) (x1 : Int32) : Prop := K31 st (x1 + 1)
theorem t_X4_answer_b116 {θ : Th} {κ : Kx} {Ph : Ph} (hX : LX θ) {d : Nat} (hd : 5 ≤ d) (C : Cx θ κ yX4_answer cX4_answer 6 (some Jvm.ClassFile.FieldType.int) [] d) {Φ : St → Int32 → Prop} (hn : ∀ st r, Φ st r → Ph.1 st (some (.int r))) {K31 : St → Int32 → Prop} (hK31 : ∀ (st : St) (x1 : Int32), K31 st x1 → X θ κ Ph st 31 [(0, .ref (ad θ 175)), (1, .int x1)] []) (st : St) (x1 : Int32) (h : w_X4_answer_b116 Φ K31 st x1) : X θ κ Ph st 116 [(0, .ref (ad θ 175)), (1, .int x1)] [] := by
  unfold w_X4_answer_b116 at h
  refine X_iinc (v := (x1 + 1)) C (j := 1) dX4_answer_116 rfl rfl (lo2 := [(1, _), (0, _)]) (by decide) rfl ?_
  refine X_goto (tgt := 31) C dX4_answer_119 (by decide) ?_
  refine X_sub [1, 0] (lo2 := [(0, _), (1, _)]) rfl ?_
  exact hK31 st (x1 + 1) h
def w_X4_answer_l31 (Φ : St → Int32 → Prop) (E122 : St → Prop) : Nat → St → Int32 → Prop
  | 0, _, _ => False
  | n + 1, st, x1 => (((sI st 177 2) ≤ x1) → E122 st) ∧ ((¬ (sI st 177 2) ≤ x1) → w_X4_answer_l43 Φ (fun (s40 : St) (x1 : Int32) => w_X4_answer_b116 Φ (w_X4_answer_l31 Φ E122 n) s40 x1) gFU st x1 0)
theorem t_X4_answer_l31 {θ : Th} {κ : Kx} {Ph : Ph} (hX : LX θ) {d : Nat} (hd : 5 ≤ d) (C : Cx θ κ yX4_answer cX4_answer 6 (some Jvm.ClassFile.FieldType.int) [] d) {Φ : St → Int32 → Prop} (hn : ∀ st r, Φ st r → Ph.1 st (some (.int r))) {E122 : St → Prop} (hE122 : ∀ (st : St), E122 st → X θ κ Ph st 122 [(0, .ref (ad θ 175))] []) : ∀ (n : Nat) (st : St) (x1 : Int32), w_X4_answer_l31 Φ E122 n st x1 → X θ κ Ph st 31 [(0, .ref (ad θ 175)), (1, .int x1)] [] := by
  intro n
  induction n with
  | zero => intro st x1 h; exact h.elim
  | succ n hK31 =>
    intro st x1 h
    rw [w_X4_answer_l31] at h
    refine X_iload_n C dX4_answer_31 rfl 1 rfl ?_
    refine X_aload_n C dX4_answer_32 rfl 0 rfl (isRV_r _) ?_
    refine X_getF (ci := 4) (j := 1) (q := (RX4, TX4, 54)) C rfl (by decide) q1767 rfl dX4_answer_33 (b := 177) (LX_S hX (k := 175) rfl) (LX_F hX (k := 175) (j := 1) rfl) rfl ?_
    refine X_iconst (v := 2) C dX4_answer_36 rfl ?_
    refine X_ialdS C (LX_S hX (k := 177) rfl) (LX_L hX (k := 177) rfl) (vp_dec rfl) rfl dX4_answer_37 ?_
    refine X_icmp_ge (tgt := 122) C dX4_answer_38 (by decide) (fun c14 => ?_) (fun c14 => ?_)
    · have h := h.1 c14
      refine X_sub [0] (lo2 := [(0, _)]) rfl ?_
      exact hE122 st h
    · have h := h.2 c14
      refine X_iconst (v := 0) C dX4_answer_41 rfl ?_
      refine X_istore_n C dX4_answer_42 rfl (lo2 := [(2, _), (0, _), (1, _)]) (by decide) rfl ?_
      refine X_sub [1, 2, 0] (lo2 := [(0, _), (1, _), (2, _)]) rfl ?_
      refine t_X4_answer_l43 hX hd C hn ?_ gFU st x1 0 h
      · intro s40 x1 h
        exact t_X4_answer_b116 hX hd C hn hK31 s40 x1 h
def w_X4_answer_l169 (Φ : St → Int32 → Prop) (E205 : St → Int32 → Prop) (E214 : St → Prop) : Nat → St → Int64 → Int64 → Int32 → Prop
  | 0, _, _, _, _ => False
  | n + 1, st, x1, x3, x5 => (((sI st 177 3) ≤ x5) → E214 st) ∧ ((¬ (sI st 177 3) ≤ x5) → vp_in x5 3 ∧ ∀ v56 : Int64, v56 = (x3 + (sL st 192 x5.toNatClampNeg)) → (((v56 * 1000) ≤ (x1 * (sL st 175 29))) → w_X4_answer_l169 Φ E205 E214 n st x1 v56 (x5 + 1)) ∧ ((¬ (v56 * 1000) ≤ (x1 * (sL st 175 29))) → E205 st x5))
theorem t_X4_answer_l169 {θ : Th} {κ : Kx} {Ph : Ph} (hX : LX θ) {d : Nat} (hd : 5 ≤ d) (C : Cx θ κ yX4_answer cX4_answer 6 (some Jvm.ClassFile.FieldType.int) [] d) {Φ : St → Int32 → Prop} (hn : ∀ st r, Φ st r → Ph.1 st (some (.int r))) {E205 : St → Int32 → Prop} {E214 : St → Prop} (hE205 : ∀ (st : St) (x5 : Int32), E205 st x5 → X θ κ Ph st 205 [(5, .int x5)] []) (hE214 : ∀ (st : St), E214 st → X θ κ Ph st 214 [(0, .ref (ad θ 175))] []) : ∀ (n : Nat) (st : St) (x1 : Int64) (x3 : Int64) (x5 : Int32), w_X4_answer_l169 Φ E205 E214 n st x1 x3 x5 → X θ κ Ph st 169 [(0, .ref (ad θ 175)), (1, .long x1), (3, .long x3), (5, .int x5)] [] := by
  intro n
  induction n with
  | zero => intro st x1 x3 x5 h; exact h.elim
  | succ n hK169 =>
    intro st x1 x3 x5 h
    rw [w_X4_answer_l169] at h
    refine X_iload C dX4_answer_169 3 rfl ?_
    refine X_aload_n C dX4_answer_171 rfl 0 rfl (isRV_r _) ?_
    refine X_getF (ci := 4) (j := 1) (q := (RX4, TX4, 54)) C rfl (by decide) q1767 rfl dX4_answer_172 (b := 177) (LX_S hX (k := 175) rfl) (LX_F hX (k := 175) (j := 1) rfl) rfl ?_
    refine X_iconst (v := 3) C dX4_answer_175 rfl ?_
    refine X_ialdS C (LX_S hX (k := 177) rfl) (LX_L hX (k := 177) rfl) (vp_dec rfl) rfl dX4_answer_176 ?_
    refine X_icmp_ge (tgt := 214) C dX4_answer_177 (by decide) (fun c54 => ?_) (fun c54 => ?_)
    · have h := h.1 c54
      refine X_sub [0] (lo2 := [(0, _)]) rfl ?_
      exact hE214 st h
    · have h := h.2 c54
      refine X_lload_n C dX4_answer_180 rfl 2 rfl ?_
      refine X_aload_n C dX4_answer_181 rfl 0 rfl (isRV_r _) ?_
      refine X_getF (ci := 4) (j := 28) (q := (RX4, TX4, 54)) C rfl (by decide) q1794 rfl dX4_answer_182 (b := 192) (LX_S hX (k := 175) rfl) (LX_F hX (k := 175) (j := 28) rfl) rfl ?_
      refine X_iload C dX4_answer_185 3 rfl ?_
      have g55 := h.1
      have h := h.2
      refine X_laldS C (LX_S hX (k := 192) rfl) (LX_L hX (k := 192) rfl) g55 rfl dX4_answer_187 ?_
      refine X_ladd C dX4_answer_188 ?_
      refine X_topl (fun v56 e57 => ?_)
      have h := h v56 e57
      refine X_lstore_n C dX4_answer_189 rfl (lo2 := [(3, _), (0, _), (1, _), (5, _)]) (by decide) rfl ?_
      refine X_lload_n C dX4_answer_190 rfl 0 rfl ?_
      refine X_ldc2 C q2376 dX4_answer_191 ?_
      refine X_lmul C dX4_answer_194 ?_
      refine X_lload_n C dX4_answer_195 rfl 2 rfl ?_
      refine X_aload_n C dX4_answer_196 rfl 1 rfl (isRV_r _) ?_
      refine X_getS (ci := 4) (j := 29) (q := (RX4, TX4, 54)) C rfl (by decide) q1795 rfl dX4_answer_197 (LX_S hX (k := 175) rfl) (v := .long (sL st 175 29)) rfl ?_
      refine X_lmul C dX4_answer_200 ?_
      refine X_lcmp_le (tgt := 208) C dX4_answer_201 dX4_answer_202 (by decide) (fun c58 => ?_) (fun c58 => ?_)
      · have h := h.1 c58
        refine X_iinc (v := (x5 + 1)) C (j := 3) dX4_answer_208 rfl rfl (lo2 := [(5, _), (3, _), (0, _), (1, _)]) (by decide) rfl ?_
        refine X_goto (tgt := 169) C dX4_answer_211 (by decide) ?_
        refine X_sub [2, 3, 1, 0] (lo2 := [(0, _), (1, _), (3, _), (5, _)]) rfl ?_
        exact hK169 st x1 v56 (x5 + 1) h
      · have h := h.2 c58
        refine X_sub [3] (lo2 := [(5, _)]) rfl ?_
        exact hE205 st x5 h
def w_X4_answer_b205 (Φ : St → Int32 → Prop) (st : St) (x5 : Int32) : Prop := Φ st x5
theorem t_X4_answer_b205 {θ : Th} {κ : Kx} {Ph : Ph} (hX : LX θ) {d : Nat} (hd : 5 ≤ d) (C : Cx θ κ yX4_answer cX4_answer 6 (some Jvm.ClassFile.FieldType.int) [] d) {Φ : St → Int32 → Prop} (hn : ∀ st r, Φ st r → Ph.1 st (some (.int r))) (st : St) (x5 : Int32) (h : w_X4_answer_b205 Φ st x5) : X θ κ Ph st 205 [(5, .int x5)] [] := by
  unfold w_X4_answer_b205 at h
  refine X_iload C dX4_answer_205 0 rfl ?_
  exact X_iret C rfl dX4_answer_207 (hn st _ h)
def w_X4_answer_b214 (Φ : St → Int32 → Prop) (st : St) : Prop := Φ st ((sI st 177 3) - 1)
theorem t_X4_answer_b214 {θ : Th} {κ : Kx} {Ph : Ph} (hX : LX θ) {d : Nat} (hd : 5 ≤ d) (C : Cx θ κ yX4_answer cX4_answer 6 (some Jvm.ClassFile.FieldType.int) [] d) {Φ : St → Int32 → Prop} (hn : ∀ st r, Φ st r → Ph.1 st (some (.int r))) (st : St) (h : w_X4_answer_b214 Φ st) : X θ κ Ph st 214 [(0, .ref (ad θ 175))] [] := by
  unfold w_X4_answer_b214 at h
  refine X_aload_n C dX4_answer_214 rfl 0 rfl (isRV_r _) ?_
  refine X_getF (ci := 4) (j := 1) (q := (RX4, TX4, 54)) C rfl (by decide) q1767 rfl dX4_answer_215 (b := 177) (LX_S hX (k := 175) rfl) (LX_F hX (k := 175) (j := 1) rfl) rfl ?_
  refine X_iconst (v := 3) C dX4_answer_218 rfl ?_
  refine X_ialdS C (LX_S hX (k := 177) rfl) (LX_L hX (k := 177) rfl) (vp_dec rfl) rfl dX4_answer_219 ?_
  refine X_iconst (v := 1) C dX4_answer_220 rfl ?_
  refine X_isub C dX4_answer_221 ?_
  exact X_iret C rfl dX4_answer_222 (hn st _ h)
def w_X4_answer_b122 (Φ : St → Int32 → Prop) (st : St) : Prop := w_X4_kernel st (fun (s43 : St) => ∀ s50, s50 = putI s43 177 96 (((sI s43 177 96) * 1103515245) + 12345) → ∀ v52 : Int64, v52 = ((((sI s50 177 96).toUInt32 >>> ((8 : Int32).toUInt32 &&& Int32.toUInt32 31)).toInt32) - (((sI s50 177 96).toUInt32 >>> ((8 : Int32).toUInt32 &&& Int32.toUInt32 31)).toInt32) / 1000 * 1000).toInt64 → w_X4_answer_l169 Φ (fun (s59 : St) (x5 : Int32) => w_X4_answer_b205 Φ s59 x5) (fun (s60 : St) => w_X4_answer_b214 Φ s60) gFU s50 v52 0 0)
theorem t_X4_answer_b122 {θ : Th} {κ : Kx} {Ph : Ph} (hX : LX θ) {d : Nat} (hd : 5 ≤ d) (C : Cx θ κ yX4_answer cX4_answer 6 (some Jvm.ClassFile.FieldType.int) [] d) {Φ : St → Int32 → Prop} (hn : ∀ st r, Φ st r → Ph.1 st (some (.int r))) (st : St) (h : w_X4_answer_b122 Φ st) : X θ κ Ph st 122 [(0, .ref (ad θ 175))] [] := by
  unfold w_X4_answer_b122 at h
  refine X_aload_n C dX4_answer_122 rfl 0 rfl (isRV_r _) ?_
  refine X_callVS (ci := 4) (q := (RX4, TX4, 54)) (As := []) (rest := []) C rfl (LX_S hX (k := 175) rfl) q2050 q2052 qs76 q136 q2053 ⟨rfl, nm_X4_kernel⟩ rfl dX4_answer_123 (m_X4_kernel (Cx_l C) hX (d := d - 1) (by omega) st h) (by omega) (by decide) (Nat.le_of_ble_eq_true rfl) (fun s43 w44 hE45 hP46 => ?_) (fun s49 E47 q48 hE45 hP46 => ?_)
  rotate_left
  · exact False.elim hP46
  obtain ⟨rfl, h⟩ := hP46
  refine X_tln ?_
  refine X_aload_n C dX4_answer_126 rfl 0 rfl (isRV_r _) ?_
  refine X_getF (ci := 4) (j := 1) (q := (RX4, TX4, 54)) C rfl (by decide) q1767 rfl dX4_answer_127 (b := 177) (LX_S hX (k := 175) rfl) (LX_F hX (k := 175) (j := 1) rfl) rfl ?_
  refine X_bipush (v := 96) C dX4_answer_130 rfl ?_
  refine X_aload_n C dX4_answer_132 rfl 0 rfl (isRV_r _) ?_
  refine X_getF (ci := 4) (j := 1) (q := (RX4, TX4, 54)) C rfl (by decide) q1767 rfl dX4_answer_133 (b := 177) (LX_S hX (k := 175) rfl) (LX_F hX (k := 175) (j := 1) rfl) rfl ?_
  refine X_bipush (v := 96) C dX4_answer_136 rfl ?_
  refine X_ialdS C (LX_S hX (k := 177) rfl) (LX_L hX (k := 177) rfl) (vp_dec rfl) rfl dX4_answer_138 ?_
  refine X_ldcw C q2375 dX4_answer_139 ?_
  refine X_imul C dX4_answer_142 ?_
  refine X_sipush (v := 12345) C dX4_answer_143 rfl ?_
  refine X_iadd C dX4_answer_146 ?_
  refine X_iastS C (LX_S hX (k := 177) rfl) (LX_L hX (k := 177) rfl) (vp_dec rfl) rfl dX4_answer_147 ?_
  refine X_nm (fun s50 e51 => ?_)
  have h := h s50 e51
  refine X_aload_n C dX4_answer_148 rfl 0 rfl (isRV_r _) ?_
  refine X_getF (ci := 4) (j := 1) (q := (RX4, TX4, 54)) C rfl (by decide) q1767 rfl dX4_answer_149 (b := 177) (LX_S hX (k := 175) rfl) (LX_F hX (k := 175) (j := 1) rfl) rfl ?_
  refine X_bipush (v := 96) C dX4_answer_152 rfl ?_
  refine X_ialdS C (LX_S hX (k := 177) rfl) (LX_L hX (k := 177) rfl) (vp_dec rfl) rfl dX4_answer_154 ?_
  refine X_bipush (v := 8) C dX4_answer_155 rfl ?_
  refine X_iushr C dX4_answer_157 ?_
  refine X_sipush (v := 1000) C dX4_answer_158 rfl ?_
  refine X_irem C dX4_answer_161 (by decide) ?_
  refine X_i2l C dX4_answer_162 ?_
  refine X_topl (fun v52 e53 => ?_)
  have h := h v52 e53
  refine X_lstore_n C dX4_answer_163 rfl (lo2 := [(1, _), (0, _)]) (by decide) rfl ?_
  refine X_lconst (v := 0) C dX4_answer_164 rfl ?_
  refine X_lstore_n C dX4_answer_165 rfl (lo2 := [(3, _), (1, _), (0, _)]) (by decide) rfl ?_
  refine X_iconst (v := 0) C dX4_answer_166 rfl ?_
  refine X_istore C dX4_answer_167 (lo2 := [(5, _), (3, _), (1, _), (0, _)]) (by decide) rfl ?_
  refine X_sub [3, 2, 1, 0] (lo2 := [(0, _), (1, _), (3, _), (5, _)]) rfl ?_
  refine t_X4_answer_l169 hX hd C hn ?_ ?_ gFU s50 v52 0 0 h
  · intro s59 x5 h
    exact t_X4_answer_b205 hX hd C hn s59 x5 h
  · intro s60 h
    exact t_X4_answer_b214 hX hd C hn s60 h
def w_X4_answer (st : St) (Φ : St → Int32 → Prop) : Prop := w_X4_aboveAll st (fun (r1 : Int32) => ((r1 ≠ 0) → ∀ s10, s10 = putI st 175 22 (sI st 177 2) → ∀ s12, s12 = putI s10 175 23 (sI s10 177 3) → w_X4_answer_l31 Φ (fun (s41 : St) => w_X4_answer_b122 Φ s41) gFU s12 0) ∧ ((r1 = 0) → Φ st 0))
theorem nm_X4_answer : yX4_answer.cls ≠ "java/lang/invoke/MethodHandle" ∧ yX4_answer.cls ≠ "java/lang/invoke/VarHandle" ∧ (parseMethodDescriptor yX4_answer.desc).map (fun d => d.parameters.length) = some 0 := by decide +kernel
theorem e_X4_answer : plainFor yX4_answer = true := plainFor_of_name (by decide +kernel)
theorem m_X4_answer {θ : Th} {l : Launch} (hl0 : l.stackTraces = false) (hX : LX θ) {d : Nat} (hd : 5 ≤ d) (st : St) {Φ : St → Int32 → Prop} (h : w_X4_answer st Φ) : Ct θ l yX4_answer (ws_ yX4_answer cX4_answer 6 (some Jvm.ClassFile.FieldType.int)) d [.ref (ad θ 175)] st (pI Φ, noX) := by
  refine Ct_entry hl0 e_X4_answer (Nat.le_of_ble_eq_true rfl) (fun κ hκ _ C => ?_)
  have hn : ∀ st r, Φ st r → ((pI Φ, noX) : Ph).1 st (some (.int r)) := fun st r q => ⟨r, rfl, q⟩
  change X _ _ _ _ _ [(0, .ref (ad θ 175))] _
  unfold w_X4_answer at h
  refine X_aload_n C dX4_answer_0 rfl 0 rfl (isRV_r _) ?_
  refine X_callVS (ci := 4) (q := (RX4, TX4, 54)) (As := []) (rest := []) C rfl (LX_S hX (k := 175) rfl) q2367 q2369 qs128 q136 q2370 ⟨rfl, nm_X4_aboveAll⟩ rfl dX4_answer_1 (m_X4_aboveAll (Cx_l C) hX (d := d - 1) (by omega) st h) (by omega) (by decide) (Nat.le_of_ble_eq_true rfl) (fun s7 w2 hE3 hP4 => ?_) (fun s8 E5 q6 hE3 hP4 => ?_)
  rotate_left
  · exact False.elim hP4
  obtain ⟨r1, rfl, rfl, h⟩ := hP4
  refine X_tls ?_
  refine X_if_ne (tgt := 9) C dX4_answer_4 (by decide) (fun c9 => ?_) (fun c9 => ?_)
  · have h := h.1 c9
    refine X_aload_n C dX4_answer_9 rfl 0 rfl (isRV_r _) ?_
    refine X_aload_n C dX4_answer_10 rfl 0 rfl (isRV_r _) ?_
    refine X_getF (ci := 4) (j := 1) (q := (RX4, TX4, 54)) C rfl (by decide) q1767 rfl dX4_answer_11 (b := 177) (LX_S hX (k := 175) rfl) (LX_F hX (k := 175) (j := 1) rfl) rfl ?_
    refine X_iconst (v := 2) C dX4_answer_14 rfl ?_
    refine X_ialdS C (LX_S hX (k := 177) rfl) (LX_L hX (k := 177) rfl) (vp_dec rfl) rfl dX4_answer_15 ?_
    refine X_putSI (ci := 4) (j := 22) (q := (RX4, TX4, 54)) C rfl (by decide) q1788 rfl rfl dX4_answer_16 (LX_S hX (k := 175) rfl) rfl rfl rfl ?_
    refine X_nm (fun s10 e11 => ?_)
    have h := h s10 e11
    refine X_aload_n C dX4_answer_19 rfl 0 rfl (isRV_r _) ?_
    refine X_aload_n C dX4_answer_20 rfl 0 rfl (isRV_r _) ?_
    refine X_getF (ci := 4) (j := 1) (q := (RX4, TX4, 54)) C rfl (by decide) q1767 rfl dX4_answer_21 (b := 177) (LX_S hX (k := 175) rfl) (LX_F hX (k := 175) (j := 1) rfl) rfl ?_
    refine X_iconst (v := 3) C dX4_answer_24 rfl ?_
    refine X_ialdS C (LX_S hX (k := 177) rfl) (LX_L hX (k := 177) rfl) (vp_dec rfl) rfl dX4_answer_25 ?_
    refine X_putSI (ci := 4) (j := 23) (q := (RX4, TX4, 54)) C rfl (by decide) q1789 rfl rfl dX4_answer_26 (LX_S hX (k := 175) rfl) rfl rfl rfl ?_
    refine X_nm (fun s12 e13 => ?_)
    have h := h s12 e13
    refine X_iconst (v := 0) C dX4_answer_29 rfl ?_
    refine X_istore_n C dX4_answer_30 rfl (lo2 := [(1, _), (0, _)]) (by decide) rfl ?_
    refine X_sub [1, 0] (lo2 := [(0, _), (1, _)]) rfl ?_
    refine t_X4_answer_l31 hX hd C hn ?_ gFU s12 0 h
    · intro s41 h
      exact t_X4_answer_b122 hX hd C hn s41 h
  · have h := h.2 c9
    refine X_iconst (v := 0) C dX4_answer_7 rfl ?_
    exact X_iret C rfl dX4_answer_8 (hn st _ h)

def w_X4_round_l74 (Φ : St → Int32 → Prop) (E101 : St → Int32 → Int32 → Prop) : Nat → St → Int32 → Int32 → Int32 → Prop
  | 0, _, _, _, _ => False
  | n + 1, st, x1, x2, x3 => ((3 ≤ x3) → E101 st x1 x2) ∧ ((¬ 3 ≤ x3) → vp_in x3 3 ∧ vp_in ((x2 + 1) + x3) 300 ∧ ∀ s20, s20 = putI st 181 (((x2 + 1) + x3).toNatClampNeg) (sI st 180 x3.toNatClampNeg) → w_X4_round_l74 Φ E101 n s20 x1 x2 (x3 + 1))
theorem t_X4_round_l74 {θ : Th} {κ : Kx} {Ph : Ph} (hX : LX θ) {d : Nat} (hd : 6 ≤ d) (C : Cx θ κ yX4_round cX4_round 5 (some Jvm.ClassFile.FieldType.int) [] d) {Φ : St → Int32 → Prop} (hn : ∀ st r, Φ st r → Ph.1 st (some (.int r))) {E101 : St → Int32 → Int32 → Prop} (hE101 : ∀ (st : St) (x1 : Int32) (x2 : Int32), E101 st x1 x2 → X θ κ Ph st 101 [(0, .ref (ad θ 175)), (1, .int x1), (2, .int x2)] []) : ∀ (n : Nat) (st : St) (x1 : Int32) (x2 : Int32) (x3 : Int32), w_X4_round_l74 Φ E101 n st x1 x2 x3 → X θ κ Ph st 74 [(0, .ref (ad θ 175)), (1, .int x1), (2, .int x2), (3, .int x3)] [] := by
  intro n
  induction n with
  | zero => intro st x1 x2 x3 h; exact h.elim
  | succ n hK74 =>
    intro st x1 x2 x3 h
    rw [w_X4_round_l74] at h
    refine X_iload_n C dX4_round_74 rfl 3 rfl ?_
    refine X_iconst (v := 3) C dX4_round_75 rfl ?_
    refine X_icmp_ge (tgt := 101) C dX4_round_76 (by decide) (fun c17 => ?_) (fun c17 => ?_)
    · have h := h.1 c17
      refine X_sub [0, 1, 2] (lo2 := [(0, _), (1, _), (2, _)]) rfl ?_
      exact hE101 st x1 x2 h
    · have h := h.2 c17
      refine X_aload_n C dX4_round_79 rfl 0 rfl (isRV_r _) ?_
      refine X_getF (ci := 4) (j := 8) (q := (RX4, TX4, 54)) C rfl (by decide) q1774 rfl dX4_round_80 (b := 181) (LX_S hX (k := 175) rfl) (LX_F hX (k := 175) (j := 8) rfl) rfl ?_
      refine X_iload_n C dX4_round_83 rfl 2 rfl ?_
      refine X_iconst (v := 1) C dX4_round_84 rfl ?_
      refine X_iadd C dX4_round_85 ?_
      refine X_iload_n C dX4_round_86 rfl 3 rfl ?_
      refine X_iadd C dX4_round_87 ?_
      refine X_aload_n C dX4_round_88 rfl 0 rfl (isRV_r _) ?_
      refine X_getF (ci := 4) (j := 7) (q := (RX4, TX4, 54)) C rfl (by decide) q1773 rfl dX4_round_89 (b := 180) (LX_S hX (k := 175) rfl) (LX_F hX (k := 175) (j := 7) rfl) rfl ?_
      refine X_iload_n C dX4_round_92 rfl 3 rfl ?_
      have g18 := h.1
      have h := h.2
      refine X_ialdS C (LX_S hX (k := 180) rfl) (LX_L hX (k := 180) rfl) g18 rfl dX4_round_93 ?_
      have g19 := h.1
      have h := h.2
      refine X_iastS C (LX_S hX (k := 181) rfl) (LX_L hX (k := 181) rfl) g19 rfl dX4_round_94 ?_
      refine X_nm (fun s20 e21 => ?_)
      have h := h s20 e21
      refine X_iinc (v := (x3 + 1)) C (j := 3) dX4_round_95 rfl rfl (lo2 := [(3, _), (0, _), (1, _), (2, _)]) (by decide) rfl ?_
      refine X_goto (tgt := 74) C dX4_round_98 (by decide) ?_
      refine X_sub [1, 2, 3, 0] (lo2 := [(0, _), (1, _), (2, _), (3, _)]) rfl ?_
      exact hK74 s20 x1 x2 (x3 + 1) h
def w_X4_round_l118 (Φ : St → Int32 → Prop) (E157 : St → Int32 → Prop) : Nat → St → Int32 → Int32 → Int32 → Prop
  | 0, _, _, _, _ => False
  | n + 1, st, x1, x3, x4 => (((sI st 177 0) ≤ x4) → E157 st x3) ∧ ((¬ (sI st 177 0) ≤ x4) → vp_in x4 3 ∧ w_X4_place x4 x1 x3 (fun (r36 : Int32) => vp_in r36 97 ∧ ∀ s45, s45 = putI st 180 (x4.toNatClampNeg) ((sI st 180 x4.toNatClampNeg) + (sI st 177 r36.toNatClampNeg)) → w_X4_round_l118 Φ E157 n s45 x1 x3 (x4 + 1)))
theorem t_X4_round_l118 {θ : Th} {κ : Kx} {Ph : Ph} (hX : LX θ) {d : Nat} (hd : 6 ≤ d) (C : Cx θ κ yX4_round cX4_round 5 (some Jvm.ClassFile.FieldType.int) [] d) {Φ : St → Int32 → Prop} (hn : ∀ st r, Φ st r → Ph.1 st (some (.int r))) {E157 : St → Int32 → Prop} (hE157 : ∀ (st : St) (x3 : Int32), E157 st x3 → X θ κ Ph st 157 [(0, .ref (ad θ 175)), (3, .int x3)] []) : ∀ (n : Nat) (st : St) (x1 : Int32) (x3 : Int32) (x4 : Int32), w_X4_round_l118 Φ E157 n st x1 x3 x4 → X θ κ Ph st 118 [(0, .ref (ad θ 175)), (1, .int x1), (3, .int x3), (4, .int x4)] [] := by
  intro n
  induction n with
  | zero => intro st x1 x3 x4 h; exact h.elim
  | succ n hK118 =>
    intro st x1 x3 x4 h
    rw [w_X4_round_l118] at h
    refine X_iload C dX4_round_118 3 rfl ?_
    refine X_aload_n C dX4_round_120 rfl 0 rfl (isRV_r _) ?_
    refine X_getF (ci := 4) (j := 1) (q := (RX4, TX4, 54)) C rfl (by decide) q1767 rfl dX4_round_121 (b := 177) (LX_S hX (k := 175) rfl) (LX_F hX (k := 175) (j := 1) rfl) rfl ?_
    refine X_iconst (v := 0) C dX4_round_124 rfl ?_
    refine X_ialdS C (LX_S hX (k := 177) rfl) (LX_L hX (k := 177) rfl) (vp_dec rfl) rfl dX4_round_125 ?_
    refine X_icmp_ge (tgt := 157) C dX4_round_126 (by decide) (fun c34 => ?_) (fun c34 => ?_)
    · have h := h.1 c34
      refine X_sub [0, 2] (lo2 := [(0, _), (3, _)]) rfl ?_
      exact hE157 st x3 h
    · have h := h.2 c34
      refine X_aload_n C dX4_round_129 rfl 0 rfl (isRV_r _) ?_
      refine X_getF (ci := 4) (j := 7) (q := (RX4, TX4, 54)) C rfl (by decide) q1773 rfl dX4_round_130 (b := 180) (LX_S hX (k := 175) rfl) (LX_F hX (k := 175) (j := 7) rfl) rfl ?_
      refine X_iload C dX4_round_133 3 rfl ?_
      refine X_dup2 C dX4_round_135 rfl rfl ?_
      have g35 := h.1
      have h := h.2
      refine X_ialdS C (LX_S hX (k := 180) rfl) (LX_L hX (k := 180) rfl) g35 rfl dX4_round_136 ?_
      refine X_aload_n C dX4_round_137 rfl 0 rfl (isRV_r _) ?_
      refine X_getF (ci := 4) (j := 1) (q := (RX4, TX4, 54)) C rfl (by decide) q1767 rfl dX4_round_138 (b := 177) (LX_S hX (k := 175) rfl) (LX_F hX (k := 175) (j := 1) rfl) rfl ?_
      refine X_iload C dX4_round_141 3 rfl ?_
      refine X_iload_n C dX4_round_143 rfl 1 rfl ?_
      refine X_iload_n C dX4_round_144 rfl 2 rfl ?_
      refine X_callS (As := [_, _, _]) (rest := [_, _, _, _]) C q1966 q1967 q136 q1968 nm_X4_place rfl dX4_round_145 (m_X4_place (Cx_l C) hX (d := d - 1) (by omega) st x4 x1 x3 h) (by omega) (by decide) (Nat.le_of_ble_eq_true rfl) (fun s42 w37 hE38 hP39 => ?_) (fun s43 E40 q41 hE38 hP39 => ?_)
      rotate_left
      · exact False.elim hP39
      obtain ⟨r36, rfl, rfl, h⟩ := hP39
      refine X_tls ?_
      have g44 := h.1
      have h := h.2
      refine X_ialdS C (LX_S hX (k := 177) rfl) (LX_L hX (k := 177) rfl) g44 rfl dX4_round_148 ?_
      refine X_iadd C dX4_round_149 ?_
      refine X_iastS C (LX_S hX (k := 180) rfl) (LX_L hX (k := 180) rfl) g35 rfl dX4_round_150 ?_
      refine X_nm (fun s45 e46 => ?_)
      have h := h s45 e46
      refine X_iinc (v := (x4 + 1)) C (j := 3) dX4_round_151 rfl rfl (lo2 := [(4, _), (0, _), (1, _), (3, _)]) (by decide) rfl ?_
      refine X_goto (tgt := 118) C dX4_round_154 (by decide) ?_
      refine X_sub [1, 2, 3, 0] (lo2 := [(0, _), (1, _), (3, _), (4, _)]) rfl ?_
      exact hK118 s45 x1 x3 (x4 + 1) h
def w_X4_round_b157 (Φ : St → Int32 → Prop) (st : St) (x3 : Int32) : Prop := ∀ s48, s48 = putI st 175 6 ((sI st 175 6) + 1) → Φ s48 x3
theorem t_X4_round_b157 {θ : Th} {κ : Kx} {Ph : Ph} (hX : LX θ) {d : Nat} (hd : 6 ≤ d) (C : Cx θ κ yX4_round cX4_round 5 (some Jvm.ClassFile.FieldType.int) [] d) {Φ : St → Int32 → Prop} (hn : ∀ st r, Φ st r → Ph.1 st (some (.int r))) (st : St) (x3 : Int32) (h : w_X4_round_b157 Φ st x3) : X θ κ Ph st 157 [(0, .ref (ad θ 175)), (3, .int x3)] [] := by
  unfold w_X4_round_b157 at h
  refine X_aload_n C dX4_round_157 rfl 0 rfl (isRV_r _) ?_
  refine X_dup C dX4_round_158 rfl ?_
  refine X_getS (ci := 4) (j := 6) (q := (RX4, TX4, 54)) C rfl (by decide) q1772 rfl dX4_round_159 (LX_S hX (k := 175) rfl) (v := .int (sI st 175 6)) rfl ?_
  refine X_iconst (v := 1) C dX4_round_162 rfl ?_
  refine X_iadd C dX4_round_163 ?_
  refine X_putSI (ci := 4) (j := 6) (q := (RX4, TX4, 54)) C rfl (by decide) q1772 rfl rfl dX4_round_164 (LX_S hX (k := 175) rfl) rfl rfl rfl ?_
  refine X_nm (fun s48 e49 => ?_)
  have h := h s48 e49
  refine X_iload_n C dX4_round_167 rfl 1 rfl ?_
  exact X_iret C rfl dX4_round_168 (hn s48 _ h)
def w_X4_round_b101 (Φ : St → Int32 → Prop) (st : St) (x1 : Int32) (x2 : Int32) : Prop := w_X4_answer st (fun (s24 : St) (r23 : Int32) => vp_in (x2 + 4) 300 ∧ ∀ s32, s32 = putI s24 181 ((x2 + 4).toNatClampNeg) r23 → w_X4_round_l118 Φ (fun (s47 : St) (x3 : Int32) => w_X4_round_b157 Φ s47 x3) gFU s32 x1 r23 0)
theorem t_X4_round_b101 {θ : Th} {κ : Kx} {Ph : Ph} (hX : LX θ) {d : Nat} (hd : 6 ≤ d) (C : Cx θ κ yX4_round cX4_round 5 (some Jvm.ClassFile.FieldType.int) [] d) {Φ : St → Int32 → Prop} (hn : ∀ st r, Φ st r → Ph.1 st (some (.int r))) (st : St) (x1 : Int32) (x2 : Int32) (h : w_X4_round_b101 Φ st x1 x2) : X θ κ Ph st 101 [(0, .ref (ad θ 175)), (1, .int x1), (2, .int x2)] [] := by
  unfold w_X4_round_b101 at h
  refine X_aload_n C dX4_round_101 rfl 0 rfl (isRV_r _) ?_
  refine X_callVS (ci := 4) (q := (RX4, TX4, 54)) (As := []) (rest := []) C rfl (LX_S hX (k := 175) rfl) q2363 q2365 qs127 q136 q2366 ⟨rfl, nm_X4_answer⟩ rfl dX4_round_102 (m_X4_answer (Cx_l C) hX (d := d - 1) (by omega) st h) (by omega) (by decide) (Nat.le_of_ble_eq_true rfl) (fun s24 w25 hE26 hP27 => ?_) (fun s30 E28 q29 hE26 hP27 => ?_)
  rotate_left
  · exact False.elim hP27
  obtain ⟨r23, rfl, h⟩ := hP27
  refine X_tls ?_
  refine X_istore_n C dX4_round_105 rfl (lo2 := [(3, _), (0, _), (1, _), (2, _)]) (by decide) rfl ?_
  refine X_aload_n C dX4_round_106 rfl 1 rfl (isRV_r _) ?_
  refine X_getF (ci := 4) (j := 8) (q := (RX4, TX4, 54)) C rfl (by decide) q1774 rfl dX4_round_107 (b := 181) (LX_S hX (k := 175) rfl) (LX_F hX (k := 175) (j := 8) rfl) rfl ?_
  refine X_iload_n C dX4_round_110 rfl 3 rfl ?_
  refine X_iconst (v := 4) C dX4_round_111 rfl ?_
  refine X_iadd C dX4_round_112 ?_
  refine X_iload_n C dX4_round_113 rfl 0 rfl ?_
  have g31 := h.1
  have h := h.2
  refine X_iastS C (LX_S hX (k := 181) rfl) (LX_L hX (k := 181) rfl) g31 rfl dX4_round_114 ?_
  refine X_nm (fun s32 e33 => ?_)
  have h := h s32 e33
  refine X_iconst (v := 0) C dX4_round_115 rfl ?_
  refine X_istore C dX4_round_116 (lo2 := [(4, _), (3, _), (0, _), (1, _), (2, _)]) (by decide) rfl ?_
  refine X_sub [2, 3, 1, 0] (lo2 := [(0, _), (1, _), (3, _), (4, _)]) rfl ?_
  refine t_X4_round_l118 hX hd C hn ?_ gFU s32 x1 r23 0 h
  · intro s47 x3 h
    exact t_X4_round_b157 hX hd C hn s47 x3 h
def w_X4_round (st : St) (p1 : Int32) (Φ : St → Int32 → Prop) : Prop := (((sI st 175 5) ≠ 0) → w_X4_isIn p1.toInt64 0 ((sI st 177 2) - 1).toInt64 (fun (r2 : Int32) => ((r2 ≠ 0) → (((sI st 175 6) ≠ 60) → ∀ v12 : Int32, v12 = (5 * (sI st 175 6)) → vp_in v12 300 ∧ ∀ s15, s15 = putI st 181 (v12.toNatClampNeg) (sI st 177 96) → w_X4_round_l74 Φ (fun (s22 : St) (x1 : Int32) (x2 : Int32) => w_X4_round_b101 Φ s22 x1 x2) gFU s15 p1 v12 0) ∧ (((sI st 175 6) = 60) → w_X4_finds st 4 (fun (s51 : St) (r50 : Int32) => Φ s51 r50))) ∧ ((r2 = 0) → w_X4_finds st 1 (fun (s59 : St) (r58 : Int32) => Φ s59 r58)))) ∧ (((sI st 175 5) = 0) → w_X4_finds st 2 (fun (s67 : St) (r66 : Int32) => Φ s67 r66))
theorem nm_X4_round : yX4_round.cls ≠ "java/lang/invoke/MethodHandle" ∧ yX4_round.cls ≠ "java/lang/invoke/VarHandle" ∧ (parseMethodDescriptor yX4_round.desc).map (fun d => d.parameters.length) = some 1 := by decide +kernel
theorem e_X4_round : plainFor yX4_round = true := plainFor_of_name (by decide +kernel)
theorem m_X4_round {θ : Th} {l : Launch} (hl0 : l.stackTraces = false) (hX : LX θ) {d : Nat} (hd : 6 ≤ d) (st : St) (p1 : Int32) {Φ : St → Int32 → Prop} (h : w_X4_round st p1 Φ) : Ct θ l yX4_round (ws_ yX4_round cX4_round 5 (some Jvm.ClassFile.FieldType.int)) d [.ref (ad θ 175), .int p1] st (pI Φ, noX) := by
  refine Ct_entry hl0 e_X4_round (Nat.le_of_ble_eq_true rfl) (fun κ hκ _ C => ?_)
  have hn : ∀ st r, Φ st r → ((pI Φ, noX) : Ph).1 st (some (.int r)) := fun st r q => ⟨r, rfl, q⟩
  change X _ _ _ _ _ [(0, .ref (ad θ 175)), (1, .int p1)] _
  unfold w_X4_round at h
  refine X_aload_n C dX4_round_0 rfl 0 rfl (isRV_r _) ?_
  refine X_getS (ci := 4) (j := 5) (q := (RX4, TX4, 54)) C rfl (by decide) q1771 rfl dX4_round_1 (LX_S hX (k := 175) rfl) (v := .int (sI st 175 5)) rfl ?_
  refine X_if_ne (tgt := 13) C dX4_round_4 (by decide) (fun c1 => ?_) (fun c1 => ?_)
  · have h := h.1 c1
    refine X_iload_n C dX4_round_13 rfl 1 rfl ?_
    refine X_i2l C dX4_round_14 ?_
    refine X_lconst (v := 0) C dX4_round_15 rfl ?_
    refine X_aload_n C dX4_round_16 rfl 0 rfl (isRV_r _) ?_
    refine X_getF (ci := 4) (j := 1) (q := (RX4, TX4, 54)) C rfl (by decide) q1767 rfl dX4_round_17 (b := 177) (LX_S hX (k := 175) rfl) (LX_F hX (k := 175) (j := 1) rfl) rfl ?_
    refine X_iconst (v := 2) C dX4_round_20 rfl ?_
    refine X_ialdS C (LX_S hX (k := 177) rfl) (LX_L hX (k := 177) rfl) (vp_dec rfl) rfl dX4_round_21 ?_
    refine X_iconst (v := 1) C dX4_round_22 rfl ?_
    refine X_isub C dX4_round_23 ?_
    refine X_i2l C dX4_round_24 ?_
    refine X_callS (As := [_, _, _]) (rest := []) C q1936 q1937 q136 q1938 nm_X4_isIn rfl dX4_round_25 (m_X4_isIn (Cx_l C) hX (d := d - 1) (by omega) st p1.toInt64 0 ((sI st 177 2) - 1).toInt64 h) (by omega) (by decide) (Nat.le_of_ble_eq_true rfl) (fun s8 w3 hE4 hP5 => ?_) (fun s9 E6 q7 hE4 hP5 => ?_)
    rotate_left
    · exact False.elim hP5
    obtain ⟨r2, rfl, rfl, h⟩ := hP5
    refine X_tls ?_
    refine X_if_ne (tgt := 37) C dX4_round_28 (by decide) (fun c10 => ?_) (fun c10 => ?_)
    · have h := h.1 c10
      refine X_aload_n C dX4_round_37 rfl 0 rfl (isRV_r _) ?_
      refine X_getS (ci := 4) (j := 6) (q := (RX4, TX4, 54)) C rfl (by decide) q1772 rfl dX4_round_38 (LX_S hX (k := 175) rfl) (v := .int (sI st 175 6)) rfl ?_
      refine X_bipush (v := 60) C dX4_round_41 rfl ?_
      refine X_icmp_ne (tgt := 52) C dX4_round_43 (by decide) (fun c11 => ?_) (fun c11 => ?_)
      · have h := h.1 c11
        refine X_iconst (v := 5) C dX4_round_52 rfl ?_
        refine X_aload_n C dX4_round_53 rfl 0 rfl (isRV_r _) ?_
        refine X_getS (ci := 4) (j := 6) (q := (RX4, TX4, 54)) C rfl (by decide) q1772 rfl dX4_round_54 (LX_S hX (k := 175) rfl) (v := .int (sI st 175 6)) rfl ?_
        refine X_imul C dX4_round_57 ?_
        refine X_topi (fun v12 e13 => ?_)
        have h := h v12 e13
        refine X_istore_n C dX4_round_58 rfl (lo2 := [(2, _), (0, _), (1, _)]) (by decide) rfl ?_
        refine X_aload_n C dX4_round_59 rfl 1 rfl (isRV_r _) ?_
        refine X_getF (ci := 4) (j := 8) (q := (RX4, TX4, 54)) C rfl (by decide) q1774 rfl dX4_round_60 (b := 181) (LX_S hX (k := 175) rfl) (LX_F hX (k := 175) (j := 8) rfl) rfl ?_
        refine X_iload_n C dX4_round_63 rfl 0 rfl ?_
        refine X_aload_n C dX4_round_64 rfl 1 rfl (isRV_r _) ?_
        refine X_getF (ci := 4) (j := 1) (q := (RX4, TX4, 54)) C rfl (by decide) q1767 rfl dX4_round_65 (b := 177) (LX_S hX (k := 175) rfl) (LX_F hX (k := 175) (j := 1) rfl) rfl ?_
        refine X_bipush (v := 96) C dX4_round_68 rfl ?_
        refine X_ialdS C (LX_S hX (k := 177) rfl) (LX_L hX (k := 177) rfl) (vp_dec rfl) rfl dX4_round_70 ?_
        have g14 := h.1
        have h := h.2
        refine X_iastS C (LX_S hX (k := 181) rfl) (LX_L hX (k := 181) rfl) g14 rfl dX4_round_71 ?_
        refine X_nm (fun s15 e16 => ?_)
        have h := h s15 e16
        refine X_iconst (v := 0) C dX4_round_72 rfl ?_
        refine X_istore_n C dX4_round_73 rfl (lo2 := [(3, _), (2, _), (0, _), (1, _)]) (by decide) rfl ?_
        refine X_sub [2, 3, 1, 0] (lo2 := [(0, _), (1, _), (2, _), (3, _)]) rfl ?_
        refine t_X4_round_l74 hX hd C hn ?_ gFU s15 p1 v12 0 h
        · intro s22 x1 x2 h
          exact t_X4_round_b101 hX hd C hn s22 x1 x2 h
      · have h := h.2 c11
        refine X_aload_n C dX4_round_46 rfl 0 rfl (isRV_r _) ?_
        refine X_iconst (v := 4) C dX4_round_47 rfl ?_
        refine X_callVS (ci := 4) (q := (RX4, TX4, 54)) (As := [_]) (rest := []) C rfl (LX_S hX (k := 175) rfl) q1939 q1941 qs63 q136 q1942 ⟨rfl, nm_X4_finds⟩ rfl dX4_round_48 (m_X4_finds (Cx_l C) hX (d := d - 1) (by omega) st 4 h) (by omega) (by decide) (Nat.le_of_ble_eq_true rfl) (fun s51 w52 hE53 hP54 => ?_) (fun s57 E55 q56 hE53 hP54 => ?_)
        rotate_left
        · exact False.elim hP54
        obtain ⟨r50, rfl, h⟩ := hP54
        refine X_tls ?_
        exact X_iret C rfl dX4_round_51 (hn s51 _ h)
    · have h := h.2 c10
      refine X_aload_n C dX4_round_31 rfl 0 rfl (isRV_r _) ?_
      refine X_iconst (v := 1) C dX4_round_32 rfl ?_
      refine X_callVS (ci := 4) (q := (RX4, TX4, 54)) (As := [_]) (rest := []) C rfl (LX_S hX (k := 175) rfl) q1939 q1941 qs63 q136 q1942 ⟨rfl, nm_X4_finds⟩ rfl dX4_round_33 (m_X4_finds (Cx_l C) hX (d := d - 1) (by omega) st 1 h) (by omega) (by decide) (Nat.le_of_ble_eq_true rfl) (fun s59 w60 hE61 hP62 => ?_) (fun s65 E63 q64 hE61 hP62 => ?_)
      rotate_left
      · exact False.elim hP62
      obtain ⟨r58, rfl, h⟩ := hP62
      refine X_tls ?_
      exact X_iret C rfl dX4_round_36 (hn s59 _ h)
  · have h := h.2 c1
    refine X_aload_n C dX4_round_7 rfl 0 rfl (isRV_r _) ?_
    refine X_iconst (v := 2) C dX4_round_8 rfl ?_
    refine X_callVS (ci := 4) (q := (RX4, TX4, 54)) (As := [_]) (rest := []) C rfl (LX_S hX (k := 175) rfl) q1939 q1941 qs63 q136 q1942 ⟨rfl, nm_X4_finds⟩ rfl dX4_round_9 (m_X4_finds (Cx_l C) hX (d := d - 1) (by omega) st 2 h) (by omega) (by decide) (Nat.le_of_ble_eq_true rfl) (fun s67 w68 hE69 hP70 => ?_) (fun s73 E71 q72 hE69 hP70 => ?_)
    rotate_left
    · exact False.elim hP70
    obtain ⟨r66, rfl, h⟩ := hP70
    refine X_tls ?_
    exact X_iret C rfl dX4_round_12 (hn s67 _ h)

def w_X4_back_b14 (Φ : St → Int32 → Prop) (st : St) : Prop := w_X4_finds st 2 (fun (s3 : St) (r2 : Int32) => Φ s3 r2)
theorem t_X4_back_b14 {θ : Th} {κ : Kx} {Ph : Ph} (hX : LX θ) {d : Nat} (hd : 1 ≤ d) (C : Cx θ κ yX4_back cX4_back 3 (some Jvm.ClassFile.FieldType.int) [] d) {Φ : St → Int32 → Prop} (hn : ∀ st r, Φ st r → Ph.1 st (some (.int r))) (st : St) (h : w_X4_back_b14 Φ st) : X θ κ Ph st 14 [(0, .ref (ad θ 175))] [] := by
  unfold w_X4_back_b14 at h
  refine X_aload_n C dX4_back_14 rfl 0 rfl (isRV_r _) ?_
  refine X_iconst (v := 2) C dX4_back_15 rfl ?_
  refine X_callVS (ci := 4) (q := (RX4, TX4, 54)) (As := [_]) (rest := []) C rfl (LX_S hX (k := 175) rfl) q1939 q1941 qs63 q136 q1942 ⟨rfl, nm_X4_finds⟩ rfl dX4_back_16 (m_X4_finds (Cx_l C) hX (d := d - 1) (by omega) st 2 h) (by omega) (by decide) (Nat.le_of_ble_eq_true rfl) (fun s3 w4 hE5 hP6 => ?_) (fun s9 E7 q8 hE5 hP6 => ?_)
  rotate_left
  · exact False.elim hP6
  obtain ⟨r2, rfl, h⟩ := hP6
  refine X_tls ?_
  exact X_iret C rfl dX4_back_19 (hn s3 _ h)
def w_X4_back_l52 (Φ : St → Int32 → Prop) (E79 : St → Prop) : Nat → St → Int32 → Int32 → Prop
  | 0, _, _, _ => False
  | n + 1, st, x1, x2 => ((3 ≤ x2) → E79 st) ∧ ((¬ 3 ≤ x2) → vp_in ((x1 + 1) + x2) 300 ∧ vp_in x2 3 ∧ ∀ s21, s21 = putI st 180 (x2.toNatClampNeg) (sI st 181 ((x1 + 1) + x2).toNatClampNeg) → w_X4_back_l52 Φ E79 n s21 x1 (x2 + 1))
theorem t_X4_back_l52 {θ : Th} {κ : Kx} {Ph : Ph} (hX : LX θ) {d : Nat} (hd : 1 ≤ d) (C : Cx θ κ yX4_back cX4_back 3 (some Jvm.ClassFile.FieldType.int) [] d) {Φ : St → Int32 → Prop} (hn : ∀ st r, Φ st r → Ph.1 st (some (.int r))) {E79 : St → Prop} (hE79 : ∀ (st : St), E79 st → X θ κ Ph st 79 [(0, .ref (ad θ 175))] []) : ∀ (n : Nat) (st : St) (x1 : Int32) (x2 : Int32), w_X4_back_l52 Φ E79 n st x1 x2 → X θ κ Ph st 52 [(0, .ref (ad θ 175)), (1, .int x1), (2, .int x2)] [] := by
  intro n
  induction n with
  | zero => intro st x1 x2 h; exact h.elim
  | succ n hK52 =>
    intro st x1 x2 h
    rw [w_X4_back_l52] at h
    refine X_iload_n C dX4_back_52 rfl 2 rfl ?_
    refine X_iconst (v := 3) C dX4_back_53 rfl ?_
    refine X_icmp_ge (tgt := 79) C dX4_back_54 (by decide) (fun c18 => ?_) (fun c18 => ?_)
    · have h := h.1 c18
      refine X_sub [0] (lo2 := [(0, _)]) rfl ?_
      exact hE79 st h
    · have h := h.2 c18
      refine X_aload_n C dX4_back_57 rfl 0 rfl (isRV_r _) ?_
      refine X_getF (ci := 4) (j := 7) (q := (RX4, TX4, 54)) C rfl (by decide) q1773 rfl dX4_back_58 (b := 180) (LX_S hX (k := 175) rfl) (LX_F hX (k := 175) (j := 7) rfl) rfl ?_
      refine X_iload_n C dX4_back_61 rfl 2 rfl ?_
      refine X_aload_n C dX4_back_62 rfl 0 rfl (isRV_r _) ?_
      refine X_getF (ci := 4) (j := 8) (q := (RX4, TX4, 54)) C rfl (by decide) q1774 rfl dX4_back_63 (b := 181) (LX_S hX (k := 175) rfl) (LX_F hX (k := 175) (j := 8) rfl) rfl ?_
      refine X_iload_n C dX4_back_66 rfl 1 rfl ?_
      refine X_iconst (v := 1) C dX4_back_67 rfl ?_
      refine X_iadd C dX4_back_68 ?_
      refine X_iload_n C dX4_back_69 rfl 2 rfl ?_
      refine X_iadd C dX4_back_70 ?_
      have g19 := h.1
      have h := h.2
      refine X_ialdS C (LX_S hX (k := 181) rfl) (LX_L hX (k := 181) rfl) g19 rfl dX4_back_71 ?_
      have g20 := h.1
      have h := h.2
      refine X_iastS C (LX_S hX (k := 180) rfl) (LX_L hX (k := 180) rfl) g20 rfl dX4_back_72 ?_
      refine X_nm (fun s21 e22 => ?_)
      have h := h s21 e22
      refine X_iinc (v := (x2 + 1)) C (j := 2) dX4_back_73 rfl rfl (lo2 := [(2, _), (0, _), (1, _)]) (by decide) rfl ?_
      refine X_goto (tgt := 52) C dX4_back_76 (by decide) ?_
      refine X_sub [1, 2, 0] (lo2 := [(0, _), (1, _), (2, _)]) rfl ?_
      exact hK52 s21 x1 (x2 + 1) h
def w_X4_back_b79 (Φ : St → Int32 → Prop) (st : St) : Prop := Φ st (sI st 175 6)
theorem t_X4_back_b79 {θ : Th} {κ : Kx} {Ph : Ph} (hX : LX θ) {d : Nat} (hd : 1 ≤ d) (C : Cx θ κ yX4_back cX4_back 3 (some Jvm.ClassFile.FieldType.int) [] d) {Φ : St → Int32 → Prop} (hn : ∀ st r, Φ st r → Ph.1 st (some (.int r))) (st : St) (h : w_X4_back_b79 Φ st) : X θ κ Ph st 79 [(0, .ref (ad θ 175))] [] := by
  unfold w_X4_back_b79 at h
  refine X_aload_n C dX4_back_79 rfl 0 rfl (isRV_r _) ?_
  refine X_getS (ci := 4) (j := 6) (q := (RX4, TX4, 54)) C rfl (by decide) q1772 rfl dX4_back_80 (LX_S hX (k := 175) rfl) (v := .int (sI st 175 6)) rfl ?_
  exact X_iret C rfl dX4_back_83 (hn st _ h)
def w_X4_back (st : St) (Φ : St → Int32 → Prop) : Prop := (((sI st 175 5) = 0) → w_X4_back_b14 Φ st) ∧ ((¬ (sI st 175 5) = 0) → (((sI st 175 6) ≠ 0) → ∀ s11, s11 = putI st 175 6 ((sI st 175 6) - 1) → ∀ v13 : Int32, v13 = (5 * (sI s11 175 6)) → vp_in v13 300 ∧ ∀ s16, s16 = putI s11 177 96 (sI s11 181 v13.toNatClampNeg) → w_X4_back_l52 Φ (fun (s23 : St) => w_X4_back_b79 Φ s23) gFU s16 v13 0) ∧ (((sI st 175 6) = 0) → w_X4_back_b14 Φ st))
theorem nm_X4_back : yX4_back.cls ≠ "java/lang/invoke/MethodHandle" ∧ yX4_back.cls ≠ "java/lang/invoke/VarHandle" ∧ (parseMethodDescriptor yX4_back.desc).map (fun d => d.parameters.length) = some 0 := by decide +kernel
theorem e_X4_back : plainFor yX4_back = true := plainFor_of_name (by decide +kernel)
theorem m_X4_back {θ : Th} {l : Launch} (hl0 : l.stackTraces = false) (hX : LX θ) {d : Nat} (hd : 1 ≤ d) (st : St) {Φ : St → Int32 → Prop} (h : w_X4_back st Φ) : Ct θ l yX4_back (ws_ yX4_back cX4_back 3 (some Jvm.ClassFile.FieldType.int)) d [.ref (ad θ 175)] st (pI Φ, noX) := by
  refine Ct_entry hl0 e_X4_back (Nat.le_of_ble_eq_true rfl) (fun κ hκ _ C => ?_)
  have hn : ∀ st r, Φ st r → ((pI Φ, noX) : Ph).1 st (some (.int r)) := fun st r q => ⟨r, rfl, q⟩
  change X _ _ _ _ _ [(0, .ref (ad θ 175))] _
  unfold w_X4_back at h
  refine X_aload_n C dX4_back_0 rfl 0 rfl (isRV_r _) ?_
  refine X_getS (ci := 4) (j := 5) (q := (RX4, TX4, 54)) C rfl (by decide) q1771 rfl dX4_back_1 (LX_S hX (k := 175) rfl) (v := .int (sI st 175 5)) rfl ?_
  refine X_if_eq (tgt := 14) C dX4_back_4 (by decide) (fun c1 => ?_) (fun c1 => ?_)
  · have h := h.1 c1
    exact t_X4_back_b14 hX hd C hn st h
  · have h := h.2 c1
    refine X_aload_n C dX4_back_7 rfl 0 rfl (isRV_r _) ?_
    refine X_getS (ci := 4) (j := 6) (q := (RX4, TX4, 54)) C rfl (by decide) q1772 rfl dX4_back_8 (LX_S hX (k := 175) rfl) (v := .int (sI st 175 6)) rfl ?_
    refine X_if_ne (tgt := 20) C dX4_back_11 (by decide) (fun c10 => ?_) (fun c10 => ?_)
    · have h := h.1 c10
      refine X_aload_n C dX4_back_20 rfl 0 rfl (isRV_r _) ?_
      refine X_dup C dX4_back_21 rfl ?_
      refine X_getS (ci := 4) (j := 6) (q := (RX4, TX4, 54)) C rfl (by decide) q1772 rfl dX4_back_22 (LX_S hX (k := 175) rfl) (v := .int (sI st 175 6)) rfl ?_
      refine X_iconst (v := 1) C dX4_back_25 rfl ?_
      refine X_isub C dX4_back_26 ?_
      refine X_putSI (ci := 4) (j := 6) (q := (RX4, TX4, 54)) C rfl (by decide) q1772 rfl rfl dX4_back_27 (LX_S hX (k := 175) rfl) rfl rfl rfl ?_
      refine X_nm (fun s11 e12 => ?_)
      have h := h s11 e12
      refine X_iconst (v := 5) C dX4_back_30 rfl ?_
      refine X_aload_n C dX4_back_31 rfl 0 rfl (isRV_r _) ?_
      refine X_getS (ci := 4) (j := 6) (q := (RX4, TX4, 54)) C rfl (by decide) q1772 rfl dX4_back_32 (LX_S hX (k := 175) rfl) (v := .int (sI s11 175 6)) rfl ?_
      refine X_imul C dX4_back_35 ?_
      refine X_topi (fun v13 e14 => ?_)
      have h := h v13 e14
      refine X_istore_n C dX4_back_36 rfl (lo2 := [(1, _), (0, _)]) (by decide) rfl ?_
      refine X_aload_n C dX4_back_37 rfl 1 rfl (isRV_r _) ?_
      refine X_getF (ci := 4) (j := 1) (q := (RX4, TX4, 54)) C rfl (by decide) q1767 rfl dX4_back_38 (b := 177) (LX_S hX (k := 175) rfl) (LX_F hX (k := 175) (j := 1) rfl) rfl ?_
      refine X_bipush (v := 96) C dX4_back_41 rfl ?_
      refine X_aload_n C dX4_back_43 rfl 1 rfl (isRV_r _) ?_
      refine X_getF (ci := 4) (j := 8) (q := (RX4, TX4, 54)) C rfl (by decide) q1774 rfl dX4_back_44 (b := 181) (LX_S hX (k := 175) rfl) (LX_F hX (k := 175) (j := 8) rfl) rfl ?_
      refine X_iload_n C dX4_back_47 rfl 0 rfl ?_
      have g15 := h.1
      have h := h.2
      refine X_ialdS C (LX_S hX (k := 181) rfl) (LX_L hX (k := 181) rfl) g15 rfl dX4_back_48 ?_
      refine X_iastS C (LX_S hX (k := 177) rfl) (LX_L hX (k := 177) rfl) (vp_dec rfl) rfl dX4_back_49 ?_
      refine X_nm (fun s16 e17 => ?_)
      have h := h s16 e17
      refine X_iconst (v := 0) C dX4_back_50 rfl ?_
      refine X_istore_n C dX4_back_51 rfl (lo2 := [(2, _), (1, _), (0, _)]) (by decide) rfl ?_
      refine X_sub [2, 1, 0] (lo2 := [(0, _), (1, _), (2, _)]) rfl ?_
      refine t_X4_back_l52 hX hd C hn ?_ gFU s16 v13 0 h
      · intro s23 h
        exact t_X4_back_b79 hX hd C hn s23 h
    · have h := h.2 c10
      exact t_X4_back_b14 hX hd C hn st h

def w_X4_played_b37 (Φ : St → Int32 → Prop) (st : St) : Prop := w_X4_finds st 2 (fun (s12 : St) (r11 : Int32) => Φ s12 r11)
theorem t_X4_played_b37 {θ : Th} {κ : Kx} {Ph : Ph} (hX : LX θ) {d : Nat} (hd : 2 ≤ d) (C : Cx θ κ yX4_played cX4_played 2 (some Jvm.ClassFile.FieldType.int) [] d) {Φ : St → Int32 → Prop} (hn : ∀ st r, Φ st r → Ph.1 st (some (.int r))) (st : St) (h : w_X4_played_b37 Φ st) : X θ κ Ph st 37 [(0, .ref (ad θ 175))] [] := by
  unfold w_X4_played_b37 at h
  refine X_aload_n C dX4_played_37 rfl 0 rfl (isRV_r _) ?_
  refine X_iconst (v := 2) C dX4_played_38 rfl ?_
  refine X_callVS (ci := 4) (q := (RX4, TX4, 54)) (As := [_]) (rest := []) C rfl (LX_S hX (k := 175) rfl) q1939 q1941 qs63 q136 q1942 ⟨rfl, nm_X4_finds⟩ rfl dX4_played_39 (m_X4_finds (Cx_l C) hX (d := d - 1) (by omega) st 2 h) (by omega) (by decide) (Nat.le_of_ble_eq_true rfl) (fun s12 w13 hE14 hP15 => ?_) (fun s18 E16 q17 hE14 hP15 => ?_)
  rotate_left
  · exact False.elim hP15
  obtain ⟨r11, rfl, h⟩ := hP15
  refine X_tls ?_
  exact X_iret C rfl dX4_played_42 (hn s12 _ h)
def w_X4_played_b43 (Φ : St → Int32 → Prop) (st : St) (x1 : Int32) : Prop := ((x1 ≠ 0) → ((4 ≤ x1) → ((x1 ≠ 4) → vp_in ((5 * ((sI st 175 6) - 1)) + 4) 300 ∧ Φ st (sI st 181 ((5 * ((sI st 175 6) - 1)) + 4).toNatClampNeg)) ∧ ((x1 = 4) → w_X4_aboveAll st (fun (r24 : Int32) => Φ st r24))) ∧ ((¬ 4 ≤ x1) → vp_in (x1 - 1) 3 ∧ Φ st (sI st 180 (x1 - 1).toNatClampNeg))) ∧ ((x1 = 0) → Φ st (sI st 175 6))
theorem t_X4_played_b43 {θ : Th} {κ : Kx} {Ph : Ph} (hX : LX θ) {d : Nat} (hd : 2 ≤ d) (C : Cx θ κ yX4_played cX4_played 2 (some Jvm.ClassFile.FieldType.int) [] d) {Φ : St → Int32 → Prop} (hn : ∀ st r, Φ st r → Ph.1 st (some (.int r))) (st : St) (x1 : Int32) (h : w_X4_played_b43 Φ st x1) : X θ κ Ph st 43 [(0, .ref (ad θ 175)), (1, .int x1)] [] := by
  unfold w_X4_played_b43 at h
  refine X_iload_n C dX4_played_43 rfl 1 rfl ?_
  refine X_if_ne (tgt := 54) C dX4_played_44 (by decide) (fun c20 => ?_) (fun c20 => ?_)
  · have h := h.1 c20
    refine X_iload_n C dX4_played_54 rfl 1 rfl ?_
    refine X_iconst (v := 4) C dX4_played_55 rfl ?_
    refine X_icmp_ge (tgt := 70) C dX4_played_56 (by decide) (fun c21 => ?_) (fun c21 => ?_)
    · have h := h.1 c21
      refine X_iload_n C dX4_played_70 rfl 1 rfl ?_
      refine X_iconst (v := 4) C dX4_played_71 rfl ?_
      refine X_icmp_ne (tgt := 82) C dX4_played_72 (by decide) (fun c22 => ?_) (fun c22 => ?_)
      · have h := h.1 c22
        refine X_aload_n C dX4_played_82 rfl 0 rfl (isRV_r _) ?_
        refine X_getF (ci := 4) (j := 8) (q := (RX4, TX4, 54)) C rfl (by decide) q1774 rfl dX4_played_83 (b := 181) (LX_S hX (k := 175) rfl) (LX_F hX (k := 175) (j := 8) rfl) rfl ?_
        refine X_iconst (v := 5) C dX4_played_86 rfl ?_
        refine X_aload_n C dX4_played_87 rfl 0 rfl (isRV_r _) ?_
        refine X_getS (ci := 4) (j := 6) (q := (RX4, TX4, 54)) C rfl (by decide) q1772 rfl dX4_played_88 (LX_S hX (k := 175) rfl) (v := .int (sI st 175 6)) rfl ?_
        refine X_iconst (v := 1) C dX4_played_91 rfl ?_
        refine X_isub C dX4_played_92 ?_
        refine X_imul C dX4_played_93 ?_
        refine X_iconst (v := 4) C dX4_played_94 rfl ?_
        refine X_iadd C dX4_played_95 ?_
        have g23 := h.1
        have h := h.2
        refine X_ialdS C (LX_S hX (k := 181) rfl) (LX_L hX (k := 181) rfl) g23 rfl dX4_played_96 ?_
        exact X_iret C rfl dX4_played_97 (hn st _ h)
      · have h := h.2 c22
        refine X_aload_n C dX4_played_75 rfl 0 rfl (isRV_r _) ?_
        refine X_callVS (ci := 4) (q := (RX4, TX4, 54)) (As := []) (rest := []) C rfl (LX_S hX (k := 175) rfl) q2367 q2369 qs128 q136 q2370 ⟨rfl, nm_X4_aboveAll⟩ rfl dX4_played_76 (m_X4_aboveAll (Cx_l C) hX (d := d - 1) (by omega) st h) (by omega) (by decide) (Nat.le_of_ble_eq_true rfl) (fun s30 w25 hE26 hP27 => ?_) (fun s31 E28 q29 hE26 hP27 => ?_)
        rotate_left
        · exact False.elim hP27
        obtain ⟨r24, rfl, rfl, h⟩ := hP27
        refine X_tls ?_
        refine X_goto (tgt := 97) C dX4_played_79 (by decide) ?_
        exact X_iret C rfl dX4_played_97 (hn st _ h)
    · have h := h.2 c21
      refine X_aload_n C dX4_played_59 rfl 0 rfl (isRV_r _) ?_
      refine X_getF (ci := 4) (j := 7) (q := (RX4, TX4, 54)) C rfl (by decide) q1773 rfl dX4_played_60 (b := 180) (LX_S hX (k := 175) rfl) (LX_F hX (k := 175) (j := 7) rfl) rfl ?_
      refine X_iload_n C dX4_played_63 rfl 1 rfl ?_
      refine X_iconst (v := 1) C dX4_played_64 rfl ?_
      refine X_isub C dX4_played_65 ?_
      have g32 := h.1
      have h := h.2
      refine X_ialdS C (LX_S hX (k := 180) rfl) (LX_L hX (k := 180) rfl) g32 rfl dX4_played_66 ?_
      refine X_goto (tgt := 97) C dX4_played_67 (by decide) ?_
      exact X_iret C rfl dX4_played_97 (hn st _ h)
  · have h := h.2 c20
    refine X_aload_n C dX4_played_47 rfl 0 rfl (isRV_r _) ?_
    refine X_getS (ci := 4) (j := 6) (q := (RX4, TX4, 54)) C rfl (by decide) q1772 rfl dX4_played_48 (LX_S hX (k := 175) rfl) (v := .int (sI st 175 6)) rfl ?_
    refine X_goto (tgt := 97) C dX4_played_51 (by decide) ?_
    exact X_iret C rfl dX4_played_97 (hn st _ h)
def w_X4_played (st : St) (p1 : Int32) (Φ : St → Int32 → Prop) : Prop := w_X4_isIn p1.toInt64 0 5 (fun (r1 : Int32) => ((r1 ≠ 0) → (((sI st 175 5) = 0) → w_X4_played_b37 Φ st) ∧ ((¬ (sI st 175 5) = 0) → ((p1 ≠ 5) → w_X4_played_b43 Φ st p1) ∧ ((p1 = 5) → (((sI st 175 6) ≠ 0) → w_X4_played_b43 Φ st p1) ∧ (((sI st 175 6) = 0) → w_X4_played_b37 Φ st)))) ∧ ((r1 = 0) → w_X4_finds st 1 (fun (s35 : St) (r34 : Int32) => Φ s35 r34)))
theorem nm_X4_played : yX4_played.cls ≠ "java/lang/invoke/MethodHandle" ∧ yX4_played.cls ≠ "java/lang/invoke/VarHandle" ∧ (parseMethodDescriptor yX4_played.desc).map (fun d => d.parameters.length) = some 1 := by decide +kernel
theorem e_X4_played : plainFor yX4_played = true := plainFor_of_name (by decide +kernel)
theorem m_X4_played {θ : Th} {l : Launch} (hl0 : l.stackTraces = false) (hX : LX θ) {d : Nat} (hd : 2 ≤ d) (st : St) (p1 : Int32) {Φ : St → Int32 → Prop} (h : w_X4_played st p1 Φ) : Ct θ l yX4_played (ws_ yX4_played cX4_played 2 (some Jvm.ClassFile.FieldType.int)) d [.ref (ad θ 175), .int p1] st (pI Φ, noX) := by
  refine Ct_entry hl0 e_X4_played (Nat.le_of_ble_eq_true rfl) (fun κ hκ _ C => ?_)
  have hn : ∀ st r, Φ st r → ((pI Φ, noX) : Ph).1 st (some (.int r)) := fun st r q => ⟨r, rfl, q⟩
  change X _ _ _ _ _ [(0, .ref (ad θ 175)), (1, .int p1)] _
  unfold w_X4_played at h
  refine X_iload_n C dX4_played_0 rfl 1 rfl ?_
  refine X_i2l C dX4_played_1 ?_
  refine X_lconst (v := 0) C dX4_played_2 rfl ?_
  refine X_ldc2 C q2385 dX4_played_3 ?_
  refine X_callS (As := [_, _, _]) (rest := []) C q1936 q1937 q136 q1938 nm_X4_isIn rfl dX4_played_6 (m_X4_isIn (Cx_l C) hX (d := d - 1) (by omega) st p1.toInt64 0 5 h) (by omega) (by decide) (Nat.le_of_ble_eq_true rfl) (fun s7 w2 hE3 hP4 => ?_) (fun s8 E5 q6 hE3 hP4 => ?_)
  rotate_left
  · exact False.elim hP4
  obtain ⟨r1, rfl, rfl, h⟩ := hP4
  refine X_tls ?_
  refine X_if_ne (tgt := 18) C dX4_played_9 (by decide) (fun c9 => ?_) (fun c9 => ?_)
  · have h := h.1 c9
    refine X_aload_n C dX4_played_18 rfl 0 rfl (isRV_r _) ?_
    refine X_getS (ci := 4) (j := 5) (q := (RX4, TX4, 54)) C rfl (by decide) q1771 rfl dX4_played_19 (LX_S hX (k := 175) rfl) (v := .int (sI st 175 5)) rfl ?_
    refine X_if_eq (tgt := 37) C dX4_played_22 (by decide) (fun c10 => ?_) (fun c10 => ?_)
    · have h := h.1 c10
      refine X_sub [0] (lo2 := [(0, _)]) rfl ?_
      exact t_X4_played_b37 hX hd C hn st h
    · have h := h.2 c10
      refine X_iload_n C dX4_played_25 rfl 1 rfl ?_
      refine X_iconst (v := 5) C dX4_played_26 rfl ?_
      refine X_icmp_ne (tgt := 43) C dX4_played_27 (by decide) (fun c19 => ?_) (fun c19 => ?_)
      · have h := h.1 c19
        exact t_X4_played_b43 hX hd C hn st p1 h
      · have h := h.2 c19
        refine X_aload_n C dX4_played_30 rfl 0 rfl (isRV_r _) ?_
        refine X_getS (ci := 4) (j := 6) (q := (RX4, TX4, 54)) C rfl (by decide) q1772 rfl dX4_played_31 (LX_S hX (k := 175) rfl) (v := .int (sI st 175 6)) rfl ?_
        refine X_if_ne (tgt := 43) C dX4_played_34 (by decide) (fun c33 => ?_) (fun c33 => ?_)
        · have h := h.1 c33
          exact t_X4_played_b43 hX hd C hn st p1 h
        · have h := h.2 c33
          refine X_sub [0] (lo2 := [(0, _)]) rfl ?_
          exact t_X4_played_b37 hX hd C hn st h
  · have h := h.2 c9
    refine X_aload_n C dX4_played_12 rfl 0 rfl (isRV_r _) ?_
    refine X_iconst (v := 1) C dX4_played_13 rfl ?_
    refine X_callVS (ci := 4) (q := (RX4, TX4, 54)) (As := [_]) (rest := []) C rfl (LX_S hX (k := 175) rfl) q1939 q1941 qs63 q136 q1942 ⟨rfl, nm_X4_finds⟩ rfl dX4_played_14 (m_X4_finds (Cx_l C) hX (d := d - 1) (by omega) st 1 h) (by omega) (by decide) (Nat.le_of_ble_eq_true rfl) (fun s35 w36 hE37 hP38 => ?_) (fun s41 E39 q40 hE37 hP38 => ?_)
    rotate_left
    · exact False.elim hP38
    obtain ⟨r34, rfl, h⟩ := hP38
    refine X_tls ?_
    exact X_iret C rfl dX4_played_17 (hn s35 _ h)

def w_X4_replay_b30 (Φ : St → Int64 → Prop) (st : St) : Prop := w_X4_findsFar st 1 (fun (s11 : St) (r10 : Int64) => Φ s11 r10)
theorem t_X4_replay_b30 {θ : Th} {κ : Kx} {Ph : Ph} (hX : LX θ) {d : Nat} (hd : 1 ≤ d) (C : Cx θ κ yX4_replay cX4_replay 13 (some Jvm.ClassFile.FieldType.long) [] d) {Φ : St → Int64 → Prop} (hn : ∀ st r, Φ st r → Ph.1 st (some (.long r))) (st : St) (h : w_X4_replay_b30 Φ st) : X θ κ Ph st 30 [(0, .ref (ad θ 175))] [] := by
  unfold w_X4_replay_b30 at h
  refine X_aload_n C dX4_replay_30 rfl 0 rfl (isRV_r _) ?_
  refine X_iconst (v := 1) C dX4_replay_31 rfl ?_
  refine X_callVS (ci := 4) (q := (RX4, TX4, 54)) (As := [_]) (rest := []) C rfl (LX_S hX (k := 175) rfl) q2033 q2035 qs72 q136 q2036 ⟨rfl, nm_X4_findsFar⟩ rfl dX4_replay_32 (m_X4_findsFar (Cx_l C) hX (d := d - 1) (by omega) st 1 h) (by omega) (by decide) (Nat.le_of_ble_eq_true rfl) (fun s11 w12 hE13 hP14 => ?_) (fun s17 E15 q16 hE13 hP14 => ?_)
  rotate_left
  · exact False.elim hP14
  obtain ⟨r10, rfl, h⟩ := hP14
  refine X_tls ?_
  exact X_lret C rfl dX4_replay_35 (hn s11 _ h)
def w_X4_replay_b54 (Φ : St → Int64 → Prop) (st : St) : Prop := w_X4_findsFar st 8 (fun (s48 : St) (r47 : Int64) => Φ s48 r47)
theorem t_X4_replay_b54 {θ : Th} {κ : Kx} {Ph : Ph} (hX : LX θ) {d : Nat} (hd : 1 ≤ d) (C : Cx θ κ yX4_replay cX4_replay 13 (some Jvm.ClassFile.FieldType.long) [] d) {Φ : St → Int64 → Prop} (hn : ∀ st r, Φ st r → Ph.1 st (some (.long r))) (st : St) (h : w_X4_replay_b54 Φ st) : X θ κ Ph st 54 [(0, .ref (ad θ 175))] [] := by
  unfold w_X4_replay_b54 at h
  refine X_aload_n C dX4_replay_54 rfl 0 rfl (isRV_r _) ?_
  refine X_bipush (v := 8) C dX4_replay_55 rfl ?_
  refine X_callVS (ci := 4) (q := (RX4, TX4, 54)) (As := [_]) (rest := []) C rfl (LX_S hX (k := 175) rfl) q2033 q2035 qs72 q136 q2036 ⟨rfl, nm_X4_findsFar⟩ rfl dX4_replay_57 (m_X4_findsFar (Cx_l C) hX (d := d - 1) (by omega) st 8 h) (by omega) (by decide) (Nat.le_of_ble_eq_true rfl) (fun s48 w49 hE50 hP51 => ?_) (fun s54 E52 q53 hE50 hP51 => ?_)
  rotate_left
  · exact False.elim hP51
  obtain ⟨r47, rfl, h⟩ := hP51
  refine X_tls ?_
  exact X_lret C rfl dX4_replay_60 (hn s48 _ h)
def w_X4_replay_l92 (Φ : St → Int64 → Prop) (E153 : St → Prop) (E186 : St → Int32 → Int32 → Int64 → Prop) : Nat → St → Int32 → Int32 → Int32 → Int32 → Int32 → Int64 → Int32 → Prop
  | 0, _, _, _, _, _, _, _, _ => False
  | n + 1, st, x1, x2, x3, x4, x5, x6, x8 => ((x5 ≤ x8) → E186 st x4 x5 x6) ∧ ((¬ x5 ≤ x8) → w_X4_numberAt st x2 x8 (fun (r61 : Int64) => w_X4_numberAt st x3 x8 (fun (r69 : Int64) => w_X4_isIn r61 0 ((sI st 177 2) - 1).toInt64 (fun (r77 : Int32) => ((r77 = 0) → E153 st) ∧ ((¬ r77 = 0) → w_X4_isIn r69 0 ((sI st 177 3) - 1).toInt64 (fun (r86 : Int32) => ((r86 ≠ 0) → w_X4_place x1 r61.toInt32 r69.toInt32 (fun (r95 : Int32) => vp_in r95 97 ∧ ∀ v104 : Int64, v104 = (x6 + (sI st 177 r95.toNatClampNeg).toInt64) → w_X4_replay_l92 Φ E153 E186 n st x1 x2 x3 x4 x5 v104 (x8 + 1))) ∧ ((r86 = 0) → E153 st)))))))
theorem t_X4_replay_l92 {θ : Th} {κ : Kx} {Ph : Ph} (hX : LX θ) {d : Nat} (hd : 1 ≤ d) (C : Cx θ κ yX4_replay cX4_replay 13 (some Jvm.ClassFile.FieldType.long) [] d) {Φ : St → Int64 → Prop} (hn : ∀ st r, Φ st r → Ph.1 st (some (.long r))) {E153 : St → Prop} {E186 : St → Int32 → Int32 → Int64 → Prop} (hE153 : ∀ (st : St), E153 st → X θ κ Ph st 153 [(0, .ref (ad θ 175))] []) (hE186 : ∀ (st : St) (x4 : Int32) (x5 : Int32) (x6 : Int64), E186 st x4 x5 x6 → X θ κ Ph st 186 [(0, .ref (ad θ 175)), (4, .int x4), (5, .int x5), (6, .long x6)] []) : ∀ (n : Nat) (st : St) (x1 : Int32) (x2 : Int32) (x3 : Int32) (x4 : Int32) (x5 : Int32) (x6 : Int64) (x8 : Int32), w_X4_replay_l92 Φ E153 E186 n st x1 x2 x3 x4 x5 x6 x8 → X θ κ Ph st 92 [(0, .ref (ad θ 175)), (1, .int x1), (2, .int x2), (3, .int x3), (4, .int x4), (5, .int x5), (6, .long x6), (8, .int x8)] [] := by
  intro n
  induction n with
  | zero => intro st x1 x2 x3 x4 x5 x6 x8 h; exact h.elim
  | succ n hK92 =>
    intro st x1 x2 x3 x4 x5 x6 x8 h
    rw [w_X4_replay_l92] at h
    refine X_iload C dX4_replay_92 7 rfl ?_
    refine X_iload C dX4_replay_94 5 rfl ?_
    refine X_icmp_ge (tgt := 186) C dX4_replay_96 (by decide) (fun c60 => ?_) (fun c60 => ?_)
    · have h := h.1 c60
      refine X_sub [0, 4, 5, 6] (lo2 := [(0, _), (4, _), (5, _), (6, _)]) rfl ?_
      exact hE186 st x4 x5 x6 h
    · have h := h.2 c60
      refine X_aload_n C dX4_replay_99 rfl 0 rfl (isRV_r _) ?_
      refine X_iload_n C dX4_replay_100 rfl 2 rfl ?_
      refine X_iload C dX4_replay_101 7 rfl ?_
      refine X_callVS (ci := 4) (q := (RX4, TX4, 54)) (As := [_, _]) (rest := []) C rfl (LX_S hX (k := 175) rfl) q1980 q1982 qs66 q136 q1983 ⟨rfl, nm_X4_numberAt⟩ rfl dX4_replay_103 (m_X4_numberAt (Cx_l C) hX (d := d - 1) (by omega) st x2 x8 h) (by omega) (by decide) (Nat.le_of_ble_eq_true rfl) (fun s67 w62 hE63 hP64 => ?_) (fun s68 E65 q66 hE63 hP64 => ?_)
      rotate_left
      · exact False.elim hP64
      obtain ⟨r61, rfl, rfl, h⟩ := hP64
      refine X_tls ?_
      refine X_lstore C dX4_replay_106 (lo2 := [(9, _), (0, _), (1, _), (2, _), (3, _), (4, _), (5, _), (6, _), (8, _)]) (by decide) rfl ?_
      refine X_aload_n C dX4_replay_108 rfl 1 rfl (isRV_r _) ?_
      refine X_iload_n C dX4_replay_109 rfl 4 rfl ?_
      refine X_iload C dX4_replay_110 8 rfl ?_
      refine X_callVS (ci := 4) (q := (RX4, TX4, 54)) (As := [_, _]) (rest := []) C rfl (LX_S hX (k := 175) rfl) q1980 q1982 qs66 q136 q1983 ⟨rfl, nm_X4_numberAt⟩ rfl dX4_replay_112 (m_X4_numberAt (Cx_l C) hX (d := d - 1) (by omega) st x3 x8 h) (by omega) (by decide) (Nat.le_of_ble_eq_true rfl) (fun s75 w70 hE71 hP72 => ?_) (fun s76 E73 q74 hE71 hP72 => ?_)
      rotate_left
      · exact False.elim hP72
      obtain ⟨r69, rfl, rfl, h⟩ := hP72
      refine X_tls ?_
      refine X_lstore C dX4_replay_115 (lo2 := [(11, _), (9, _), (0, _), (1, _), (2, _), (3, _), (4, _), (5, _), (6, _), (8, _)]) (by decide) rfl ?_
      refine X_lload C dX4_replay_117 1 rfl ?_
      refine X_lconst (v := 0) C dX4_replay_119 rfl ?_
      refine X_aload_n C dX4_replay_120 rfl 2 rfl (isRV_r _) ?_
      refine X_getF (ci := 4) (j := 1) (q := (RX4, TX4, 54)) C rfl (by decide) q1767 rfl dX4_replay_121 (b := 177) (LX_S hX (k := 175) rfl) (LX_F hX (k := 175) (j := 1) rfl) rfl ?_
      refine X_iconst (v := 2) C dX4_replay_124 rfl ?_
      refine X_ialdS C (LX_S hX (k := 177) rfl) (LX_L hX (k := 177) rfl) (vp_dec rfl) rfl dX4_replay_125 ?_
      refine X_iconst (v := 1) C dX4_replay_126 rfl ?_
      refine X_isub C dX4_replay_127 ?_
      refine X_i2l C dX4_replay_128 ?_
      refine X_callS (As := [_, _, _]) (rest := []) C q1936 q1937 q136 q1938 nm_X4_isIn rfl dX4_replay_129 (m_X4_isIn (Cx_l C) hX (d := d - 1) (by omega) st r61 0 ((sI st 177 2) - 1).toInt64 h) (by omega) (by decide) (Nat.le_of_ble_eq_true rfl) (fun s83 w78 hE79 hP80 => ?_) (fun s84 E81 q82 hE79 hP80 => ?_)
      rotate_left
      · exact False.elim hP80
      obtain ⟨r77, rfl, rfl, h⟩ := hP80
      refine X_tls ?_
      refine X_if_eq (tgt := 153) C dX4_replay_132 (by decide) (fun c85 => ?_) (fun c85 => ?_)
      · have h := h.1 c85
        refine X_sub [2] (lo2 := [(0, _)]) rfl ?_
        exact hE153 st h
      · have h := h.2 c85
        refine X_lload C dX4_replay_135 0 rfl ?_
        refine X_lconst (v := 0) C dX4_replay_137 rfl ?_
        refine X_aload_n C dX4_replay_138 rfl 2 rfl (isRV_r _) ?_
        refine X_getF (ci := 4) (j := 1) (q := (RX4, TX4, 54)) C rfl (by decide) q1767 rfl dX4_replay_139 (b := 177) (LX_S hX (k := 175) rfl) (LX_F hX (k := 175) (j := 1) rfl) rfl ?_
        refine X_iconst (v := 3) C dX4_replay_142 rfl ?_
        refine X_ialdS C (LX_S hX (k := 177) rfl) (LX_L hX (k := 177) rfl) (vp_dec rfl) rfl dX4_replay_143 ?_
        refine X_iconst (v := 1) C dX4_replay_144 rfl ?_
        refine X_isub C dX4_replay_145 ?_
        refine X_i2l C dX4_replay_146 ?_
        refine X_callS (As := [_, _, _]) (rest := []) C q1936 q1937 q136 q1938 nm_X4_isIn rfl dX4_replay_147 (m_X4_isIn (Cx_l C) hX (d := d - 1) (by omega) st r69 0 ((sI st 177 3) - 1).toInt64 h) (by omega) (by decide) (Nat.le_of_ble_eq_true rfl) (fun s92 w87 hE88 hP89 => ?_) (fun s93 E90 q91 hE88 hP89 => ?_)
        rotate_left
        · exact False.elim hP89
        obtain ⟨r86, rfl, rfl, h⟩ := hP89
        refine X_tls ?_
        refine X_if_ne (tgt := 159) C dX4_replay_150 (by decide) (fun c94 => ?_) (fun c94 => ?_)
        · have h := h.1 c94
          refine X_lload C dX4_replay_159 8 rfl ?_
          refine X_aload_n C dX4_replay_161 rfl 2 rfl (isRV_r _) ?_
          refine X_getF (ci := 4) (j := 1) (q := (RX4, TX4, 54)) C rfl (by decide) q1767 rfl dX4_replay_162 (b := 177) (LX_S hX (k := 175) rfl) (LX_F hX (k := 175) (j := 1) rfl) rfl ?_
          refine X_iload_n C dX4_replay_165 rfl 3 rfl ?_
          refine X_lload C dX4_replay_166 1 rfl ?_
          refine X_l2i C dX4_replay_168 ?_
          refine X_lload C dX4_replay_169 0 rfl ?_
          refine X_l2i C dX4_replay_171 ?_
          refine X_callS (As := [_, _, _]) (rest := [_, _]) C q1966 q1967 q136 q1968 nm_X4_place rfl dX4_replay_172 (m_X4_place (Cx_l C) hX (d := d - 1) (by omega) st x1 r61.toInt32 r69.toInt32 h) (by omega) (by decide) (Nat.le_of_ble_eq_true rfl) (fun s101 w96 hE97 hP98 => ?_) (fun s102 E99 q100 hE97 hP98 => ?_)
          rotate_left
          · exact False.elim hP98
          obtain ⟨r95, rfl, rfl, h⟩ := hP98
          refine X_tls ?_
          have g103 := h.1
          have h := h.2
          refine X_ialdS C (LX_S hX (k := 177) rfl) (LX_L hX (k := 177) rfl) g103 rfl dX4_replay_175 ?_
          refine X_i2l C dX4_replay_176 ?_
          refine X_ladd C dX4_replay_177 ?_
          refine X_topl (fun v104 e105 => ?_)
          have h := h v104 e105
          refine X_lstore C dX4_replay_178 (lo2 := [(6, _), (11, _), (9, _), (0, _), (1, _), (2, _), (3, _), (4, _), (5, _), (8, _)]) (by decide) rfl ?_
          refine X_iinc (v := (x8 + 1)) C (j := 9) dX4_replay_180 rfl rfl (lo2 := [(8, _), (6, _), (11, _), (9, _), (0, _), (1, _), (2, _), (3, _), (4, _), (5, _)]) (by decide) rfl ?_
          refine X_goto (tgt := 92) C dX4_replay_183 (by decide) ?_
          refine X_sub [4, 5, 6, 7, 8, 9, 1, 0] (lo2 := [(0, _), (1, _), (2, _), (3, _), (4, _), (5, _), (6, _), (8, _)]) rfl ?_
          exact hK92 st x1 x2 x3 x4 x5 v104 (x8 + 1) h
        · have h := h.2 c94
          refine X_sub [2] (lo2 := [(0, _)]) rfl ?_
          exact hE153 st h
def w_X4_replay_b153 (Φ : St → Int64 → Prop) (st : St) : Prop := w_X4_findsFar st 5 (fun (s108 : St) (r107 : Int64) => Φ s108 r107)
theorem t_X4_replay_b153 {θ : Th} {κ : Kx} {Ph : Ph} (hX : LX θ) {d : Nat} (hd : 1 ≤ d) (C : Cx θ κ yX4_replay cX4_replay 13 (some Jvm.ClassFile.FieldType.long) [] d) {Φ : St → Int64 → Prop} (hn : ∀ st r, Φ st r → Ph.1 st (some (.long r))) (st : St) (h : w_X4_replay_b153 Φ st) : X θ κ Ph st 153 [(0, .ref (ad θ 175))] [] := by
  unfold w_X4_replay_b153 at h
  refine X_aload_n C dX4_replay_153 rfl 0 rfl (isRV_r _) ?_
  refine X_iconst (v := 5) C dX4_replay_154 rfl ?_
  refine X_callVS (ci := 4) (q := (RX4, TX4, 54)) (As := [_]) (rest := []) C rfl (LX_S hX (k := 175) rfl) q2033 q2035 qs72 q136 q2036 ⟨rfl, nm_X4_findsFar⟩ rfl dX4_replay_155 (m_X4_findsFar (Cx_l C) hX (d := d - 1) (by omega) st 5 h) (by omega) (by decide) (Nat.le_of_ble_eq_true rfl) (fun s108 w109 hE110 hP111 => ?_) (fun s114 E112 q113 hE110 hP111 => ?_)
  rotate_left
  · exact False.elim hP111
  obtain ⟨r107, rfl, h⟩ := hP111
  refine X_tls ?_
  exact X_lret C rfl dX4_replay_158 (hn s108 _ h)
def w_X4_replay_b186 (Φ : St → Int64 → Prop) (st : St) (x4 : Int32) (x5 : Int32) (x6 : Int64) : Prop := ((x5 ≠ 0) → ((x4 ≠ 0) → ¬ x5.toInt64 = 0 ∧ Φ st (x6 - x6 / x5.toInt64 * x5.toInt64)) ∧ ((x4 = 0) → ¬ x5.toInt64 = 0 ∧ Φ st (x6 / x5.toInt64))) ∧ ((x5 = 0) → w_X4_findsFar st 7 (fun (s121 : St) (r120 : Int64) => Φ s121 r120))
theorem t_X4_replay_b186 {θ : Th} {κ : Kx} {Ph : Ph} (hX : LX θ) {d : Nat} (hd : 1 ≤ d) (C : Cx θ κ yX4_replay cX4_replay 13 (some Jvm.ClassFile.FieldType.long) [] d) {Φ : St → Int64 → Prop} (hn : ∀ st r, Φ st r → Ph.1 st (some (.long r))) (st : St) (x4 : Int32) (x5 : Int32) (x6 : Int64) (h : w_X4_replay_b186 Φ st x4 x5 x6) : X θ κ Ph st 186 [(0, .ref (ad θ 175)), (4, .int x4), (5, .int x5), (6, .long x6)] [] := by
  unfold w_X4_replay_b186 at h
  refine X_iload C dX4_replay_186 2 rfl ?_
  refine X_if_ne (tgt := 198) C dX4_replay_188 (by decide) (fun c116 => ?_) (fun c116 => ?_)
  · have h := h.1 c116
    refine X_iload C dX4_replay_198 1 rfl ?_
    refine X_if_ne (tgt := 212) C dX4_replay_200 (by decide) (fun c117 => ?_) (fun c117 => ?_)
    · have h := h.1 c117
      refine X_lload C dX4_replay_212 3 rfl ?_
      refine X_iload C dX4_replay_214 2 rfl ?_
      refine X_i2l C dX4_replay_216 ?_
      have g118 := h.1
      have h := h.2
      refine X_lrem C dX4_replay_217 g118 ?_
      exact X_lret C rfl dX4_replay_218 (hn st _ h)
    · have h := h.2 c117
      refine X_lload C dX4_replay_203 3 rfl ?_
      refine X_iload C dX4_replay_205 2 rfl ?_
      refine X_i2l C dX4_replay_207 ?_
      have g119 := h.1
      have h := h.2
      refine X_ldiv C dX4_replay_208 g119 ?_
      refine X_goto (tgt := 218) C dX4_replay_209 (by decide) ?_
      exact X_lret C rfl dX4_replay_218 (hn st _ h)
  · have h := h.2 c116
    refine X_aload_n C dX4_replay_191 rfl 0 rfl (isRV_r _) ?_
    refine X_bipush (v := 7) C dX4_replay_192 rfl ?_
    refine X_callVS (ci := 4) (q := (RX4, TX4, 54)) (As := [_]) (rest := []) C rfl (LX_S hX (k := 175) rfl) q2033 q2035 qs72 q136 q2036 ⟨rfl, nm_X4_findsFar⟩ rfl dX4_replay_194 (m_X4_findsFar (Cx_l C) hX (d := d - 1) (by omega) st 7 h) (by omega) (by decide) (Nat.le_of_ble_eq_true rfl) (fun s121 w122 hE123 hP124 => ?_) (fun s127 E125 q126 hE123 hP124 => ?_)
    rotate_left
    · exact False.elim hP124
    obtain ⟨r120, rfl, h⟩ := hP124
    refine X_tls ?_
    exact X_lret C rfl dX4_replay_197 (hn s121 _ h)
def w_X4_replay (st : St) (p1 : Int32) (p2 : Int32) (p3 : Int32) (p4 : Int32) (Φ : St → Int64 → Prop) : Prop := w_X4_isState st p1 (fun (r1 : Int32) => ((r1 = 0) → w_X4_replay_b30 Φ st) ∧ ((¬ r1 = 0) → w_X4_isSheet p2 (fun (r18 : Int32) => ((r18 = 0) → w_X4_replay_b30 Φ st) ∧ ((¬ r18 = 0) → w_X4_isSheet p3 (fun (r27 : Int32) => ((r27 = 0) → w_X4_replay_b30 Φ st) ∧ ((¬ r27 = 0) → w_X4_isPart p4 (fun (r36 : Int32) => ((r36 ≠ 0) → vp_in p2 5 ∧ (((sI st 186 p2.toNatClampNeg) = 0) → w_X4_replay_b54 Φ st) ∧ ((¬ (sI st 186 p2.toNatClampNeg) = 0) → vp_in p3 5 ∧ (((sI st 186 p3.toNatClampNeg) ≠ 0) → ∀ v57 : Int32, v57 = (sI st 187 p2.toNatClampNeg) → ((v57 = (sI st 187 p3.toNatClampNeg)) → w_X4_replay_l92 Φ (fun (s106 : St) => w_X4_replay_b153 Φ s106) (fun (s115 : St) (x4 : Int32) (x5 : Int32) (x6 : Int64) => w_X4_replay_b186 Φ s115 x4 x5 x6) gFU st p1 p2 p3 p4 v57 0 0) ∧ ((¬ v57 = (sI st 187 p3.toNatClampNeg)) → w_X4_findsFar st 3 (fun (s129 : St) (r128 : Int64) => Φ s129 r128))) ∧ (((sI st 186 p3.toNatClampNeg) = 0) → w_X4_replay_b54 Φ st))) ∧ ((r36 = 0) → w_X4_replay_b30 Φ st))))))))
theorem nm_X4_replay : yX4_replay.cls ≠ "java/lang/invoke/MethodHandle" ∧ yX4_replay.cls ≠ "java/lang/invoke/VarHandle" ∧ (parseMethodDescriptor yX4_replay.desc).map (fun d => d.parameters.length) = some 4 := by decide +kernel
theorem e_X4_replay : plainFor yX4_replay = true := plainFor_of_name (by decide +kernel)
theorem m_X4_replay {θ : Th} {l : Launch} (hl0 : l.stackTraces = false) (hX : LX θ) {d : Nat} (hd : 1 ≤ d) (st : St) (p1 : Int32) (p2 : Int32) (p3 : Int32) (p4 : Int32) {Φ : St → Int64 → Prop} (h : w_X4_replay st p1 p2 p3 p4 Φ) : Ct θ l yX4_replay (ws_ yX4_replay cX4_replay 13 (some Jvm.ClassFile.FieldType.long)) d [.ref (ad θ 175), .int p1, .int p2, .int p3, .int p4] st (pL Φ, noX) := by
  refine Ct_entry hl0 e_X4_replay (Nat.le_of_ble_eq_true rfl) (fun κ hκ _ C => ?_)
  have hn : ∀ st r, Φ st r → ((pL Φ, noX) : Ph).1 st (some (.long r)) := fun st r q => ⟨r, rfl, q⟩
  change X _ _ _ _ _ [(0, .ref (ad θ 175)), (1, .int p1), (2, .int p2), (3, .int p3), (4, .int p4)] _
  unfold w_X4_replay at h
  refine X_aload_n C dX4_replay_0 rfl 0 rfl (isRV_r _) ?_
  refine X_iload_n C dX4_replay_1 rfl 1 rfl ?_
  refine X_callVS (ci := 4) (q := (RX4, TX4, 54)) (As := [_]) (rest := []) C rfl (LX_S hX (k := 175) rfl) q2004 q2006 qs69 q136 q2007 ⟨rfl, nm_X4_isState⟩ rfl dX4_replay_2 (m_X4_isState (Cx_l C) hX (d := d - 1) (by omega) st p1 h) (by omega) (by decide) (Nat.le_of_ble_eq_true rfl) (fun s7 w2 hE3 hP4 => ?_) (fun s8 E5 q6 hE3 hP4 => ?_)
  rotate_left
  · exact False.elim hP4
  obtain ⟨r1, rfl, rfl, h⟩ := hP4
  refine X_tls ?_
  refine X_if_eq (tgt := 30) C dX4_replay_5 (by decide) (fun c9 => ?_) (fun c9 => ?_)
  · have h := h.1 c9
    refine X_sub [0] (lo2 := [(0, _)]) rfl ?_
    exact t_X4_replay_b30 hX hd C hn st h
  · have h := h.2 c9
    refine X_iload_n C dX4_replay_8 rfl 2 rfl ?_
    refine X_callS (As := [_]) (rest := []) C q1973 q1974 q136 q1975 nm_X4_isSheet rfl dX4_replay_9 (m_X4_isSheet (Cx_l C) hX (d := d - 1) (by omega) st p2 h) (by omega) (by decide) (Nat.le_of_ble_eq_true rfl) (fun s24 w19 hE20 hP21 => ?_) (fun s25 E22 q23 hE20 hP21 => ?_)
    rotate_left
    · exact False.elim hP21
    obtain ⟨r18, rfl, rfl, h⟩ := hP21
    refine X_tls ?_
    refine X_if_eq (tgt := 30) C dX4_replay_12 (by decide) (fun c26 => ?_) (fun c26 => ?_)
    · have h := h.1 c26
      refine X_sub [0] (lo2 := [(0, _)]) rfl ?_
      exact t_X4_replay_b30 hX hd C hn st h
    · have h := h.2 c26
      refine X_iload_n C dX4_replay_15 rfl 3 rfl ?_
      refine X_callS (As := [_]) (rest := []) C q1973 q1974 q136 q1975 nm_X4_isSheet rfl dX4_replay_16 (m_X4_isSheet (Cx_l C) hX (d := d - 1) (by omega) st p3 h) (by omega) (by decide) (Nat.le_of_ble_eq_true rfl) (fun s33 w28 hE29 hP30 => ?_) (fun s34 E31 q32 hE29 hP30 => ?_)
      rotate_left
      · exact False.elim hP30
      obtain ⟨r27, rfl, rfl, h⟩ := hP30
      refine X_tls ?_
      refine X_if_eq (tgt := 30) C dX4_replay_19 (by decide) (fun c35 => ?_) (fun c35 => ?_)
      · have h := h.1 c35
        refine X_sub [0] (lo2 := [(0, _)]) rfl ?_
        exact t_X4_replay_b30 hX hd C hn st h
      · have h := h.2 c35
        refine X_iload C dX4_replay_22 4 rfl ?_
        refine X_callS (As := [_]) (rest := []) C q2030 q2031 q136 q2032 nm_X4_isPart rfl dX4_replay_24 (m_X4_isPart (Cx_l C) hX (d := d - 1) (by omega) st p4 h) (by omega) (by decide) (Nat.le_of_ble_eq_true rfl) (fun s42 w37 hE38 hP39 => ?_) (fun s43 E40 q41 hE38 hP39 => ?_)
        rotate_left
        · exact False.elim hP39
        obtain ⟨r36, rfl, rfl, h⟩ := hP39
        refine X_tls ?_
        refine X_if_ne (tgt := 36) C dX4_replay_27 (by decide) (fun c44 => ?_) (fun c44 => ?_)
        · have h := h.1 c44
          refine X_aload_n C dX4_replay_36 rfl 0 rfl (isRV_r _) ?_
          refine X_getF (ci := 4) (j := 16) (q := (RX4, TX4, 54)) C rfl (by decide) q1782 rfl dX4_replay_37 (b := 186) (LX_S hX (k := 175) rfl) (LX_F hX (k := 175) (j := 16) rfl) rfl ?_
          refine X_iload_n C dX4_replay_40 rfl 2 rfl ?_
          have g45 := h.1
          have h := h.2
          refine X_ialdS C (LX_S hX (k := 186) rfl) (LX_L hX (k := 186) rfl) g45 rfl dX4_replay_41 ?_
          refine X_if_eq (tgt := 54) C dX4_replay_42 (by decide) (fun c46 => ?_) (fun c46 => ?_)
          · have h := h.1 c46
            refine X_sub [0] (lo2 := [(0, _)]) rfl ?_
            exact t_X4_replay_b54 hX hd C hn st h
          · have h := h.2 c46
            refine X_aload_n C dX4_replay_45 rfl 0 rfl (isRV_r _) ?_
            refine X_getF (ci := 4) (j := 16) (q := (RX4, TX4, 54)) C rfl (by decide) q1782 rfl dX4_replay_46 (b := 186) (LX_S hX (k := 175) rfl) (LX_F hX (k := 175) (j := 16) rfl) rfl ?_
            refine X_iload_n C dX4_replay_49 rfl 3 rfl ?_
            have g55 := h.1
            have h := h.2
            refine X_ialdS C (LX_S hX (k := 186) rfl) (LX_L hX (k := 186) rfl) g55 rfl dX4_replay_50 ?_
            refine X_if_ne (tgt := 61) C dX4_replay_51 (by decide) (fun c56 => ?_) (fun c56 => ?_)
            · have h := h.1 c56
              refine X_aload_n C dX4_replay_61 rfl 0 rfl (isRV_r _) ?_
              refine X_getF (ci := 4) (j := 17) (q := (RX4, TX4, 54)) C rfl (by decide) q1783 rfl dX4_replay_62 (b := 187) (LX_S hX (k := 175) rfl) (LX_F hX (k := 175) (j := 17) rfl) rfl ?_
              refine X_iload_n C dX4_replay_65 rfl 2 rfl ?_
              refine X_ialdS C (LX_S hX (k := 187) rfl) (LX_L hX (k := 187) rfl) g45 rfl dX4_replay_66 ?_
              refine X_topi (fun v57 e58 => ?_)
              have h := h v57 e58
              refine X_istore C dX4_replay_67 (lo2 := [(5, _), (0, _), (1, _), (2, _), (3, _), (4, _)]) (by decide) rfl ?_
              refine X_iload C dX4_replay_69 0 rfl ?_
              refine X_aload_n C dX4_replay_71 rfl 1 rfl (isRV_r _) ?_
              refine X_getF (ci := 4) (j := 17) (q := (RX4, TX4, 54)) C rfl (by decide) q1783 rfl dX4_replay_72 (b := 187) (LX_S hX (k := 175) rfl) (LX_F hX (k := 175) (j := 17) rfl) rfl ?_
              refine X_iload_n C dX4_replay_75 rfl 4 rfl ?_
              refine X_ialdS C (LX_S hX (k := 187) rfl) (LX_L hX (k := 187) rfl) g55 rfl dX4_replay_76 ?_
              refine X_icmp_eq (tgt := 86) C dX4_replay_77 (by decide) (fun c59 => ?_) (fun c59 => ?_)
              · have h := h.1 c59
                refine X_lconst (v := 0) C dX4_replay_86 rfl ?_
                refine X_lstore C dX4_replay_87 (lo2 := [(6, _), (5, _), (0, _), (1, _), (2, _), (3, _), (4, _)]) (by decide) rfl ?_
                refine X_iconst (v := 0) C dX4_replay_89 rfl ?_
                refine X_istore C dX4_replay_90 (lo2 := [(8, _), (6, _), (5, _), (0, _), (1, _), (2, _), (3, _), (4, _)]) (by decide) rfl ?_
                refine X_sub [3, 4, 5, 6, 7, 2, 1, 0] (lo2 := [(0, _), (1, _), (2, _), (3, _), (4, _), (5, _), (6, _), (8, _)]) rfl ?_
                refine t_X4_replay_l92 hX hd C hn ?_ ?_ gFU st p1 p2 p3 p4 v57 0 0 h
                · intro s106 h
                  exact t_X4_replay_b153 hX hd C hn s106 h
                · intro s115 x4 x5 x6 h
                  exact t_X4_replay_b186 hX hd C hn s115 x4 x5 x6 h
              · have h := h.2 c59
                refine X_aload_n C dX4_replay_80 rfl 1 rfl (isRV_r _) ?_
                refine X_iconst (v := 3) C dX4_replay_81 rfl ?_
                refine X_callVS (ci := 4) (q := (RX4, TX4, 54)) (As := [_]) (rest := []) C rfl (LX_S hX (k := 175) rfl) q2033 q2035 qs72 q136 q2036 ⟨rfl, nm_X4_findsFar⟩ rfl dX4_replay_82 (m_X4_findsFar (Cx_l C) hX (d := d - 1) (by omega) st 3 h) (by omega) (by decide) (Nat.le_of_ble_eq_true rfl) (fun s129 w130 hE131 hP132 => ?_) (fun s135 E133 q134 hE131 hP132 => ?_)
                rotate_left
                · exact False.elim hP132
                obtain ⟨r128, rfl, h⟩ := hP132
                refine X_tls ?_
                exact X_lret C rfl dX4_replay_85 (hn s129 _ h)
            · have h := h.2 c56
              refine X_sub [0] (lo2 := [(0, _)]) rfl ?_
              exact t_X4_replay_b54 hX hd C hn st h
        · have h := h.2 c44
          refine X_sub [0] (lo2 := [(0, _)]) rfl ?_
          exact t_X4_replay_b30 hX hd C hn st h

def w_X4_sheet_b23 (Φ : St → Int32 → Prop) (st : St) : Prop := w_X4_finds st 1 (fun (s11 : St) (r10 : Int32) => Φ s11 r10)
theorem t_X4_sheet_b23 {θ : Th} {κ : Kx} {Ph : Ph} (hX : LX θ) {d : Nat} (hd : 1 ≤ d) (C : Cx θ κ yX4_sheet cX4_sheet 5 (some Jvm.ClassFile.FieldType.int) [] d) {Φ : St → Int32 → Prop} (hn : ∀ st r, Φ st r → Ph.1 st (some (.int r))) (st : St) (h : w_X4_sheet_b23 Φ st) : X θ κ Ph st 23 [(0, .ref (ad θ 175))] [] := by
  unfold w_X4_sheet_b23 at h
  refine X_aload_n C dX4_sheet_23 rfl 0 rfl (isRV_r _) ?_
  refine X_iconst (v := 1) C dX4_sheet_24 rfl ?_
  refine X_callVS (ci := 4) (q := (RX4, TX4, 54)) (As := [_]) (rest := []) C rfl (LX_S hX (k := 175) rfl) q1939 q1941 qs63 q136 q1942 ⟨rfl, nm_X4_finds⟩ rfl dX4_sheet_25 (m_X4_finds (Cx_l C) hX (d := d - 1) (by omega) st 1 h) (by omega) (by decide) (Nat.le_of_ble_eq_true rfl) (fun s11 w12 hE13 hP14 => ?_) (fun s17 E15 q16 hE13 hP14 => ?_)
  rotate_left
  · exact False.elim hP14
  obtain ⟨r10, rfl, h⟩ := hP14
  refine X_tls ?_
  exact X_iret C rfl dX4_sheet_28 (hn s11 _ h)
def w_X4_sheet_l84 (Φ : St → Int32 → Prop) (E110 : St → Prop) : Nat → St → Int32 → Int32 → Prop
  | 0, _, _, _ => False
  | n + 1, st, x1, x4 => ((60 ≤ x4) → E110 st) ∧ ((¬ 60 ≤ x4) → vp_in ((60 * x1) + x4) 300 ∧ ∀ s30, s30 = putL st 185 (((60 * x1) + x4).toNatClampNeg) 0 → w_X4_sheet_l84 Φ E110 n s30 x1 (x4 + 1))
theorem t_X4_sheet_l84 {θ : Th} {κ : Kx} {Ph : Ph} (hX : LX θ) {d : Nat} (hd : 1 ≤ d) (C : Cx θ κ yX4_sheet cX4_sheet 5 (some Jvm.ClassFile.FieldType.int) [] d) {Φ : St → Int32 → Prop} (hn : ∀ st r, Φ st r → Ph.1 st (some (.int r))) {E110 : St → Prop} (hE110 : ∀ (st : St), E110 st → X θ κ Ph st 110 [] []) : ∀ (n : Nat) (st : St) (x1 : Int32) (x4 : Int32), w_X4_sheet_l84 Φ E110 n st x1 x4 → X θ κ Ph st 84 [(0, .ref (ad θ 175)), (1, .int x1), (4, .int x4)] [] := by
  intro n
  induction n with
  | zero => intro st x1 x4 h; exact h.elim
  | succ n hK84 =>
    intro st x1 x4 h
    rw [w_X4_sheet_l84] at h
    refine X_iload C dX4_sheet_84 2 rfl ?_
    refine X_bipush (v := 60) C dX4_sheet_86 rfl ?_
    refine X_icmp_ge (tgt := 110) C dX4_sheet_88 (by decide) (fun c28 => ?_) (fun c28 => ?_)
    · have h := h.1 c28
      refine X_sub [] (lo2 := []) rfl ?_
      exact hE110 st h
    · have h := h.2 c28
      refine X_aload_n C dX4_sheet_91 rfl 0 rfl (isRV_r _) ?_
      refine X_getF (ci := 4) (j := 15) (q := (RX4, TX4, 54)) C rfl (by decide) q1781 rfl dX4_sheet_92 (b := 185) (LX_S hX (k := 175) rfl) (LX_F hX (k := 175) (j := 15) rfl) rfl ?_
      refine X_bipush (v := 60) C dX4_sheet_95 rfl ?_
      refine X_iload_n C dX4_sheet_97 rfl 1 rfl ?_
      refine X_imul C dX4_sheet_98 ?_
      refine X_iload C dX4_sheet_99 2 rfl ?_
      refine X_iadd C dX4_sheet_101 ?_
      refine X_lconst (v := 0) C dX4_sheet_102 rfl ?_
      have g29 := h.1
      have h := h.2
      refine X_lastS C (LX_S hX (k := 185) rfl) (LX_L hX (k := 185) rfl) g29 rfl dX4_sheet_103 ?_
      refine X_nm (fun s30 e31 => ?_)
      have h := h s30 e31
      refine X_iinc (v := (x4 + 1)) C (j := 2) dX4_sheet_104 rfl rfl (lo2 := [(4, _), (0, _), (1, _)]) (by decide) rfl ?_
      refine X_goto (tgt := 84) C dX4_sheet_107 (by decide) ?_
      refine X_sub [1, 2, 0] (lo2 := [(0, _), (1, _), (4, _)]) rfl ?_
      exact hK84 s30 x1 (x4 + 1) h
def w_X4_sheet_b110 (Φ : St → Int32 → Prop) (st : St) : Prop := Φ st 1
theorem t_X4_sheet_b110 {θ : Th} {κ : Kx} {Ph : Ph} (hX : LX θ) {d : Nat} (hd : 1 ≤ d) (C : Cx θ κ yX4_sheet cX4_sheet 5 (some Jvm.ClassFile.FieldType.int) [] d) {Φ : St → Int32 → Prop} (hn : ∀ st r, Φ st r → Ph.1 st (some (.int r))) (st : St) (h : w_X4_sheet_b110 Φ st) : X θ κ Ph st 110 [] [] := by
  unfold w_X4_sheet_b110 at h
  refine X_iconst (v := 1) C dX4_sheet_110 rfl ?_
  exact X_iret C rfl dX4_sheet_111 (hn st _ h)
def w_X4_sheet_b80 (Φ : St → Int32 → Prop) (st : St) (x1 : Int32) (z0 : Int32) (z1 : Int32) : Prop := vp_in z1 5 ∧ ∀ s26, s26 = putI st 187 (z1.toNatClampNeg) z0 → w_X4_sheet_l84 Φ (fun (s32 : St) => w_X4_sheet_b110 Φ s32) gFU s26 x1 0
theorem t_X4_sheet_b80 {θ : Th} {κ : Kx} {Ph : Ph} (hX : LX θ) {d : Nat} (hd : 1 ≤ d) (C : Cx θ κ yX4_sheet cX4_sheet 5 (some Jvm.ClassFile.FieldType.int) [] d) {Φ : St → Int32 → Prop} (hn : ∀ st r, Φ st r → Ph.1 st (some (.int r))) (st : St) (x1 : Int32) (z0 : Int32) (z1 : Int32) (h : w_X4_sheet_b80 Φ st x1 z0 z1) : X θ κ Ph st 80 [(0, .ref (ad θ 175)), (1, .int x1)] [.int z0, .int z1, .ref (ad θ 187)] := by
  unfold w_X4_sheet_b80 at h
  have g25 := h.1
  have h := h.2
  refine X_iastS C (LX_S hX (k := 187) rfl) (LX_L hX (k := 187) rfl) g25 rfl dX4_sheet_80 ?_
  refine X_nm (fun s26 e27 => ?_)
  have h := h s26 e27
  refine X_iconst (v := 0) C dX4_sheet_81 rfl ?_
  refine X_istore C dX4_sheet_82 (lo2 := [(4, _), (0, _), (1, _)]) (by decide) rfl ?_
  refine X_sub [1, 2, 0] (lo2 := [(0, _), (1, _), (4, _)]) rfl ?_
  refine t_X4_sheet_l84 hX hd C hn ?_ gFU s26 x1 0 h
  · intro s32 h
    exact t_X4_sheet_b110 hX hd C hn s32 h
def w_X4_sheet_b59 (Φ : St → Int32 → Prop) (st : St) (x1 : Int32) (x2 : Int32) (x3 : Int32) : Prop := vp_in x1 5 ∧ ∀ s22, s22 = putI st 186 (x1.toNatClampNeg) x2 → ((x2 ≠ 0) → w_X4_sheet_b80 Φ s22 x1 x3 x1) ∧ ((x2 = 0) → w_X4_sheet_b80 Φ s22 x1 0 x1)
theorem t_X4_sheet_b59 {θ : Th} {κ : Kx} {Ph : Ph} (hX : LX θ) {d : Nat} (hd : 1 ≤ d) (C : Cx θ κ yX4_sheet cX4_sheet 5 (some Jvm.ClassFile.FieldType.int) [] d) {Φ : St → Int32 → Prop} (hn : ∀ st r, Φ st r → Ph.1 st (some (.int r))) (st : St) (x1 : Int32) (x2 : Int32) (x3 : Int32) (h : w_X4_sheet_b59 Φ st x1 x2 x3) : X θ κ Ph st 59 [(0, .ref (ad θ 175)), (1, .int x1), (2, .int x2), (3, .int x3)] [] := by
  unfold w_X4_sheet_b59 at h
  refine X_aload_n C dX4_sheet_59 rfl 0 rfl (isRV_r _) ?_
  refine X_getF (ci := 4) (j := 16) (q := (RX4, TX4, 54)) C rfl (by decide) q1782 rfl dX4_sheet_60 (b := 186) (LX_S hX (k := 175) rfl) (LX_F hX (k := 175) (j := 16) rfl) rfl ?_
  refine X_iload_n C dX4_sheet_63 rfl 1 rfl ?_
  refine X_iload_n C dX4_sheet_64 rfl 2 rfl ?_
  have g21 := h.1
  have h := h.2
  refine X_iastS C (LX_S hX (k := 186) rfl) (LX_L hX (k := 186) rfl) g21 rfl dX4_sheet_65 ?_
  refine X_nm (fun s22 e23 => ?_)
  have h := h s22 e23
  refine X_aload_n C dX4_sheet_66 rfl 0 rfl (isRV_r _) ?_
  refine X_getF (ci := 4) (j := 17) (q := (RX4, TX4, 54)) C rfl (by decide) q1783 rfl dX4_sheet_67 (b := 187) (LX_S hX (k := 175) rfl) (LX_F hX (k := 175) (j := 17) rfl) rfl ?_
  refine X_iload_n C dX4_sheet_70 rfl 1 rfl ?_
  refine X_iload_n C dX4_sheet_71 rfl 2 rfl ?_
  refine X_if_ne (tgt := 79) C dX4_sheet_72 (by decide) (fun c24 => ?_) (fun c24 => ?_)
  · have h := h.1 c24
    refine X_iload_n C dX4_sheet_79 rfl 3 rfl ?_
    refine X_sub [0, 1] (lo2 := [(0, _), (1, _)]) rfl ?_
    exact t_X4_sheet_b80 hX hd C hn s22 x1 x3 x1 h
  · have h := h.2 c24
    refine X_iconst (v := 0) C dX4_sheet_75 rfl ?_
    refine X_goto (tgt := 80) C dX4_sheet_76 (by decide) ?_
    refine X_sub [0, 1] (lo2 := [(0, _), (1, _)]) rfl ?_
    exact t_X4_sheet_b80 hX hd C hn s22 x1 0 x1 h
def w_X4_sheet_b43 (Φ : St → Int32 → Prop) (st : St) (x1 : Int32) (x2 : Int32) (x3 : Int32) : Prop := ((x2 = 0) → w_X4_sheet_b59 Φ st x1 x2 x3) ∧ ((¬ x2 = 0) → ((x3 ≤ 60) → w_X4_sheet_b59 Φ st x1 x2 x3) ∧ ((¬ x3 ≤ 60) → w_X4_finds st 1 (fun (s35 : St) (r34 : Int32) => Φ s35 r34)))
theorem t_X4_sheet_b43 {θ : Th} {κ : Kx} {Ph : Ph} (hX : LX θ) {d : Nat} (hd : 1 ≤ d) (C : Cx θ κ yX4_sheet cX4_sheet 5 (some Jvm.ClassFile.FieldType.int) [] d) {Φ : St → Int32 → Prop} (hn : ∀ st r, Φ st r → Ph.1 st (some (.int r))) (st : St) (x1 : Int32) (x2 : Int32) (x3 : Int32) (h : w_X4_sheet_b43 Φ st x1 x2 x3) : X θ κ Ph st 43 [(0, .ref (ad θ 175)), (1, .int x1), (2, .int x2), (3, .int x3)] [] := by
  unfold w_X4_sheet_b43 at h
  refine X_iload_n C dX4_sheet_43 rfl 2 rfl ?_
  refine X_if_eq (tgt := 59) C dX4_sheet_44 (by decide) (fun c20 => ?_) (fun c20 => ?_)
  · have h := h.1 c20
    exact t_X4_sheet_b59 hX hd C hn st x1 x2 x3 h
  · have h := h.2 c20
    refine X_iload_n C dX4_sheet_47 rfl 3 rfl ?_
    refine X_bipush (v := 60) C dX4_sheet_48 rfl ?_
    refine X_icmp_le (tgt := 59) C dX4_sheet_50 (by decide) (fun c33 => ?_) (fun c33 => ?_)
    · have h := h.1 c33
      exact t_X4_sheet_b59 hX hd C hn st x1 x2 x3 h
    · have h := h.2 c33
      refine X_aload_n C dX4_sheet_53 rfl 0 rfl (isRV_r _) ?_
      refine X_iconst (v := 1) C dX4_sheet_54 rfl ?_
      refine X_callVS (ci := 4) (q := (RX4, TX4, 54)) (As := [_]) (rest := []) C rfl (LX_S hX (k := 175) rfl) q1939 q1941 qs63 q136 q1942 ⟨rfl, nm_X4_finds⟩ rfl dX4_sheet_55 (m_X4_finds (Cx_l C) hX (d := d - 1) (by omega) st 1 h) (by omega) (by decide) (Nat.le_of_ble_eq_true rfl) (fun s35 w36 hE37 hP38 => ?_) (fun s41 E39 q40 hE37 hP38 => ?_)
      rotate_left
      · exact False.elim hP38
      obtain ⟨r34, rfl, h⟩ := hP38
      refine X_tls ?_
      exact X_iret C rfl dX4_sheet_58 (hn s35 _ h)
def w_X4_sheet_b29 (Φ : St → Int32 → Prop) (st : St) (x1 : Int32) (x2 : Int32) (x3 : Int32) : Prop := ((x2 = 0) → w_X4_sheet_b43 Φ st x1 x2 x3) ∧ ((¬ x2 = 0) → ((0 ≤ x3) → w_X4_sheet_b43 Φ st x1 x2 x3) ∧ ((¬ 0 ≤ x3) → w_X4_finds st 3 (fun (s44 : St) (r43 : Int32) => Φ s44 r43)))
theorem t_X4_sheet_b29 {θ : Th} {κ : Kx} {Ph : Ph} (hX : LX θ) {d : Nat} (hd : 1 ≤ d) (C : Cx θ κ yX4_sheet cX4_sheet 5 (some Jvm.ClassFile.FieldType.int) [] d) {Φ : St → Int32 → Prop} (hn : ∀ st r, Φ st r → Ph.1 st (some (.int r))) (st : St) (x1 : Int32) (x2 : Int32) (x3 : Int32) (h : w_X4_sheet_b29 Φ st x1 x2 x3) : X θ κ Ph st 29 [(0, .ref (ad θ 175)), (1, .int x1), (2, .int x2), (3, .int x3)] [] := by
  unfold w_X4_sheet_b29 at h
  refine X_iload_n C dX4_sheet_29 rfl 2 rfl ?_
  refine X_if_eq (tgt := 43) C dX4_sheet_30 (by decide) (fun c19 => ?_) (fun c19 => ?_)
  · have h := h.1 c19
    exact t_X4_sheet_b43 hX hd C hn st x1 x2 x3 h
  · have h := h.2 c19
    refine X_iload_n C dX4_sheet_33 rfl 3 rfl ?_
    refine X_if_ge (tgt := 43) C dX4_sheet_34 (by decide) (fun c42 => ?_) (fun c42 => ?_)
    · have h := h.1 c42
      exact t_X4_sheet_b43 hX hd C hn st x1 x2 x3 h
    · have h := h.2 c42
      refine X_aload_n C dX4_sheet_37 rfl 0 rfl (isRV_r _) ?_
      refine X_iconst (v := 3) C dX4_sheet_38 rfl ?_
      refine X_callVS (ci := 4) (q := (RX4, TX4, 54)) (As := [_]) (rest := []) C rfl (LX_S hX (k := 175) rfl) q1939 q1941 qs63 q136 q1942 ⟨rfl, nm_X4_finds⟩ rfl dX4_sheet_39 (m_X4_finds (Cx_l C) hX (d := d - 1) (by omega) st 3 h) (by omega) (by decide) (Nat.le_of_ble_eq_true rfl) (fun s44 w45 hE46 hP47 => ?_) (fun s50 E48 q49 hE46 hP47 => ?_)
      rotate_left
      · exact False.elim hP47
      obtain ⟨r43, rfl, h⟩ := hP47
      refine X_tls ?_
      exact X_iret C rfl dX4_sheet_42 (hn s44 _ h)
def w_X4_sheet (st : St) (p1 : Int32) (p2 : Int32) (p3 : Int32) (Φ : St → Int32 → Prop) : Prop := w_X4_isSheet p1 (fun (r1 : Int32) => ((r1 = 0) → w_X4_sheet_b23 Φ st) ∧ ((¬ r1 = 0) → ((p2 = 0) → w_X4_sheet_b29 Φ st p1 p2 p3) ∧ ((¬ p2 = 0) → ((p2 = 16) → w_X4_sheet_b29 Φ st p1 p2 p3) ∧ ((¬ p2 = 16) → ((p2 = 64) → w_X4_sheet_b29 Φ st p1 p2 p3) ∧ ((¬ p2 = 64) → w_X4_sheet_b23 Φ st)))))
theorem nm_X4_sheet : yX4_sheet.cls ≠ "java/lang/invoke/MethodHandle" ∧ yX4_sheet.cls ≠ "java/lang/invoke/VarHandle" ∧ (parseMethodDescriptor yX4_sheet.desc).map (fun d => d.parameters.length) = some 3 := by decide +kernel
theorem e_X4_sheet : plainFor yX4_sheet = true := plainFor_of_name (by decide +kernel)
theorem m_X4_sheet {θ : Th} {l : Launch} (hl0 : l.stackTraces = false) (hX : LX θ) {d : Nat} (hd : 1 ≤ d) (st : St) (p1 : Int32) (p2 : Int32) (p3 : Int32) {Φ : St → Int32 → Prop} (h : w_X4_sheet st p1 p2 p3 Φ) : Ct θ l yX4_sheet (ws_ yX4_sheet cX4_sheet 5 (some Jvm.ClassFile.FieldType.int)) d [.ref (ad θ 175), .int p1, .int p2, .int p3] st (pI Φ, noX) := by
  refine Ct_entry hl0 e_X4_sheet (Nat.le_of_ble_eq_true rfl) (fun κ hκ _ C => ?_)
  have hn : ∀ st r, Φ st r → ((pI Φ, noX) : Ph).1 st (some (.int r)) := fun st r q => ⟨r, rfl, q⟩
  change X _ _ _ _ _ [(0, .ref (ad θ 175)), (1, .int p1), (2, .int p2), (3, .int p3)] _
  unfold w_X4_sheet at h
  refine X_iload_n C dX4_sheet_0 rfl 1 rfl ?_
  refine X_callS (As := [_]) (rest := []) C q1973 q1974 q136 q1975 nm_X4_isSheet rfl dX4_sheet_1 (m_X4_isSheet (Cx_l C) hX (d := d - 1) (by omega) st p1 h) (by omega) (by decide) (Nat.le_of_ble_eq_true rfl) (fun s7 w2 hE3 hP4 => ?_) (fun s8 E5 q6 hE3 hP4 => ?_)
  rotate_left
  · exact False.elim hP4
  obtain ⟨r1, rfl, rfl, h⟩ := hP4
  refine X_tls ?_
  refine X_if_eq (tgt := 23) C dX4_sheet_4 (by decide) (fun c9 => ?_) (fun c9 => ?_)
  · have h := h.1 c9
    refine X_sub [0] (lo2 := [(0, _)]) rfl ?_
    exact t_X4_sheet_b23 hX hd C hn st h
  · have h := h.2 c9
    refine X_iload_n C dX4_sheet_7 rfl 2 rfl ?_
    refine X_if_eq (tgt := 29) C dX4_sheet_8 (by decide) (fun c18 => ?_) (fun c18 => ?_)
    · have h := h.1 c18
      exact t_X4_sheet_b29 hX hd C hn st p1 p2 p3 h
    · have h := h.2 c18
      refine X_iload_n C dX4_sheet_11 rfl 2 rfl ?_
      refine X_bipush (v := 16) C dX4_sheet_12 rfl ?_
      refine X_icmp_eq (tgt := 29) C dX4_sheet_14 (by decide) (fun c51 => ?_) (fun c51 => ?_)
      · have h := h.1 c51
        exact t_X4_sheet_b29 hX hd C hn st p1 p2 p3 h
      · have h := h.2 c51
        refine X_iload_n C dX4_sheet_17 rfl 2 rfl ?_
        refine X_bipush (v := 64) C dX4_sheet_18 rfl ?_
        refine X_icmp_eq (tgt := 29) C dX4_sheet_20 (by decide) (fun c52 => ?_) (fun c52 => ?_)
        · have h := h.1 c52
          exact t_X4_sheet_b29 hX hd C hn st p1 p2 p3 h
        · have h := h.2 c52
          refine X_sub [0] (lo2 := [(0, _)]) rfl ?_
          exact t_X4_sheet_b23 hX hd C hn st h

def w_X4_isLost_b27 (Φ : Int32 → Prop) (st0 : St) : Prop := Φ 1
theorem t_X4_isLost_b27 {θ : Th} {κ : Kx} {Ph : Ph} (hX : LX θ) {st0 : St} {d : Nat} (hd : 1 ≤ d) (C : Cx θ κ yX4_isLost cX4_isLost 3 (some Jvm.ClassFile.FieldType.boolean) [] d) {Φ : Int32 → Prop} (hn : ∀ r, Φ r → Ph.1 st0 (some (.int r))) (h : w_X4_isLost_b27 Φ st0) : X θ κ Ph st0 27 [] [] := by
  unfold w_X4_isLost_b27 at h
  refine X_iconst (v := 1) C dX4_isLost_27 rfl ?_
  refine X_goto (tgt := 32) C dX4_isLost_28 (by decide) ?_
  exact X_zret C rfl rfl dX4_isLost_32 (hn _ h)
def w_X4_isLost (st0 : St) (p1 : Int32) (p2 : Int32) (Φ : Int32 → Prop) : Prop := vp_in p1 5 ∧ (((sI st0 186 p1.toNatClampNeg) = 0) → w_X4_isLost_b27 Φ st0) ∧ ((¬ (sI st0 186 p1.toNatClampNeg) = 0) → w_X4_isIn p2.toInt64 0 ((sI st0 187 p1.toNatClampNeg) - 1).toInt64 (fun (r3 : Int32) => ((r3 ≠ 0) → Φ 0) ∧ ((r3 = 0) → w_X4_isLost_b27 Φ st0)))
theorem nm_X4_isLost : yX4_isLost.cls ≠ "java/lang/invoke/MethodHandle" ∧ yX4_isLost.cls ≠ "java/lang/invoke/VarHandle" ∧ (parseMethodDescriptor yX4_isLost.desc).map (fun d => d.parameters.length) = some 2 := by decide +kernel
theorem e_X4_isLost : plainFor yX4_isLost = true := plainFor_of_name (by decide +kernel)
theorem m_X4_isLost {θ : Th} {l : Launch} (hl0 : l.stackTraces = false) (hX : LX θ) {d : Nat} (hd : 1 ≤ d) (st0 : St) (p1 : Int32) (p2 : Int32) {Φ : Int32 → Prop} (h : w_X4_isLost st0 p1 p2 Φ) : Ct θ l yX4_isLost (ws_ yX4_isLost cX4_isLost 3 (some Jvm.ClassFile.FieldType.boolean)) d [.ref (ad θ 175), .int p1, .int p2] st0 (rI st0 Φ, noX) := by
  refine Ct_entry hl0 e_X4_isLost (Nat.le_of_ble_eq_true rfl) (fun κ hκ _ C => ?_)
  have hn : ∀ r, Φ r → ((rI st0 Φ, noX) : Ph).1 st0 (some (.int r)) := fun r q => ⟨r, rfl, rfl, q⟩
  change X _ _ _ _ _ [(0, .ref (ad θ 175)), (1, .int p1), (2, .int p2)] _
  unfold w_X4_isLost at h
  refine X_aload_n C dX4_isLost_0 rfl 0 rfl (isRV_r _) ?_
  refine X_getF (ci := 4) (j := 16) (q := (RX4, TX4, 54)) C rfl (by decide) q1782 rfl dX4_isLost_1 (b := 186) (LX_S hX (k := 175) rfl) (LX_F hX (k := 175) (j := 16) rfl) rfl ?_
  refine X_iload_n C dX4_isLost_4 rfl 1 rfl ?_
  have g1 := h.1
  have h := h.2
  refine X_ialdS C (LX_S hX (k := 186) rfl) (LX_L hX (k := 186) rfl) g1 rfl dX4_isLost_5 ?_
  refine X_if_eq (tgt := 27) C dX4_isLost_6 (by decide) (fun c2 => ?_) (fun c2 => ?_)
  · have h := h.1 c2
    refine X_sub [] (lo2 := []) rfl ?_
    exact t_X4_isLost_b27 hX hd C hn h
  · have h := h.2 c2
    refine X_iload_n C dX4_isLost_9 rfl 2 rfl ?_
    refine X_i2l C dX4_isLost_10 ?_
    refine X_lconst (v := 0) C dX4_isLost_11 rfl ?_
    refine X_aload_n C dX4_isLost_12 rfl 0 rfl (isRV_r _) ?_
    refine X_getF (ci := 4) (j := 17) (q := (RX4, TX4, 54)) C rfl (by decide) q1783 rfl dX4_isLost_13 (b := 187) (LX_S hX (k := 175) rfl) (LX_F hX (k := 175) (j := 17) rfl) rfl ?_
    refine X_iload_n C dX4_isLost_16 rfl 1 rfl ?_
    refine X_ialdS C (LX_S hX (k := 187) rfl) (LX_L hX (k := 187) rfl) g1 rfl dX4_isLost_17 ?_
    refine X_iconst (v := 1) C dX4_isLost_18 rfl ?_
    refine X_isub C dX4_isLost_19 ?_
    refine X_i2l C dX4_isLost_20 ?_
    refine X_callS (As := [_, _, _]) (rest := []) C q1936 q1937 q136 q1938 nm_X4_isIn rfl dX4_isLost_21 (m_X4_isIn (Cx_l C) hX (d := d - 1) (by omega) st0 p2.toInt64 0 ((sI st0 187 p1.toNatClampNeg) - 1).toInt64 h) (by omega) (by decide) (Nat.le_of_ble_eq_true rfl) (fun s9 w4 hE5 hP6 => ?_) (fun s10 E7 q8 hE5 hP6 => ?_)
    rotate_left
    · exact False.elim hP6
    obtain ⟨r3, rfl, rfl, h⟩ := hP6
    refine X_tls ?_
    refine X_if_ne (tgt := 31) C dX4_isLost_24 (by decide) (fun c11 => ?_) (fun c11 => ?_)
    · have h := h.1 c11
      refine X_iconst (v := 0) C dX4_isLost_31 rfl ?_
      exact X_zret C rfl rfl dX4_isLost_32 (hn _ h)
    · have h := h.2 c11
      refine X_sub [] (lo2 := []) rfl ?_
      exact t_X4_isLost_b27 hX hd C hn h

def w_X4_put_b58 (Φ : St → Int32 → Prop) (st : St) (z0 : Int64) (z1 : Int32) : Prop := vp_in z1 300 ∧ ∀ s22, s22 = putL st 185 (z1.toNatClampNeg) z0 → Φ s22 1
theorem t_X4_put_b58 {θ : Th} {κ : Kx} {Ph : Ph} (hX : LX θ) {d : Nat} (hd : 2 ≤ d) (C : Cx θ κ yX4_put cX4_put 5 (some Jvm.ClassFile.FieldType.int) [] d) {Φ : St → Int32 → Prop} (hn : ∀ st r, Φ st r → Ph.1 st (some (.int r))) (st : St) (z0 : Int64) (z1 : Int32) (h : w_X4_put_b58 Φ st z0 z1) : X θ κ Ph st 58 [] [.long z0, .int z1, .ref (ad θ 185)] := by
  unfold w_X4_put_b58 at h
  have g21 := h.1
  have h := h.2
  refine X_lastS C (LX_S hX (k := 185) rfl) (LX_L hX (k := 185) rfl) g21 rfl dX4_put_58 ?_
  refine X_nm (fun s22 e23 => ?_)
  have h := h s22 e23
  refine X_iconst (v := 1) C dX4_put_59 rfl ?_
  exact X_iret C rfl dX4_put_60 (hn s22 _ h)
def w_X4_put (st : St) (p1 : Int32) (p2 : Int32) (p3 : Int64) (Φ : St → Int32 → Prop) : Prop := w_X4_isSheet p1 (fun (r1 : Int32) => ((r1 ≠ 0) → w_X4_isLost st p1 p2 (fun (r10 : Int32) => ((r10 = 0) → vp_in p1 5 ∧ (((sI st 186 p1.toNatClampNeg) ≠ 16) → w_X4_put_b58 Φ st p3 ((60 * p1) + p2)) ∧ (((sI st 186 p1.toNatClampNeg) = 16) → w_X4_put_b58 Φ st p3.toInt32.toInt16.toInt32.toInt64 ((60 * p1) + p2))) ∧ ((¬ r10 = 0) → w_X4_finds st 8 (fun (s25 : St) (r24 : Int32) => Φ s25 r24)))) ∧ ((r1 = 0) → w_X4_finds st 1 (fun (s33 : St) (r32 : Int32) => Φ s33 r32)))
theorem nm_X4_put : yX4_put.cls ≠ "java/lang/invoke/MethodHandle" ∧ yX4_put.cls ≠ "java/lang/invoke/VarHandle" ∧ (parseMethodDescriptor yX4_put.desc).map (fun d => d.parameters.length) = some 3 := by decide +kernel
theorem e_X4_put : plainFor yX4_put = true := plainFor_of_name (by decide +kernel)
theorem m_X4_put {θ : Th} {l : Launch} (hl0 : l.stackTraces = false) (hX : LX θ) {d : Nat} (hd : 2 ≤ d) (st : St) (p1 : Int32) (p2 : Int32) (p3 : Int64) {Φ : St → Int32 → Prop} (h : w_X4_put st p1 p2 p3 Φ) : Ct θ l yX4_put (ws_ yX4_put cX4_put 5 (some Jvm.ClassFile.FieldType.int)) d [.ref (ad θ 175), .int p1, .int p2, .long p3] st (pI Φ, noX) := by
  refine Ct_entry hl0 e_X4_put (Nat.le_of_ble_eq_true rfl) (fun κ hκ _ C => ?_)
  have hn : ∀ st r, Φ st r → ((pI Φ, noX) : Ph).1 st (some (.int r)) := fun st r q => ⟨r, rfl, q⟩
  change X _ _ _ _ _ [(0, .ref (ad θ 175)), (1, .int p1), (2, .int p2), (3, .long p3)] _
  unfold w_X4_put at h
  refine X_iload_n C dX4_put_0 rfl 1 rfl ?_
  refine X_callS (As := [_]) (rest := []) C q1973 q1974 q136 q1975 nm_X4_isSheet rfl dX4_put_1 (m_X4_isSheet (Cx_l C) hX (d := d - 1) (by omega) st p1 h) (by omega) (by decide) (Nat.le_of_ble_eq_true rfl) (fun s7 w2 hE3 hP4 => ?_) (fun s8 E5 q6 hE3 hP4 => ?_)
  rotate_left
  · exact False.elim hP4
  obtain ⟨r1, rfl, rfl, h⟩ := hP4
  refine X_tls ?_
  refine X_if_ne (tgt := 13) C dX4_put_4 (by decide) (fun c9 => ?_) (fun c9 => ?_)
  · have h := h.1 c9
    refine X_aload_n C dX4_put_13 rfl 0 rfl (isRV_r _) ?_
    refine X_iload_n C dX4_put_14 rfl 1 rfl ?_
    refine X_iload_n C dX4_put_15 rfl 2 rfl ?_
    refine X_callVS (ci := 4) (q := (RX4, TX4, 54)) (As := [_, _]) (rest := []) C rfl (LX_S hX (k := 175) rfl) q2398 q2400 qs130 q136 q2401 ⟨rfl, nm_X4_isLost⟩ rfl dX4_put_16 (m_X4_isLost (Cx_l C) hX (d := d - 1) (by omega) st p1 p2 h) (by omega) (by decide) (Nat.le_of_ble_eq_true rfl) (fun s16 w11 hE12 hP13 => ?_) (fun s17 E14 q15 hE12 hP13 => ?_)
    rotate_left
    · exact False.elim hP13
    obtain ⟨r10, rfl, rfl, h⟩ := hP13
    refine X_tls ?_
    refine X_if_eq (tgt := 29) C dX4_put_19 (by decide) (fun c18 => ?_) (fun c18 => ?_)
    · have h := h.1 c18
      refine X_aload_n C dX4_put_29 rfl 0 rfl (isRV_r _) ?_
      refine X_getF (ci := 4) (j := 15) (q := (RX4, TX4, 54)) C rfl (by decide) q1781 rfl dX4_put_30 (b := 185) (LX_S hX (k := 175) rfl) (LX_F hX (k := 175) (j := 15) rfl) rfl ?_
      refine X_bipush (v := 60) C dX4_put_33 rfl ?_
      refine X_iload_n C dX4_put_35 rfl 1 rfl ?_
      refine X_imul C dX4_put_36 ?_
      refine X_iload_n C dX4_put_37 rfl 2 rfl ?_
      refine X_iadd C dX4_put_38 ?_
      refine X_aload_n C dX4_put_39 rfl 0 rfl (isRV_r _) ?_
      refine X_getF (ci := 4) (j := 16) (q := (RX4, TX4, 54)) C rfl (by decide) q1782 rfl dX4_put_40 (b := 186) (LX_S hX (k := 175) rfl) (LX_F hX (k := 175) (j := 16) rfl) rfl ?_
      refine X_iload_n C dX4_put_43 rfl 1 rfl ?_
      have g19 := h.1
      have h := h.2
      refine X_ialdS C (LX_S hX (k := 186) rfl) (LX_L hX (k := 186) rfl) g19 rfl dX4_put_44 ?_
      refine X_bipush (v := 16) C dX4_put_45 rfl ?_
      refine X_icmp_ne (tgt := 57) C dX4_put_47 (by decide) (fun c20 => ?_) (fun c20 => ?_)
      · have h := h.1 c20
        refine X_lload_n C dX4_put_57 rfl 3 rfl ?_
        refine X_sub [] (lo2 := []) rfl ?_
        exact t_X4_put_b58 hX hd C hn st p3 ((60 * p1) + p2) h
      · have h := h.2 c20
        refine X_lload_n C dX4_put_50 rfl 3 rfl ?_
        refine X_l2i C dX4_put_51 ?_
        refine X_i2s C dX4_put_52 ?_
        refine X_i2l C dX4_put_53 ?_
        refine X_goto (tgt := 58) C dX4_put_54 (by decide) ?_
        refine X_sub [] (lo2 := []) rfl ?_
        exact t_X4_put_b58 hX hd C hn st p3.toInt32.toInt16.toInt32.toInt64 ((60 * p1) + p2) h
    · have h := h.2 c18
      refine X_aload_n C dX4_put_22 rfl 0 rfl (isRV_r _) ?_
      refine X_bipush (v := 8) C dX4_put_23 rfl ?_
      refine X_callVS (ci := 4) (q := (RX4, TX4, 54)) (As := [_]) (rest := []) C rfl (LX_S hX (k := 175) rfl) q1939 q1941 qs63 q136 q1942 ⟨rfl, nm_X4_finds⟩ rfl dX4_put_25 (m_X4_finds (Cx_l C) hX (d := d - 1) (by omega) st 8 h) (by omega) (by decide) (Nat.le_of_ble_eq_true rfl) (fun s25 w26 hE27 hP28 => ?_) (fun s31 E29 q30 hE27 hP28 => ?_)
      rotate_left
      · exact False.elim hP28
      obtain ⟨r24, rfl, h⟩ := hP28
      refine X_tls ?_
      exact X_iret C rfl dX4_put_28 (hn s25 _ h)
  · have h := h.2 c9
    refine X_aload_n C dX4_put_7 rfl 0 rfl (isRV_r _) ?_
    refine X_iconst (v := 1) C dX4_put_8 rfl ?_
    refine X_callVS (ci := 4) (q := (RX4, TX4, 54)) (As := [_]) (rest := []) C rfl (LX_S hX (k := 175) rfl) q1939 q1941 qs63 q136 q1942 ⟨rfl, nm_X4_finds⟩ rfl dX4_put_9 (m_X4_finds (Cx_l C) hX (d := d - 1) (by omega) st 1 h) (by omega) (by decide) (Nat.le_of_ble_eq_true rfl) (fun s33 w34 hE35 hP36 => ?_) (fun s39 E37 q38 hE35 hP36 => ?_)
    rotate_left
    · exact False.elim hP36
    obtain ⟨r32, rfl, h⟩ := hP36
    refine X_tls ?_
    exact X_iret C rfl dX4_put_12 (hn s33 _ h)

def w_X4_number (st : St) (p1 : Int32) (p2 : Int32) (Φ : St → Int64 → Prop) : Prop := w_X4_isSheet p1 (fun (r1 : Int32) => ((r1 ≠ 0) → w_X4_isLost st p1 p2 (fun (r10 : Int32) => ((r10 = 0) → w_X4_numberAt st p1 p2 (fun (r19 : Int64) => Φ st r19)) ∧ ((¬ r10 = 0) → w_X4_findsFar st 8 (fun (s28 : St) (r27 : Int64) => Φ s28 r27)))) ∧ ((r1 = 0) → w_X4_findsFar st 1 (fun (s36 : St) (r35 : Int64) => Φ s36 r35)))
theorem nm_X4_number : yX4_number.cls ≠ "java/lang/invoke/MethodHandle" ∧ yX4_number.cls ≠ "java/lang/invoke/VarHandle" ∧ (parseMethodDescriptor yX4_number.desc).map (fun d => d.parameters.length) = some 2 := by decide +kernel
theorem e_X4_number : plainFor yX4_number = true := plainFor_of_name (by decide +kernel)
theorem m_X4_number {θ : Th} {l : Launch} (hl0 : l.stackTraces = false) (hX : LX θ) {d : Nat} (hd : 2 ≤ d) (st : St) (p1 : Int32) (p2 : Int32) {Φ : St → Int64 → Prop} (h : w_X4_number st p1 p2 Φ) : Ct θ l yX4_number (ws_ yX4_number cX4_number 3 (some Jvm.ClassFile.FieldType.long)) d [.ref (ad θ 175), .int p1, .int p2] st (pL Φ, noX) := by
  refine Ct_entry hl0 e_X4_number (Nat.le_of_ble_eq_true rfl) (fun κ hκ _ C => ?_)
  have hn : ∀ st r, Φ st r → ((pL Φ, noX) : Ph).1 st (some (.long r)) := fun st r q => ⟨r, rfl, q⟩
  change X _ _ _ _ _ [(0, .ref (ad θ 175)), (1, .int p1), (2, .int p2)] _
  unfold w_X4_number at h
  refine X_iload_n C dX4_number_0 rfl 1 rfl ?_
  refine X_callS (As := [_]) (rest := []) C q1973 q1974 q136 q1975 nm_X4_isSheet rfl dX4_number_1 (m_X4_isSheet (Cx_l C) hX (d := d - 1) (by omega) st p1 h) (by omega) (by decide) (Nat.le_of_ble_eq_true rfl) (fun s7 w2 hE3 hP4 => ?_) (fun s8 E5 q6 hE3 hP4 => ?_)
  rotate_left
  · exact False.elim hP4
  obtain ⟨r1, rfl, rfl, h⟩ := hP4
  refine X_tls ?_
  refine X_if_ne (tgt := 13) C dX4_number_4 (by decide) (fun c9 => ?_) (fun c9 => ?_)
  · have h := h.1 c9
    refine X_aload_n C dX4_number_13 rfl 0 rfl (isRV_r _) ?_
    refine X_iload_n C dX4_number_14 rfl 1 rfl ?_
    refine X_iload_n C dX4_number_15 rfl 2 rfl ?_
    refine X_callVS (ci := 4) (q := (RX4, TX4, 54)) (As := [_, _]) (rest := []) C rfl (LX_S hX (k := 175) rfl) q2398 q2400 qs130 q136 q2401 ⟨rfl, nm_X4_isLost⟩ rfl dX4_number_16 (m_X4_isLost (Cx_l C) hX (d := d - 1) (by omega) st p1 p2 h) (by omega) (by decide) (Nat.le_of_ble_eq_true rfl) (fun s16 w11 hE12 hP13 => ?_) (fun s17 E14 q15 hE12 hP13 => ?_)
    rotate_left
    · exact False.elim hP13
    obtain ⟨r10, rfl, rfl, h⟩ := hP13
    refine X_tls ?_
    refine X_if_eq (tgt := 31) C dX4_number_19 (by decide) (fun c18 => ?_) (fun c18 => ?_)
    · have h := h.1 c18
      refine X_aload_n C dX4_number_31 rfl 0 rfl (isRV_r _) ?_
      refine X_iload_n C dX4_number_32 rfl 1 rfl ?_
      refine X_iload_n C dX4_number_33 rfl 2 rfl ?_
      refine X_callVS (ci := 4) (q := (RX4, TX4, 54)) (As := [_, _]) (rest := []) C rfl (LX_S hX (k := 175) rfl) q1980 q1982 qs66 q136 q1983 ⟨rfl, nm_X4_numberAt⟩ rfl dX4_number_34 (m_X4_numberAt (Cx_l C) hX (d := d - 1) (by omega) st p1 p2 h) (by omega) (by decide) (Nat.le_of_ble_eq_true rfl) (fun s25 w20 hE21 hP22 => ?_) (fun s26 E23 q24 hE21 hP22 => ?_)
      rotate_left
      · exact False.elim hP22
      obtain ⟨r19, rfl, rfl, h⟩ := hP22
      refine X_tls ?_
      exact X_lret C rfl dX4_number_37 (hn st _ h)
    · have h := h.2 c18
      refine X_aload_n C dX4_number_22 rfl 0 rfl (isRV_r _) ?_
      refine X_bipush (v := 8) C dX4_number_23 rfl ?_
      refine X_callVS (ci := 4) (q := (RX4, TX4, 54)) (As := [_]) (rest := []) C rfl (LX_S hX (k := 175) rfl) q2033 q2035 qs72 q136 q2036 ⟨rfl, nm_X4_findsFar⟩ rfl dX4_number_25 (m_X4_findsFar (Cx_l C) hX (d := d - 1) (by omega) st 8 h) (by omega) (by decide) (Nat.le_of_ble_eq_true rfl) (fun s28 w29 hE30 hP31 => ?_) (fun s34 E32 q33 hE30 hP31 => ?_)
      rotate_left
      · exact False.elim hP31
      obtain ⟨r27, rfl, h⟩ := hP31
      refine X_tls ?_
      refine X_goto (tgt := 37) C dX4_number_28 (by decide) ?_
      exact X_lret C rfl dX4_number_37 (hn s28 _ h)
  · have h := h.2 c9
    refine X_aload_n C dX4_number_7 rfl 0 rfl (isRV_r _) ?_
    refine X_iconst (v := 1) C dX4_number_8 rfl ?_
    refine X_callVS (ci := 4) (q := (RX4, TX4, 54)) (As := [_]) (rest := []) C rfl (LX_S hX (k := 175) rfl) q2033 q2035 qs72 q136 q2036 ⟨rfl, nm_X4_findsFar⟩ rfl dX4_number_9 (m_X4_findsFar (Cx_l C) hX (d := d - 1) (by omega) st 1 h) (by omega) (by decide) (Nat.le_of_ble_eq_true rfl) (fun s36 w37 hE38 hP39 => ?_) (fun s42 E40 q41 hE38 hP39 => ?_)
    rotate_left
    · exact False.elim hP39
    obtain ⟨r35, rfl, h⟩ := hP39
    refine X_tls ?_
    exact X_lret C rfl dX4_number_12 (hn s36 _ h)

def w_X4_seed (st : St) (p1 : Int32) (Φ : St → Int32 → Prop) : Prop := ∀ v1 : Int32, v1 = (sI st 177 96) → ∀ s3, s3 = putI st 177 96 p1 → Φ s3 v1
theorem nm_X4_seed : yX4_seed.cls ≠ "java/lang/invoke/MethodHandle" ∧ yX4_seed.cls ≠ "java/lang/invoke/VarHandle" ∧ (parseMethodDescriptor yX4_seed.desc).map (fun d => d.parameters.length) = some 1 := by decide +kernel
theorem e_X4_seed : plainFor yX4_seed = true := plainFor_of_name (by decide +kernel)
theorem m_X4_seed {θ : Th} {l : Launch} (hl0 : l.stackTraces = false) (hX : LX θ) {d : Nat} (hd : 0 ≤ d) (st : St) (p1 : Int32) {Φ : St → Int32 → Prop} (h : w_X4_seed st p1 Φ) : Ct θ l yX4_seed (ws_ yX4_seed cX4_seed 3 (some Jvm.ClassFile.FieldType.int)) d [.ref (ad θ 175), .int p1] st (pI Φ, noX) := by
  refine Ct_entry hl0 e_X4_seed (Nat.le_of_ble_eq_true rfl) (fun κ hκ _ C => ?_)
  have hn : ∀ st r, Φ st r → ((pI Φ, noX) : Ph).1 st (some (.int r)) := fun st r q => ⟨r, rfl, q⟩
  change X _ _ _ _ _ [(0, .ref (ad θ 175)), (1, .int p1)] _
  unfold w_X4_seed at h
  refine X_aload_n C dX4_seed_0 rfl 0 rfl (isRV_r _) ?_
  refine X_getF (ci := 4) (j := 1) (q := (RX4, TX4, 54)) C rfl (by decide) q1767 rfl dX4_seed_1 (b := 177) (LX_S hX (k := 175) rfl) (LX_F hX (k := 175) (j := 1) rfl) rfl ?_
  refine X_bipush (v := 96) C dX4_seed_4 rfl ?_
  refine X_ialdS C (LX_S hX (k := 177) rfl) (LX_L hX (k := 177) rfl) (vp_dec rfl) rfl dX4_seed_6 ?_
  refine X_topi (fun v1 e2 => ?_)
  have h := h v1 e2
  refine X_istore_n C dX4_seed_7 rfl (lo2 := [(2, _), (0, _), (1, _)]) (by decide) rfl ?_
  refine X_aload_n C dX4_seed_8 rfl 1 rfl (isRV_r _) ?_
  refine X_getF (ci := 4) (j := 1) (q := (RX4, TX4, 54)) C rfl (by decide) q1767 rfl dX4_seed_9 (b := 177) (LX_S hX (k := 175) rfl) (LX_F hX (k := 175) (j := 1) rfl) rfl ?_
  refine X_bipush (v := 96) C dX4_seed_12 rfl ?_
  refine X_iload_n C dX4_seed_14 rfl 2 rfl ?_
  refine X_iastS C (LX_S hX (k := 177) rfl) (LX_L hX (k := 177) rfl) (vp_dec rfl) rfl dX4_seed_15 ?_
  refine X_nm (fun s3 e4 => ?_)
  have h := h s3 e4
  refine X_iload_n C dX4_seed_16 rfl 0 rfl ?_
  exact X_iret C rfl dX4_seed_17 (hn s3 _ h)

def w_X4_image (st : St) (Φ : St → Int32 → Prop) : Prop := w_X4_move st 177 178 (fun (s8 : St) => ∀ s15, s15 = putI s8 175 4 ((sI s8 175 4) + 1) → Φ s15 (sI s15 175 4))
theorem nm_X4_image : yX4_image.cls ≠ "java/lang/invoke/MethodHandle" ∧ yX4_image.cls ≠ "java/lang/invoke/VarHandle" ∧ (parseMethodDescriptor yX4_image.desc).map (fun d => d.parameters.length) = some 0 := by decide +kernel
theorem e_X4_image : plainFor yX4_image = true := plainFor_of_name (by decide +kernel)
theorem m_X4_image {θ : Th} {l : Launch} (hl0 : l.stackTraces = false) (hX : LX θ) {d : Nat} (hd : 1 ≤ d) (st : St) {Φ : St → Int32 → Prop} (h : w_X4_image st Φ) : Ct θ l yX4_image (ws_ yX4_image cX4_image 1 (some Jvm.ClassFile.FieldType.int)) d [.ref (ad θ 175)] st (pI Φ, noX) := by
  refine Ct_entry hl0 e_X4_image (Nat.le_of_ble_eq_true rfl) (fun κ hκ _ C => ?_)
  have hn : ∀ st r, Φ st r → ((pI Φ, noX) : Ph).1 st (some (.int r)) := fun st r q => ⟨r, rfl, q⟩
  change X _ _ _ _ _ [(0, .ref (ad θ 175))] _
  unfold w_X4_image at h
  refine X_aload_n C dX4_image_0 rfl 0 rfl (isRV_r _) ?_
  refine X_getF (ci := 4) (j := 1) (q := (RX4, TX4, 54)) C rfl (by decide) q1767 rfl dX4_image_1 (b := 177) (LX_S hX (k := 175) rfl) (LX_F hX (k := 175) (j := 1) rfl) rfl ?_
  refine X_aload_n C dX4_image_4 rfl 0 rfl (isRV_r _) ?_
  refine X_getF (ci := 4) (j := 2) (q := (RX4, TX4, 54)) C rfl (by decide) q1768 rfl dX4_image_5 (b := 178) (LX_S hX (k := 175) rfl) (LX_F hX (k := 175) (j := 2) rfl) rfl ?_
  refine X_shl (LX_S hX (k := 177) rfl) (by decide) (LX_L hX (k := 177) rfl) (fun hs1 hl3 hb2 => ?_)
  refine X_shl (LX_S hX (k := 178) rfl) (by decide) (LX_L hX (k := 178) rfl) (fun hs4 hl6 hb5 => ?_)
  refine X_callS (As := [_, _]) (rest := []) C q2222 q2223 q136 q2224 nm_X4_move rfl dX4_image_8 (m_X4_move (Cx_l C) hX (d := d - 1) (by omega) st 177 178 hs1 hb2 hl3 hs4 hb5 hl6 h) (by omega) (by decide) (Nat.le_of_ble_eq_true rfl) (fun s8 w9 hE10 hP11 => ?_) (fun s14 E12 q13 hE10 hP11 => ?_)
  rotate_left
  · exact False.elim hP11
  obtain ⟨rfl, h⟩ := hP11
  refine X_tln ?_
  refine X_aload_n C dX4_image_11 rfl 0 rfl (isRV_r _) ?_
  refine X_dup C dX4_image_12 rfl ?_
  refine X_getS (ci := 4) (j := 4) (q := (RX4, TX4, 54)) C rfl (by decide) q1770 rfl dX4_image_13 (LX_S hX (k := 175) rfl) (v := .int (sI s8 175 4)) rfl ?_
  refine X_iconst (v := 1) C dX4_image_16 rfl ?_
  refine X_iadd C dX4_image_17 ?_
  refine X_putSI (ci := 4) (j := 4) (q := (RX4, TX4, 54)) C rfl (by decide) q1770 rfl rfl dX4_image_18 (LX_S hX (k := 175) rfl) rfl rfl rfl ?_
  refine X_nm (fun s15 e16 => ?_)
  have h := h s15 e16
  refine X_aload_n C dX4_image_21 rfl 0 rfl (isRV_r _) ?_
  refine X_getS (ci := 4) (j := 4) (q := (RX4, TX4, 54)) C rfl (by decide) q1770 rfl dX4_image_22 (LX_S hX (k := 175) rfl) (v := .int (sI s15 175 4)) rfl ?_
  exact X_iret C rfl dX4_image_25 (hn s15 _ h)

def w_X4_restore (st : St) (Φ : St → Int32 → Prop) : Prop := (((sI st 175 4) ≠ 0) → w_X4_move st 178 177 (fun (s9 : St) => ∀ s16, s16 = putI s9 175 5 0 → Φ s16 (sI s16 177 0))) ∧ (((sI st 175 4) = 0) → w_X4_finds st 2 (fun (s19 : St) (r18 : Int32) => Φ s19 r18))
theorem nm_X4_restore : yX4_restore.cls ≠ "java/lang/invoke/MethodHandle" ∧ yX4_restore.cls ≠ "java/lang/invoke/VarHandle" ∧ (parseMethodDescriptor yX4_restore.desc).map (fun d => d.parameters.length) = some 0 := by decide +kernel
theorem e_X4_restore : plainFor yX4_restore = true := plainFor_of_name (by decide +kernel)
theorem m_X4_restore {θ : Th} {l : Launch} (hl0 : l.stackTraces = false) (hX : LX θ) {d : Nat} (hd : 1 ≤ d) (st : St) {Φ : St → Int32 → Prop} (h : w_X4_restore st Φ) : Ct θ l yX4_restore (ws_ yX4_restore cX4_restore 1 (some Jvm.ClassFile.FieldType.int)) d [.ref (ad θ 175)] st (pI Φ, noX) := by
  refine Ct_entry hl0 e_X4_restore (Nat.le_of_ble_eq_true rfl) (fun κ hκ _ C => ?_)
  have hn : ∀ st r, Φ st r → ((pI Φ, noX) : Ph).1 st (some (.int r)) := fun st r q => ⟨r, rfl, q⟩
  change X _ _ _ _ _ [(0, .ref (ad θ 175))] _
  unfold w_X4_restore at h
  refine X_aload_n C dX4_restore_0 rfl 0 rfl (isRV_r _) ?_
  refine X_getS (ci := 4) (j := 4) (q := (RX4, TX4, 54)) C rfl (by decide) q1770 rfl dX4_restore_1 (LX_S hX (k := 175) rfl) (v := .int (sI st 175 4)) rfl ?_
  refine X_if_ne (tgt := 13) C dX4_restore_4 (by decide) (fun c1 => ?_) (fun c1 => ?_)
  · have h := h.1 c1
    refine X_aload_n C dX4_restore_13 rfl 0 rfl (isRV_r _) ?_
    refine X_getF (ci := 4) (j := 2) (q := (RX4, TX4, 54)) C rfl (by decide) q1768 rfl dX4_restore_14 (b := 178) (LX_S hX (k := 175) rfl) (LX_F hX (k := 175) (j := 2) rfl) rfl ?_
    refine X_aload_n C dX4_restore_17 rfl 0 rfl (isRV_r _) ?_
    refine X_getF (ci := 4) (j := 1) (q := (RX4, TX4, 54)) C rfl (by decide) q1767 rfl dX4_restore_18 (b := 177) (LX_S hX (k := 175) rfl) (LX_F hX (k := 175) (j := 1) rfl) rfl ?_
    refine X_shl (LX_S hX (k := 178) rfl) (by decide) (LX_L hX (k := 178) rfl) (fun hs2 hl4 hb3 => ?_)
    refine X_shl (LX_S hX (k := 177) rfl) (by decide) (LX_L hX (k := 177) rfl) (fun hs5 hl7 hb6 => ?_)
    refine X_callS (As := [_, _]) (rest := []) C q2222 q2223 q136 q2224 nm_X4_move rfl dX4_restore_21 (m_X4_move (Cx_l C) hX (d := d - 1) (by omega) st 178 177 hs2 hb3 hl4 hs5 hb6 hl7 h) (by omega) (by decide) (Nat.le_of_ble_eq_true rfl) (fun s9 w10 hE11 hP12 => ?_) (fun s15 E13 q14 hE11 hP12 => ?_)
    rotate_left
    · exact False.elim hP12
    obtain ⟨rfl, h⟩ := hP12
    refine X_tln ?_
    refine X_aload_n C dX4_restore_24 rfl 0 rfl (isRV_r _) ?_
    refine X_iconst (v := 0) C dX4_restore_25 rfl ?_
    refine X_putSI (ci := 4) (j := 5) (q := (RX4, TX4, 54)) C rfl (by decide) q1771 rfl rfl dX4_restore_26 (LX_S hX (k := 175) rfl) rfl rfl rfl ?_
    refine X_nm (fun s16 e17 => ?_)
    have h := h s16 e17
    refine X_aload_n C dX4_restore_29 rfl 0 rfl (isRV_r _) ?_
    refine X_getF (ci := 4) (j := 1) (q := (RX4, TX4, 54)) C rfl (by decide) q1767 rfl dX4_restore_30 (b := 177) (LX_S hX (k := 175) rfl) (LX_F hX (k := 175) (j := 1) rfl) rfl ?_
    refine X_iconst (v := 0) C dX4_restore_33 rfl ?_
    refine X_ialdS C (LX_S hX (k := 177) rfl) (LX_L hX (k := 177) rfl) (vp_dec rfl) rfl dX4_restore_34 ?_
    exact X_iret C rfl dX4_restore_35 (hn s16 _ h)
  · have h := h.2 c1
    refine X_aload_n C dX4_restore_7 rfl 0 rfl (isRV_r _) ?_
    refine X_iconst (v := 2) C dX4_restore_8 rfl ?_
    refine X_callVS (ci := 4) (q := (RX4, TX4, 54)) (As := [_]) (rest := []) C rfl (LX_S hX (k := 175) rfl) q1939 q1941 qs63 q136 q1942 ⟨rfl, nm_X4_finds⟩ rfl dX4_restore_9 (m_X4_finds (Cx_l C) hX (d := d - 1) (by omega) st 2 h) (by omega) (by decide) (Nat.le_of_ble_eq_true rfl) (fun s19 w20 hE21 hP22 => ?_) (fun s25 E23 q24 hE21 hP22 => ?_)
    rotate_left
    · exact False.elim hP22
    obtain ⟨r18, rfl, h⟩ := hP22
    refine X_tls ?_
    exact X_iret C rfl dX4_restore_12 (hn s19 _ h)

def w_X4_count (st : St) (p1 : Int32) (Φ : St → Int32 → Prop) : Prop := (p1 = 0 → Φ st (sI st 177 0)) ∧ (p1 = 1 → Φ st (sI st 177 1)) ∧ (p1 = 2 → Φ st (sI st 177 2)) ∧ (p1 = 3 → Φ st (sI st 177 3)) ∧ (p1 = 4 → Φ st (sI st 177 31)) ∧ (p1 = 5 → Φ st (sI st 175 10)) ∧ (p1 = 6 → Φ st (sI st 175 13)) ∧ (p1 = 7 → Φ st (sI st 177 96)) ∧ (p1.toInt < 0 ∨ 7 < p1.toInt → w_X4_finds st 1 (fun (s10 : St) (r9 : Int32) => Φ s10 r9))
theorem nm_X4_count : yX4_count.cls ≠ "java/lang/invoke/MethodHandle" ∧ yX4_count.cls ≠ "java/lang/invoke/VarHandle" ∧ (parseMethodDescriptor yX4_count.desc).map (fun d => d.parameters.length) = some 1 := by decide +kernel
theorem e_X4_count : plainFor yX4_count = true := plainFor_of_name (by decide +kernel)
theorem m_X4_count {θ : Th} {l : Launch} (hl0 : l.stackTraces = false) (hX : LX θ) {d : Nat} (hd : 1 ≤ d) (st : St) (p1 : Int32) {Φ : St → Int32 → Prop} (h : w_X4_count st p1 Φ) : Ct θ l yX4_count (ws_ yX4_count cX4_count 2 (some Jvm.ClassFile.FieldType.int)) d [.ref (ad θ 175), .int p1] st (pI Φ, noX) := by
  refine Ct_entry hl0 e_X4_count (Nat.le_of_ble_eq_true rfl) (fun κ hκ _ C => ?_)
  have hn : ∀ st r, Φ st r → ((pI Φ, noX) : Ph).1 st (some (.int r)) := fun st r q => ⟨r, rfl, q⟩
  change X _ _ _ _ _ [(0, .ref (ad θ 175)), (1, .int p1)] _
  unfold w_X4_count at h
  refine X_iload_n C dX4_count_0 rfl 1 rfl ?_
  by_cases c1 : p1 = 0
  · have h := h.1 c1
    refine X_tableIn (tgt := 48) C dX4_count_1 (by rw [c1]; decide) (by rw [c1]; decide) (off := 47) (by rw [c1]; rfl) (by decide) ?_
    refine X_aload_n C dX4_count_48 rfl 0 rfl (isRV_r _) ?_
    refine X_getF (ci := 4) (j := 1) (q := (RX4, TX4, 54)) C rfl (by decide) q1767 rfl dX4_count_49 (b := 177) (LX_S hX (k := 175) rfl) (LX_F hX (k := 175) (j := 1) rfl) rfl ?_
    refine X_iconst (v := 0) C dX4_count_52 rfl ?_
    refine X_ialdS C (LX_S hX (k := 177) rfl) (LX_L hX (k := 177) rfl) (vp_dec rfl) rfl dX4_count_53 ?_
    exact X_iret C rfl dX4_count_54 (hn st _ h)
  have h := h.2
  by_cases c2 : p1 = 1
  · have h := h.1 c2
    refine X_tableIn (tgt := 55) C dX4_count_1 (by rw [c2]; decide) (by rw [c2]; decide) (off := 54) (by rw [c2]; rfl) (by decide) ?_
    refine X_aload_n C dX4_count_55 rfl 0 rfl (isRV_r _) ?_
    refine X_getF (ci := 4) (j := 1) (q := (RX4, TX4, 54)) C rfl (by decide) q1767 rfl dX4_count_56 (b := 177) (LX_S hX (k := 175) rfl) (LX_F hX (k := 175) (j := 1) rfl) rfl ?_
    refine X_iconst (v := 1) C dX4_count_59 rfl ?_
    refine X_ialdS C (LX_S hX (k := 177) rfl) (LX_L hX (k := 177) rfl) (vp_dec rfl) rfl dX4_count_60 ?_
    exact X_iret C rfl dX4_count_61 (hn st _ h)
  have h := h.2
  by_cases c3 : p1 = 2
  · have h := h.1 c3
    refine X_tableIn (tgt := 62) C dX4_count_1 (by rw [c3]; decide) (by rw [c3]; decide) (off := 61) (by rw [c3]; rfl) (by decide) ?_
    refine X_aload_n C dX4_count_62 rfl 0 rfl (isRV_r _) ?_
    refine X_getF (ci := 4) (j := 1) (q := (RX4, TX4, 54)) C rfl (by decide) q1767 rfl dX4_count_63 (b := 177) (LX_S hX (k := 175) rfl) (LX_F hX (k := 175) (j := 1) rfl) rfl ?_
    refine X_iconst (v := 2) C dX4_count_66 rfl ?_
    refine X_ialdS C (LX_S hX (k := 177) rfl) (LX_L hX (k := 177) rfl) (vp_dec rfl) rfl dX4_count_67 ?_
    exact X_iret C rfl dX4_count_68 (hn st _ h)
  have h := h.2
  by_cases c4 : p1 = 3
  · have h := h.1 c4
    refine X_tableIn (tgt := 69) C dX4_count_1 (by rw [c4]; decide) (by rw [c4]; decide) (off := 68) (by rw [c4]; rfl) (by decide) ?_
    refine X_aload_n C dX4_count_69 rfl 0 rfl (isRV_r _) ?_
    refine X_getF (ci := 4) (j := 1) (q := (RX4, TX4, 54)) C rfl (by decide) q1767 rfl dX4_count_70 (b := 177) (LX_S hX (k := 175) rfl) (LX_F hX (k := 175) (j := 1) rfl) rfl ?_
    refine X_iconst (v := 3) C dX4_count_73 rfl ?_
    refine X_ialdS C (LX_S hX (k := 177) rfl) (LX_L hX (k := 177) rfl) (vp_dec rfl) rfl dX4_count_74 ?_
    exact X_iret C rfl dX4_count_75 (hn st _ h)
  have h := h.2
  by_cases c5 : p1 = 4
  · have h := h.1 c5
    refine X_tableIn (tgt := 76) C dX4_count_1 (by rw [c5]; decide) (by rw [c5]; decide) (off := 75) (by rw [c5]; rfl) (by decide) ?_
    refine X_aload_n C dX4_count_76 rfl 0 rfl (isRV_r _) ?_
    refine X_getF (ci := 4) (j := 1) (q := (RX4, TX4, 54)) C rfl (by decide) q1767 rfl dX4_count_77 (b := 177) (LX_S hX (k := 175) rfl) (LX_F hX (k := 175) (j := 1) rfl) rfl ?_
    refine X_bipush (v := 31) C dX4_count_80 rfl ?_
    refine X_ialdS C (LX_S hX (k := 177) rfl) (LX_L hX (k := 177) rfl) (vp_dec rfl) rfl dX4_count_82 ?_
    exact X_iret C rfl dX4_count_83 (hn st _ h)
  have h := h.2
  by_cases c6 : p1 = 5
  · have h := h.1 c6
    refine X_tableIn (tgt := 84) C dX4_count_1 (by rw [c6]; decide) (by rw [c6]; decide) (off := 83) (by rw [c6]; rfl) (by decide) ?_
    refine X_aload_n C dX4_count_84 rfl 0 rfl (isRV_r _) ?_
    refine X_getS (ci := 4) (j := 10) (q := (RX4, TX4, 54)) C rfl (by decide) q1776 rfl dX4_count_85 (LX_S hX (k := 175) rfl) (v := .int (sI st 175 10)) rfl ?_
    exact X_iret C rfl dX4_count_88 (hn st _ h)
  have h := h.2
  by_cases c7 : p1 = 6
  · have h := h.1 c7
    refine X_tableIn (tgt := 89) C dX4_count_1 (by rw [c7]; decide) (by rw [c7]; decide) (off := 88) (by rw [c7]; rfl) (by decide) ?_
    refine X_aload_n C dX4_count_89 rfl 0 rfl (isRV_r _) ?_
    refine X_getS (ci := 4) (j := 13) (q := (RX4, TX4, 54)) C rfl (by decide) q1779 rfl dX4_count_90 (LX_S hX (k := 175) rfl) (v := .int (sI st 175 13)) rfl ?_
    exact X_iret C rfl dX4_count_93 (hn st _ h)
  have h := h.2
  by_cases c8 : p1 = 7
  · have h := h.1 c8
    refine X_tableIn (tgt := 94) C dX4_count_1 (by rw [c8]; decide) (by rw [c8]; decide) (off := 93) (by rw [c8]; rfl) (by decide) ?_
    refine X_aload_n C dX4_count_94 rfl 0 rfl (isRV_r _) ?_
    refine X_getF (ci := 4) (j := 1) (q := (RX4, TX4, 54)) C rfl (by decide) q1767 rfl dX4_count_95 (b := 177) (LX_S hX (k := 175) rfl) (LX_F hX (k := 175) (j := 1) rfl) rfl ?_
    refine X_bipush (v := 96) C dX4_count_98 rfl ?_
    refine X_ialdS C (LX_S hX (k := 177) rfl) (LX_L hX (k := 177) rfl) (vp_dec rfl) rfl dX4_count_100 ?_
    exact X_iret C rfl dX4_count_101 (hn st _ h)
  have h := h.2
  have c17 : p1.toInt < 0 ∨ 7 < p1.toInt := by
    have qc1 := ne_toInt c1
    have qc2 := ne_toInt c2
    have qc3 := ne_toInt c3
    have qc4 := ne_toInt c4
    have qc5 := ne_toInt c5
    have qc6 := ne_toInt c6
    have qc7 := ne_toInt c7
    have qc8 := ne_toInt c8
    simp only [Int32.reduceToInt] at qc1 qc2 qc3 qc4 qc5 qc6 qc7 qc8
    omega
  refine X_tableOut (tgt := 102) C dX4_count_1 c17 (by decide) ?_
  have h := h c17
  refine X_aload_n C dX4_count_102 rfl 0 rfl (isRV_r _) ?_
  refine X_iconst (v := 1) C dX4_count_103 rfl ?_
  refine X_callVS (ci := 4) (q := (RX4, TX4, 54)) (As := [_]) (rest := []) C rfl (LX_S hX (k := 175) rfl) q1939 q1941 qs63 q136 q1942 ⟨rfl, nm_X4_finds⟩ rfl dX4_count_104 (m_X4_finds (Cx_l C) hX (d := d - 1) (by omega) st 1 h) (by omega) (by decide) (Nat.le_of_ble_eq_true rfl) (fun s10 w11 hE12 hP13 => ?_) (fun s16 E14 q15 hE12 hP13 => ?_)
  rotate_left
  · exact False.elim hP13
  obtain ⟨r9, rfl, h⟩ := hP13
  refine X_tls ?_
  exact X_iret C rfl dX4_count_107 (hn s10 _ h)

def w_X4_told (st : St) (p1 : Int32) (Φ : St → Int32 → Prop) : Prop := w_X4_isIn p1.toInt64 1 8 (fun (r1 : Int32) => ((r1 = 0) → w_X4_finds st 1 (fun (s11 : St) (r10 : Int32) => Φ s11 r10)) ∧ ((¬ r1 = 0) → vp_in p1 9 ∧ Φ st (sI st 176 p1.toNatClampNeg)))
theorem nm_X4_told : yX4_told.cls ≠ "java/lang/invoke/MethodHandle" ∧ yX4_told.cls ≠ "java/lang/invoke/VarHandle" ∧ (parseMethodDescriptor yX4_told.desc).map (fun d => d.parameters.length) = some 1 := by decide +kernel
theorem e_X4_told : plainFor yX4_told = true := plainFor_of_name (by decide +kernel)
theorem m_X4_told {θ : Th} {l : Launch} (hl0 : l.stackTraces = false) (hX : LX θ) {d : Nat} (hd : 1 ≤ d) (st : St) (p1 : Int32) {Φ : St → Int32 → Prop} (h : w_X4_told st p1 Φ) : Ct θ l yX4_told (ws_ yX4_told cX4_told 2 (some Jvm.ClassFile.FieldType.int)) d [.ref (ad θ 175), .int p1] st (pI Φ, noX) := by
  refine Ct_entry hl0 e_X4_told (Nat.le_of_ble_eq_true rfl) (fun κ hκ _ C => ?_)
  have hn : ∀ st r, Φ st r → ((pI Φ, noX) : Ph).1 st (some (.int r)) := fun st r q => ⟨r, rfl, q⟩
  change X _ _ _ _ _ [(0, .ref (ad θ 175)), (1, .int p1)] _
  unfold w_X4_told at h
  refine X_iload_n C dX4_told_0 rfl 1 rfl ?_
  refine X_i2l C dX4_told_1 ?_
  refine X_lconst (v := 1) C dX4_told_2 rfl ?_
  refine X_ldc2 C q2426 dX4_told_3 ?_
  refine X_callS (As := [_, _, _]) (rest := []) C q1936 q1937 q136 q1938 nm_X4_isIn rfl dX4_told_6 (m_X4_isIn (Cx_l C) hX (d := d - 1) (by omega) st p1.toInt64 1 8 h) (by omega) (by decide) (Nat.le_of_ble_eq_true rfl) (fun s7 w2 hE3 hP4 => ?_) (fun s8 E5 q6 hE3 hP4 => ?_)
  rotate_left
  · exact False.elim hP4
  obtain ⟨r1, rfl, rfl, h⟩ := hP4
  refine X_tls ?_
  refine X_if_eq (tgt := 21) C dX4_told_9 (by decide) (fun c9 => ?_) (fun c9 => ?_)
  · have h := h.1 c9
    refine X_aload_n C dX4_told_21 rfl 0 rfl (isRV_r _) ?_
    refine X_iconst (v := 1) C dX4_told_22 rfl ?_
    refine X_callVS (ci := 4) (q := (RX4, TX4, 54)) (As := [_]) (rest := []) C rfl (LX_S hX (k := 175) rfl) q1939 q1941 qs63 q136 q1942 ⟨rfl, nm_X4_finds⟩ rfl dX4_told_23 (m_X4_finds (Cx_l C) hX (d := d - 1) (by omega) st 1 h) (by omega) (by decide) (Nat.le_of_ble_eq_true rfl) (fun s11 w12 hE13 hP14 => ?_) (fun s17 E15 q16 hE13 hP14 => ?_)
    rotate_left
    · exact False.elim hP14
    obtain ⟨r10, rfl, h⟩ := hP14
    refine X_tls ?_
    exact X_iret C rfl dX4_told_26 (hn s11 _ h)
  · have h := h.2 c9
    refine X_aload_n C dX4_told_12 rfl 0 rfl (isRV_r _) ?_
    refine X_getF (ci := 4) (j := 0) (q := (RX4, TX4, 54)) C rfl (by decide) q1766 rfl dX4_told_13 (b := 176) (LX_S hX (k := 175) rfl) (LX_F hX (k := 175) (j := 0) rfl) rfl ?_
    refine X_iload_n C dX4_told_16 rfl 1 rfl ?_
    have g18 := h.1
    have h := h.2
    refine X_ialdS C (LX_S hX (k := 176) rfl) (LX_L hX (k := 176) rfl) g18 rfl dX4_told_17 ?_
    refine X_goto (tgt := 26) C dX4_told_18 (by decide) ?_
    exact X_iret C rfl dX4_told_26 (hn st _ h)
