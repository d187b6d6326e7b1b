set_option maxRecDepth 100000
def w_X1_pointc (st : St) (a0 : Nat) (p1 : Int32) (p2 : Int32) (p3 : Int32) (Φ : St → Prop) : Prop := ∃ r1, (sR st a0 8) = some r1 ∧ r1 < gBIG ∧ sh st r1 = 111 ∧ vp_in (sI st a0 9) (ln st r1) ∧ ∃ r6, (sR st r1 (sI st a0 9).toNatClampNeg) = some r6 ∧ r6 < gBIG ∧ sh st r6 = 101 ∧ vp_in (0 : Int32) (ln st r6) ∧ ∀ s11, s11 = putI st r6 ((0 : Int32).toNatClampNeg) p1 → ∃ r13, (sR s11 a0 8) = some r13 ∧ r13 < gBIG ∧ sh s11 r13 = 111 ∧ vp_in (sI s11 a0 9) (ln s11 r13) ∧ ∃ r18, (sR s11 r13 (sI s11 a0 9).toNatClampNeg) = some r18 ∧ r18 < gBIG ∧ sh s11 r18 = 101 ∧ vp_in (1 : Int32) (ln s11 r18) ∧ ∀ s23, s23 = putI s11 r18 ((1 : Int32).toNatClampNeg) p2 → ∃ r25, (sR s23 a0 8) = some r25 ∧ r25 < gBIG ∧ sh s23 r25 = 111 ∧ vp_in (sI s23 a0 9) (ln s23 r25) ∧ ∃ r30, (sR s23 r25 (sI s23 a0 9).toNatClampNeg) = some r30 ∧ r30 < gBIG ∧ sh s23 r30 = 101 ∧ vp_in (2 : Int32) (ln s23 r30) ∧ ∀ s35, s35 = putI s23 r30 ((2 : Int32).toNatClampNeg) p3 → ∀ s37, s37 = putI s35 a0 9 ((sI s35 a0 9) + 1) → Φ s37
theorem e_X1_pointc : plainFor yX1_point = true := plainFor_of_name (by decide +kernel)
theorem m_X1_pointc {θ : Th} {l : Launch} (hl0 : l.stackTraces = false) (h0 : L0 θ) {d : Nat} (hd : 0 ≤ d) (st : St) (a0 : Nat) (p1 : Int32) (p2 : Int32) (p3 : Int32) (hs_a0 : sh st a0 = 2) (hb_a0 : a0 < gBIG) {Φ : St → Prop} (h : w_X1_pointc st a0 p1 p2 p3 Φ) : Ct θ l yX1_point (ws_ yX1_point cX1_point 4 (none : Option Jvm.ClassFile.FieldType)) d [.ref (ad θ a0), .int p1, .int p2, .int p3] st (pV Φ, noX) := by
  refine Ct_entry hl0 e_X1_pointc (Nat.le_of_ble_eq_true rfl) (fun κ hκ _ C => ?_)
  have hn : ∀ st, Φ st → ((pV Φ, noX) : Ph).1 st none := fun st q => ⟨rfl, q⟩
  change X _ _ _ _ _ [(0, .ref (ad θ a0)), (1, .int p1), (2, .int p2), (3, .int p3)] _
  unfold w_X1_pointc at h
  refine X_aload_n C dX1_point_0 rfl 0 rfl (isRV_r _) ?_
  refine X_get (ci := 1) (j := 8) (q := (RX1, TX1, 10)) C rfl (by decide) q204 rfl dX1_point_1 hs_a0 (v := rv θ (sR st a0 8)) rfl ?_
  obtain ⟨r1, q2, hb4, hs3, h⟩ := h
  rw [q2]
  refine X_tor ?_
  refine X_aload_n C dX1_point_4 rfl 0 rfl (isRV_r _) ?_
  refine X_get (ci := 1) (j := 9) (q := (RX1, TX1, 10)) C rfl (by decide) q206 rfl dX1_point_5 hs_a0 (v := .int (sI st a0 9)) rfl ?_
  have g5 := h.1
  have h := h.2
  refine X_aaldD (t := 111) C 6 rfl hs3 (by decide) rfl rfl g5 rfl rfl dX1_point_8 ?_
  obtain ⟨r6, q7, hb9, hs8, h⟩ := h
  rw [q7]
  refine X_tor ?_
  refine X_iconst (v := 0) C dX1_point_9 rfl ?_
  refine X_iload_n C dX1_point_10 rfl 1 rfl ?_
  have g10 := h.1
  have h := h.2
  refine X_iastD C hb9 hs8 rfl g10 rfl dX1_point_11 ?_
  refine X_nm (fun s11 e12 => ?_)
  have h := h s11 e12
  have hs_a0 : sh s11 a0 = 2 := by rw [e12]; exact hs_a0
  have hs3 : sh s11 r1 = 111 := by rw [e12]; exact hs3
  have hs8 : sh s11 r6 = 101 := by rw [e12]; exact hs8
  refine X_aload_n C dX1_point_12 rfl 0 rfl (isRV_r _) ?_
  refine X_get (ci := 1) (j := 8) (q := (RX1, TX1, 10)) C rfl (by decide) q204 rfl dX1_point_13 hs_a0 (v := rv θ (sR s11 a0 8)) rfl ?_
  obtain ⟨r13, q14, hb16, hs15, h⟩ := h
  rw [q14]
  refine X_tor ?_
  refine X_aload_n C dX1_point_16 rfl 0 rfl (isRV_r _) ?_
  refine X_get (ci := 1) (j := 9) (q := (RX1, TX1, 10)) C rfl (by decide) q206 rfl dX1_point_17 hs_a0 (v := .int (sI s11 a0 9)) rfl ?_
  have g17 := h.1
  have h := h.2
  refine X_aaldD (t := 111) C 6 rfl hs15 (by decide) rfl rfl g17 rfl rfl dX1_point_20 ?_
  obtain ⟨r18, q19, hb21, hs20, h⟩ := h
  rw [q19]
  refine X_tor ?_
  refine X_iconst (v := 1) C dX1_point_21 rfl ?_
  refine X_iload_n C dX1_point_22 rfl 2 rfl ?_
  have g22 := h.1
  have h := h.2
  refine X_iastD C hb21 hs20 rfl g22 rfl dX1_point_23 ?_
  refine X_nm (fun s23 e24 => ?_)
  have h := h s23 e24
  have hs_a0 : sh s23 a0 = 2 := by rw [e24]; exact hs_a0
  have hs3 : sh s23 r1 = 111 := by rw [e24]; exact hs3
  have hs8 : sh s23 r6 = 101 := by rw [e24]; exact hs8
  have hs15 : sh s23 r13 = 111 := by rw [e24]; exact hs15
  have hs20 : sh s23 r18 = 101 := by rw [e24]; exact hs20
  refine X_aload_n C dX1_point_24 rfl 0 rfl (isRV_r _) ?_
  refine X_get (ci := 1) (j := 8) (q := (RX1, TX1, 10)) C rfl (by decide) q204 rfl dX1_point_25 hs_a0 (v := rv θ (sR s23 a0 8)) rfl ?_
  obtain ⟨r25, q26, hb28, hs27, h⟩ := h
  rw [q26]
  refine X_tor ?_
  refine X_aload_n C dX1_point_28 rfl 0 rfl (isRV_r _) ?_
  refine X_get (ci := 1) (j := 9) (q := (RX1, TX1, 10)) C rfl (by decide) q206 rfl dX1_point_29 hs_a0 (v := .int (sI s23 a0 9)) rfl ?_
  have g29 := h.1
  have h := h.2
  refine X_aaldD (t := 111) C 6 rfl hs27 (by decide) rfl rfl g29 rfl rfl dX1_point_32 ?_
  obtain ⟨r30, q31, hb33, hs32, h⟩ := h
  rw [q31]
  refine X_tor ?_
  refine X_iconst (v := 2) C dX1_point_33 rfl ?_
  refine X_iload_n C dX1_point_34 rfl 3 rfl ?_
  have g34 := h.1
  have h := h.2
  refine X_iastD C hb33 hs32 rfl g34 rfl dX1_point_35 ?_
  refine X_nm (fun s35 e36 => ?_)
  have h := h s35 e36
  have hs_a0 : sh s35 a0 = 2 := by rw [e36]; exact hs_a0
  have hs3 : sh s35 r1 = 111 := by rw [e36]; exact hs3
  have hs8 : sh s35 r6 = 101 := by rw [e36]; exact hs8
  have hs15 : sh s35 r13 = 111 := by rw [e36]; exact hs15
  have hs20 : sh s35 r18 = 101 := by rw [e36]; exact hs20
  have hs27 : sh s35 r25 = 111 := by rw [e36]; exact hs27
  have hs32 : sh s35 r30 = 101 := by rw [e36]; exact hs32
  refine X_aload_n C dX1_point_36 rfl 0 rfl (isRV_r _) ?_
  refine X_dup C dX1_point_37 rfl ?_
  refine X_get (ci := 1) (j := 9) (q := (RX1, TX1, 10)) C rfl (by decide) q206 rfl dX1_point_38 hs_a0 (v := .int (sI s35 a0 9)) rfl ?_
  refine X_iconst (v := 1) C dX1_point_41 rfl ?_
  refine X_iadd C dX1_point_42 ?_
  refine X_putI (ci := 1) (j := 9) (q := (RX1, TX1, 10)) C rfl (by decide) q206 rfl rfl dX1_point_43 hb_a0 hs_a0 rfl rfl rfl ?_
  refine X_nm (fun s37 e38 => ?_)
  have h := h s37 e38
  have hs_a0 : sh s37 a0 = 2 := by rw [e38]; exact hs_a0
  have hs3 : sh s37 r1 = 111 := by rw [e38]; exact hs3
  have hs8 : sh s37 r6 = 101 := by rw [e38]; exact hs8
  have hs15 : sh s37 r13 = 111 := by rw [e38]; exact hs15
  have hs20 : sh s37 r18 = 101 := by rw [e38]; exact hs20
  have hs27 : sh s37 r25 = 111 := by rw [e38]; exact hs27
  have hs32 : sh s37 r30 = 101 := by rw [e38]; exact hs32
  exact X_vret C rfl dX1_point_46 (hn s37 h)

def w_X1_laysPointsc_l37 (Φ : St → Prop) (E75 : St → Nat → Int32 → Prop) : Nat → St → Nat → Int32 → Int32 → Prop
  | 0, _, _, _, _ => False
  | n + 1, st, x0, x1, x2 => ((((sI st x0 1) - x1) < x2) → E75 st x0 x1) ∧ ((¬ ((sI st x0 1) - x1) < x2) → (((sI st x0 0) ≠ 3) → E75 st x0 x1) ∧ (((sI st x0 0) = 3) → w_X1_pointc st x0 x1 x2 (((sI st x0 1) - x1) - x2) (fun (s8 : St) => w_X1_laysPointsc_l37 Φ E75 n s8 x0 x1 (x2 + 1))))
theorem t_X1_laysPointsc_l37 {θ : Th} {κ : Kx} {Ph : Ph} (h0 : L0 θ) {d : Nat} (hd : 1 ≤ d) (C : Cx θ κ yX1_laysPoints cX1_laysPoints 3 (none : Option Jvm.ClassFile.FieldType) [] d) {Φ : St → Prop} (hn : ∀ st, Φ st → Ph.1 st none) {E75 : St → Nat → Int32 → Prop} (hE75 : ∀ (st : St) (x0 : Nat) (x1 : Int32), sh st x0 = 2 → x0 < gBIG → E75 st x0 x1 → X θ κ Ph st 75 [(0, .ref (ad θ x0)), (1, .int x1)] []) : ∀ (n : Nat) (st : St) (x0 : Nat) (x1 : Int32) (x2 : Int32), sh st x0 = 2 → x0 < gBIG → w_X1_laysPointsc_l37 Φ E75 n st x0 x1 x2 → X θ κ Ph st 37 [(0, .ref (ad θ x0)), (1, .int x1), (2, .int x2)] [] := by
  intro n
  induction n with
  | zero => intro st x0 x1 x2 hs_x0 hb_x0 h; exact h.elim
  | succ n hK37 =>
    intro st x0 x1 x2 hs_x0 hb_x0 h
    rw [w_X1_laysPointsc_l37] at h
    refine X_iload_n C dX1_laysPoints_37 rfl 2 rfl ?_
    refine X_aload_n C dX1_laysPoints_38 rfl 0 rfl (isRV_r _) ?_
    refine X_get (ci := 1) (j := 1) (q := (RX1, TX1, 10)) C rfl (by decide) q190 rfl dX1_laysPoints_39 hs_x0 (v := .int (sI st x0 1)) rfl ?_
    refine X_iload_n C dX1_laysPoints_42 rfl 1 rfl ?_
    refine X_isub C dX1_laysPoints_43 ?_
    refine X_icmp_gt (tgt := 75) C dX1_laysPoints_44 (by decide) (fun c5 => ?_) (fun c5 => ?_)
    · have h := h.1 c5
      refine X_sub [0, 1] (lo2 := [(0, _), (1, _)]) rfl ?_
      exact hE75 st x0 x1 hs_x0 hb_x0 h
    · have h := h.2 c5
      refine X_aload_n C dX1_laysPoints_47 rfl 0 rfl (isRV_r _) ?_
      refine X_get (ci := 1) (j := 0) (q := (RX1, TX1, 10)) C rfl (by decide) q188 rfl dX1_laysPoints_48 hs_x0 (v := .int (sI st x0 0)) rfl ?_
      refine X_iconst (v := 3) C dX1_laysPoints_51 rfl ?_
      refine X_icmp_ne (tgt := 75) C dX1_laysPoints_52 (by decide) (fun c6 => ?_) (fun c6 => ?_)
      · have h := h.1 c6
        refine X_sub [0, 1] (lo2 := [(0, _), (1, _)]) rfl ?_
        exact hE75 st x0 x1 hs_x0 hb_x0 h
      · have h := h.2 c6
        refine X_aload_n C dX1_laysPoints_55 rfl 0 rfl (isRV_r _) ?_
        refine X_iload_n C dX1_laysPoints_56 rfl 1 rfl ?_
        refine X_iload_n C dX1_laysPoints_57 rfl 2 rfl ?_
        refine X_aload_n C dX1_laysPoints_58 rfl 0 rfl (isRV_r _) ?_
        refine X_get (ci := 1) (j := 1) (q := (RX1, TX1, 10)) C rfl (by decide) q190 rfl dX1_laysPoints_59 hs_x0 (v := .int (sI st x0 1)) rfl ?_
        refine X_iload_n C dX1_laysPoints_62 rfl 1 rfl ?_
        refine X_isub C dX1_laysPoints_63 ?_
        refine X_iload_n C dX1_laysPoints_64 rfl 2 rfl ?_
        refine X_isub C dX1_laysPoints_65 ?_
        refine X_callV (ci := 1) (q := (RX1, TX1, 10)) (As := [_, _, _]) (rest := []) C rfl hs_x0 q184 q186 qs1 q133 q187 ⟨rfl, nm_X1_point⟩ rfl dX1_laysPoints_66 (m_X1_pointc (Cx_l C) h0 (d := d - 1) (by omega) st x0 x1 x2 (((sI st x0 1) - x1) - x2) hs_x0 hb_x0 h) (by omega) (by decide) (Nat.le_of_ble_eq_true rfl) (fun s8 w9 hE10 hP11 => ?_) (fun s14 E12 q13 hE10 hP11 => ?_)
        rotate_left
        · exact False.elim hP11
        obtain ⟨rfl, h⟩ := hP11
        refine X_tln ?_
        have hs_x0 := Ext_sh hE10 hs_x0 (by decide)
        refine X_iinc (v := (x2 + 1)) C (j := 2) dX1_laysPoints_69 rfl rfl (lo2 := [(2, _), (0, _), (1, _)]) (by decide) rfl ?_
        refine X_goto (tgt := 37) C dX1_laysPoints_72 (by decide) ?_
        refine X_sub [1, 2, 0] (lo2 := [(0, _), (1, _), (2, _)]) rfl ?_
        exact hK37 s8 x0 x1 (x2 + 1) hs_x0 hb_x0 h
def w_X1_laysPointsc_b75 (Φ : St → Prop) (K7 : St → Nat → Int32 → Prop) (st : St) (x0 : Nat) (x1 : Int32) : Prop := K7 st x0 (x1 + 1)
theorem t_X1_laysPointsc_b75 {θ : Th} {κ : Kx} {Ph : Ph} (h0 : L0 θ) {d : Nat} (hd : 1 ≤ d) (C : Cx θ κ yX1_laysPoints cX1_laysPoints 3 (none : Option Jvm.ClassFile.FieldType) [] d) {Φ : St → Prop} (hn : ∀ st, Φ st → Ph.1 st none) {K7 : St → Nat → Int32 → Prop} (hK7 : ∀ (st : St) (x0 : Nat) (x1 : Int32), sh st x0 = 2 → x0 < gBIG → K7 st x0 x1 → X θ κ Ph st 7 [(0, .ref (ad θ x0)), (1, .int x1)] []) (st : St) (x0 : Nat) (x1 : Int32) (hs_x0 : sh st x0 = 2) (hb_x0 : x0 < gBIG) (h : w_X1_laysPointsc_b75 Φ K7 st x0 x1) : X θ κ Ph st 75 [(0, .ref (ad θ x0)), (1, .int x1)] [] := by
  unfold w_X1_laysPointsc_b75 at h
  refine X_iinc (v := (x1 + 1)) C (j := 1) dX1_laysPoints_75 rfl rfl (lo2 := [(1, _), (0, _)]) (by decide) rfl ?_
  refine X_goto (tgt := 7) C dX1_laysPoints_78 (by decide) ?_
  refine X_sub [1, 0] (lo2 := [(0, _), (1, _)]) rfl ?_
  exact hK7 st x0 (x1 + 1) hs_x0 hb_x0 h
def w_X1_laysPointsc_b35 (Φ : St → Prop) (K7 : St → Nat → Int32 → Prop) (st : St) (x0 : Nat) (x1 : Int32) : Prop := w_X1_laysPointsc_l37 Φ (fun (s15 : St) (x0 : Nat) (x1 : Int32) => w_X1_laysPointsc_b75 Φ K7 s15 x0 x1) gFU st x0 x1 0
theorem t_X1_laysPointsc_b35 {θ : Th} {κ : Kx} {Ph : Ph} (h0 : L0 θ) {d : Nat} (hd : 1 ≤ d) (C : Cx θ κ yX1_laysPoints cX1_laysPoints 3 (none : Option Jvm.ClassFile.FieldType) [] d) {Φ : St → Prop} (hn : ∀ st, Φ st → Ph.1 st none) {K7 : St → Nat → Int32 → Prop} (hK7 : ∀ (st : St) (x0 : Nat) (x1 : Int32), sh st x0 = 2 → x0 < gBIG → K7 st x0 x1 → X θ κ Ph st 7 [(0, .ref (ad θ x0)), (1, .int x1)] []) (st : St) (x0 : Nat) (x1 : Int32) (hs_x0 : sh st x0 = 2) (hb_x0 : x0 < gBIG) (h : w_X1_laysPointsc_b35 Φ K7 st x0 x1) : X θ κ Ph st 35 [(0, .ref (ad θ x0)), (1, .int x1)] [] := by
  unfold w_X1_laysPointsc_b35 at h
  refine X_iconst (v := 0) C dX1_laysPoints_35 rfl ?_
  refine X_istore_n C dX1_laysPoints_36 rfl (lo2 := [(2, _), (0, _), (1, _)]) (by decide) rfl ?_
  refine X_sub [1, 2, 0] (lo2 := [(0, _), (1, _), (2, _)]) rfl ?_
  refine t_X1_laysPointsc_l37 h0 hd C hn ?_ gFU st x0 x1 0 hs_x0 hb_x0 h
  · intro s15 x0 x1 hs_x0 hb_x0 h
    exact t_X1_laysPointsc_b75 h0 hd C hn hK7 s15 x0 x1 hs_x0 hb_x0 h
def w_X1_laysPointsc_l7 (Φ : St → Prop) (E81 : St → Nat → Prop) : Nat → St → Nat → Int32 → Prop
  | 0, _, _, _ => False
  | n + 1, st, x0, x1 => (((sI st x0 1) < x1) → E81 st x0) ∧ ((¬ (sI st x0 1) < x1) → (((sI st x0 0) ≠ 2) → w_X1_laysPointsc_b35 Φ (w_X1_laysPointsc_l7 Φ E81 n) st x0 x1) ∧ (((sI st x0 0) = 2) → w_X1_pointc st x0 x1 ((sI st x0 1) - x1) 0 (fun (s17 : St) => w_X1_laysPointsc_b35 Φ (w_X1_laysPointsc_l7 Φ E81 n) s17 x0 x1)))
theorem t_X1_laysPointsc_l7 {θ : Th} {κ : Kx} {Ph : Ph} (h0 : L0 θ) {d : Nat} (hd : 1 ≤ d) (C : Cx θ κ yX1_laysPoints cX1_laysPoints 3 (none : Option Jvm.ClassFile.FieldType) [] d) {Φ : St → Prop} (hn : ∀ st, Φ st → Ph.1 st none) {E81 : St → Nat → Prop} (hE81 : ∀ (st : St) (x0 : Nat), sh st x0 = 2 → x0 < gBIG → E81 st x0 → X θ κ Ph st 81 [(0, .ref (ad θ x0))] []) : ∀ (n : Nat) (st : St) (x0 : Nat) (x1 : Int32), sh st x0 = 2 → x0 < gBIG → w_X1_laysPointsc_l7 Φ E81 n st x0 x1 → X θ κ Ph st 7 [(0, .ref (ad θ x0)), (1, .int x1)] [] := by
  intro n
  induction n with
  | zero => intro st x0 x1 hs_x0 hb_x0 h; exact h.elim
  | succ n hK7 =>
    intro st x0 x1 hs_x0 hb_x0 h
    rw [w_X1_laysPointsc_l7] at h
    refine X_iload_n C dX1_laysPoints_7 rfl 1 rfl ?_
    refine X_aload_n C dX1_laysPoints_8 rfl 0 rfl (isRV_r _) ?_
    refine X_get (ci := 1) (j := 1) (q := (RX1, TX1, 10)) C rfl (by decide) q190 rfl dX1_laysPoints_9 hs_x0 (v := .int (sI st x0 1)) rfl ?_
    refine X_icmp_gt (tgt := 81) C dX1_laysPoints_12 (by decide) (fun c3 => ?_) (fun c3 => ?_)
    · have h := h.1 c3
      refine X_sub [0] (lo2 := [(0, _)]) rfl ?_
      exact hE81 st x0 hs_x0 hb_x0 h
    · have h := h.2 c3
      refine X_aload_n C dX1_laysPoints_15 rfl 0 rfl (isRV_r _) ?_
      refine X_get (ci := 1) (j := 0) (q := (RX1, TX1, 10)) C rfl (by decide) q188 rfl dX1_laysPoints_16 hs_x0 (v := .int (sI st x0 0)) rfl ?_
      refine X_iconst (v := 2) C dX1_laysPoints_19 rfl ?_
      refine X_icmp_ne (tgt := 35) C dX1_laysPoints_20 (by decide) (fun c4 => ?_) (fun c4 => ?_)
      · have h := h.1 c4
        exact t_X1_laysPointsc_b35 h0 hd C hn hK7 st x0 x1 hs_x0 hb_x0 h
      · have h := h.2 c4
        refine X_aload_n C dX1_laysPoints_23 rfl 0 rfl (isRV_r _) ?_
        refine X_iload_n C dX1_laysPoints_24 rfl 1 rfl ?_
        refine X_aload_n C dX1_laysPoints_25 rfl 0 rfl (isRV_r _) ?_
        refine X_get (ci := 1) (j := 1) (q := (RX1, TX1, 10)) C rfl (by decide) q190 rfl dX1_laysPoints_26 hs_x0 (v := .int (sI st x0 1)) rfl ?_
        refine X_iload_n C dX1_laysPoints_29 rfl 1 rfl ?_
        refine X_isub C dX1_laysPoints_30 ?_
        refine X_iconst (v := 0) C dX1_laysPoints_31 rfl ?_
        refine X_callV (ci := 1) (q := (RX1, TX1, 10)) (As := [_, _, _]) (rest := []) C rfl hs_x0 q184 q186 qs1 q133 q187 ⟨rfl, nm_X1_point⟩ rfl dX1_laysPoints_32 (m_X1_pointc (Cx_l C) h0 (d := d - 1) (by omega) st x0 x1 ((sI st x0 1) - x1) 0 hs_x0 hb_x0 h) (by omega) (by decide) (Nat.le_of_ble_eq_true rfl) (fun s17 w18 hE19 hP20 => ?_) (fun s23 E21 q22 hE19 hP20 => ?_)
        rotate_left
        · exact False.elim hP20
        obtain ⟨rfl, h⟩ := hP20
        refine X_tln ?_
        have hs_x0 := Ext_sh hE19 hs_x0 (by decide)
        exact t_X1_laysPointsc_b35 h0 hd C hn hK7 s17 x0 x1 hs_x0 hb_x0 h
def w_X1_laysPointsc_b81 (Φ : St → Prop) (st : St) (x0 : Nat) : Prop := ∀ s25, s25 = putI st x0 4 0 → ∀ s27, s27 = putR s25 x0 7 none → Φ s27
theorem t_X1_laysPointsc_b81 {θ : Th} {κ : Kx} {Ph : Ph} (h0 : L0 θ) {d : Nat} (hd : 1 ≤ d) (C : Cx θ κ yX1_laysPoints cX1_laysPoints 3 (none : Option Jvm.ClassFile.FieldType) [] d) {Φ : St → Prop} (hn : ∀ st, Φ st → Ph.1 st none) (st : St) (x0 : Nat) (hs_x0 : sh st x0 = 2) (hb_x0 : x0 < gBIG) (h : w_X1_laysPointsc_b81 Φ st x0) : X θ κ Ph st 81 [(0, .ref (ad θ x0))] [] := by
  unfold w_X1_laysPointsc_b81 at h
  refine X_aload_n C dX1_laysPoints_81 rfl 0 rfl (isRV_r _) ?_
  refine X_iconst (v := 0) C dX1_laysPoints_82 rfl ?_
  refine X_putI (ci := 1) (j := 4) (q := (RX1, TX1, 10)) C rfl (by decide) q196 rfl rfl dX1_laysPoints_83 hb_x0 hs_x0 rfl rfl rfl ?_
  refine X_nm (fun s25 e26 => ?_)
  have h := h s25 e26
  have hs_x0 : sh s25 x0 = 2 := by rw [e26]; exact hs_x0
  refine X_aload_n C dX1_laysPoints_86 rfl 0 rfl (isRV_r _) ?_
  refine X_null C dX1_laysPoints_87 ?_
  refine X_putR0 (v := none) (ci := 1) (j := 7) (q := (RX1, TX1, 10)) C h0 rfl (by decide) q202 rfl rfl dX1_laysPoints_88 hb_x0 hs_x0 (Or.inl ⟨_, rfl⟩) ?_
  refine X_nm (fun s27 e28 => ?_)
  have h := h s27 e28
  have hs_x0 : sh s27 x0 = 2 := by rw [e28]; exact hs_x0
  exact X_vret C rfl dX1_laysPoints_91 (hn s27 h)
def w_X1_laysPointsc (st : St) (a0 : Nat) (Φ : St → Prop) : Prop := ∀ s1, s1 = putI st a0 9 0 → w_X1_laysPointsc_l7 Φ (fun (s24 : St) (x0 : Nat) => w_X1_laysPointsc_b81 Φ s24 x0) gFU s1 a0 0
theorem e_X1_laysPointsc : plainFor yX1_laysPoints = true := plainFor_of_name (by decide +kernel)
theorem m_X1_laysPointsc {θ : Th} {l : Launch} (hl0 : l.stackTraces = false) (h0 : L0 θ) {d : Nat} (hd : 1 ≤ d) (st : St) (a0 : Nat) (hs_a0 : sh st a0 = 2) (hb_a0 : a0 < gBIG) {Φ : St → Prop} (h : w_X1_laysPointsc st a0 Φ) : Ct θ l yX1_laysPoints (ws_ yX1_laysPoints cX1_laysPoints 3 (none : Option Jvm.ClassFile.FieldType)) d [.ref (ad θ a0)] st (pV Φ, noX) := by
  refine Ct_entry hl0 e_X1_laysPointsc (Nat.le_of_ble_eq_true rfl) (fun κ hκ _ C => ?_)
  have hn : ∀ st, Φ st → ((pV Φ, noX) : Ph).1 st none := fun st q => ⟨rfl, q⟩
  change X _ _ _ _ _ [(0, .ref (ad θ a0))] _
  unfold w_X1_laysPointsc at h
  refine X_aload_n C dX1_laysPoints_0 rfl 0 rfl (isRV_r _) ?_
  refine X_iconst (v := 0) C dX1_laysPoints_1 rfl ?_
  refine X_putI (ci := 1) (j := 9) (q := (RX1, TX1, 10)) C rfl (by decide) q206 rfl rfl dX1_laysPoints_2 hb_a0 hs_a0 rfl rfl rfl ?_
  refine X_nm (fun s1 e2 => ?_)
  have h := h s1 e2
  have hs_a0 : sh s1 a0 = 2 := by rw [e2]; exact hs_a0
  refine X_iconst (v := 0) C dX1_laysPoints_5 rfl ?_
  refine X_istore_n C dX1_laysPoints_6 rfl (lo2 := [(1, _), (0, _)]) (by decide) rfl ?_
  refine X_sub [1, 0] (lo2 := [(0, _), (1, _)]) rfl ?_
  refine t_X1_laysPointsc_l7 h0 hd C hn ?_ gFU s1 a0 0 hs_a0 hb_a0 h
  · intro s24 x0 hs_x0 hb_x0 h
    exact t_X1_laysPointsc_b81 h0 hd C hn s24 x0 hs_x0 hb_x0 h

def w_X3_initc (st : St) (a0 : Nat) (Φ : St → Prop) : Prop := Φ st
theorem e_X3_initc : plainFor yX3_init = true := plainFor_of_name (by decide +kernel)
theorem m_X3_initc {θ : Th} {l : Launch} (hl0 : l.stackTraces = false) (h0 : L0 θ) {d : Nat} (hd : 0 ≤ d) (st : St) (a0 : Nat) (hs_a0 : sh st a0 = 4) (hb_a0 : a0 < gBIG) {Φ : St → Prop} (h : w_X3_initc st a0 Φ) : Ct θ l yX3_init (ws_ yX3_init cX3_init 1 (none : Option Jvm.ClassFile.FieldType)) d [.ref (ad θ a0)] st (pV Φ, noX) := by
  refine Ct_entry hl0 e_X3_initc (Nat.le_of_ble_eq_true rfl) (fun κ hκ _ C => ?_)
  have hn : ∀ st, Φ st → ((pV Φ, noX) : Ph).1 st none := fun st q => ⟨rfl, q⟩
  change X _ _ _ _ _ [(0, .ref (ad θ a0))] _
  unfold w_X3_initc at h
  refine X_aload_n C dX3_init_0 rfl 0 rfl (isRV_r _) ?_
  refine X_objInit C ⟨_, rfl⟩ q254 q168 q169 (Nat.le_of_ble_eq_true rfl) dX3_init_1 ?_
  exact X_vret C rfl dX3_init_4 (hn st h)

theorem nm_X1_init : yX1_init.cls ≠ "java/lang/invoke/MethodHandle" ∧ yX1_init.cls ≠ "java/lang/invoke/VarHandle" ∧ (parseMethodDescriptor yX1_init.desc).map (fun d => d.parameters.length) = some 0 := by decide +kernel
def w_X1_init (st : St) (a0 : Nat) (Φ : St → Prop) : Prop := ∀ s1, s1 = putI st a0 0 2 → ∀ s3, s3 = putI s1 a0 1 4 → ∀ s5, s5 = putI s3 a0 2 2 → ∀ s7, s7 = putI s5 a0 3 2 → sN s7 + 13 ≤ gCAP ∧ sS s7 + 39 ≤ gCAPS ∧ ∀ s9, s9 = mk3 s7 3 3 3 → ∀ s16, s16 = putR s9 a0 5 (some (sN s7)) → sN s16 + 1 ≤ gCAP ∧ sS s16 + 3 ≤ gCAPS ∧ ∀ s20, s20 = mk s16 101 3 → ∀ s26, s26 = putR s20 a0 6 (some (sN s16)) → sN s26 + 1 + 15 ≤ gCAP ∧ sS s26 + 15 + 15 * 3 ≤ gCAPS ∧ ∀ s28, s28 = mk2 s26 111 101 15 3 → ∀ s35, s35 = putR s28 a0 8 (some (sN s26)) → w_X1_laysPointsc s35 a0 (fun (s38 : St) => Φ s38)
theorem e_X1_init : plainFor yX1_init = true := plainFor_of_name (by decide +kernel)
theorem m_X1_init {θ : Th} {l : Launch} (hl0 : l.stackTraces = false) (h0 : L0 θ) {d : Nat} (hd : 2 ≤ d) (st : St) (a0 : Nat) (hs_a0 : sh st a0 = 2) (hb_a0 : a0 < gBIG) {Φ : St → Prop} (h : w_X1_init st a0 Φ) : Ct θ l yX1_init (ws_ yX1_init cX1_init 1 (none : Option Jvm.ClassFile.FieldType)) d [.ref (ad θ a0)] st (pV Φ, noX) := by
  refine Ct_entry hl0 e_X1_init (Nat.le_of_ble_eq_true rfl) (fun κ hκ _ C => ?_)
  have hn : ∀ st, Φ st → ((pV Φ, noX) : Ph).1 st none := fun st q => ⟨rfl, q⟩
  change X _ _ _ _ _ [(0, .ref (ad θ a0))] _
  unfold w_X1_init at h
  refine X_aload_n C dX1_init_0 rfl 0 rfl (isRV_r _) ?_
  refine X_objInit C ⟨_, rfl⟩ q175 q168 q169 (Nat.le_of_ble_eq_true rfl) dX1_init_1 ?_
  refine X_aload_n C dX1_init_4 rfl 0 rfl (isRV_r _) ?_
  refine X_iconst (v := 2) C dX1_init_5 rfl ?_
  refine X_putI (ci := 1) (j := 0) (q := (RX1, TX1, 10)) C rfl (by decide) q188 rfl rfl dX1_init_6 hb_a0 hs_a0 rfl rfl rfl ?_
  refine X_nm (fun s1 e2 => ?_)
  have h := h s1 e2
  have hs_a0 : sh s1 a0 = 2 := by rw [e2]; exact hs_a0
  refine X_aload_n C dX1_init_9 rfl 0 rfl (isRV_r _) ?_
  refine X_iconst (v := 4) C dX1_init_10 rfl ?_
  refine X_putI (ci := 1) (j := 1) (q := (RX1, TX1, 10)) C rfl (by decide) q190 rfl rfl dX1_init_11 hb_a0 hs_a0 rfl rfl rfl ?_
  refine X_nm (fun s3 e4 => ?_)
  have h := h s3 e4
  have hs_a0 : sh s3 a0 = 2 := by rw [e4]; exact hs_a0
  refine X_aload_n C dX1_init_14 rfl 0 rfl (isRV_r _) ?_
  refine X_iconst (v := 2) C dX1_init_15 rfl ?_
  refine X_putI (ci := 1) (j := 2) (q := (RX1, TX1, 10)) C rfl (by decide) q192 rfl rfl dX1_init_16 hb_a0 hs_a0 rfl rfl rfl ?_
  refine X_nm (fun s5 e6 => ?_)
  have h := h s5 e6
  have hs_a0 : sh s5 a0 = 2 := by rw [e6]; exact hs_a0
  refine X_aload_n C dX1_init_19 rfl 0 rfl (isRV_r _) ?_
  refine X_iconst (v := 2) C dX1_init_20 rfl ?_
  refine X_putI (ci := 1) (j := 3) (q := (RX1, TX1, 10)) C rfl (by decide) q194 rfl rfl dX1_init_21 hb_a0 hs_a0 rfl rfl rfl ?_
  refine X_nm (fun s7 e8 => ?_)
  have h := h s7 e8
  have hs_a0 : sh s7 a0 = 2 := by rw [e8]; exact hs_a0
  refine X_aload_n C dX1_init_24 rfl 0 rfl (isRV_r _) ?_
  refine X_iconst (v := 3) C dX1_init_25 rfl ?_
  refine X_iconst (v := 3) C dX1_init_26 rfl ?_
  refine X_iconst (v := 3) C dX1_init_27 rfl ?_
  have g14 := h.1
  have h := h.2
  have g15 := h.1
  have h := h.2
  refine X_multi3 (n := 3) (n2 := 3) (k := 3) C h0 (fun _ _ h => h) (fun _ _ h => h) (fun _ _ h => h) (by decide) (by decide) (by decide) rfl rfl rfl (by decide) (by decide) (by decide) (by simp [gAA]) (by simp [gAA]) q229 q176 g14 g15 dX1_init_28 (fun hE11 => ?_)
  refine X_nm (fun s9 e10 => ?_)
  have h := h s9 e10
  have hs12 : sh s9 (sN s7) = 112 := by rw [e10]; exact mk3_sh
  have hb13 : sN s7 < gBIG := by unfold gBIG; unfold gCAP at g14; omega
  rw [← e10] at hE11
  have hs_a0 := Ext_sh hE11 hs_a0 (by decide)
  refine X_putFR0 (v := (some (sN s7))) (ci := 1) (j := 5) (q := (RX1, TX1, 10)) C h0 rfl rfl (by decide) q198 rfl rfl rfl dX1_init_32 hb_a0 hs_a0 (Or.inr ⟨_, rfl⟩) ?_
  refine X_nm (fun s16 e17 => ?_)
  have h := h s16 e17
  have hs_a0 : sh s16 a0 = 2 := by rw [e17]; exact hs_a0
  have hs12 : sh s16 (sN s7) = 112 := by rw [e17]; exact hs12
  refine X_aload_n C dX1_init_35 rfl 0 rfl (isRV_r _) ?_
  refine X_iconst (v := 3) C dX1_init_36 rfl ?_
  have g18 := h.1
  have h := h.2
  have g19 := h.1
  have h := h.2
  refine X_newarray (t := 101) (aty := .int) C 0 rfl (by decide) rfl q229 (fun _ _ h => h) (by decide) rfl (by decide) (by decide) g18 g19 dX1_init_37 (fun hE22 => ?_)
  refine X_nm (fun s20 e21 => ?_)
  have h := h s20 e21
  rw [← e21] at hE22
  have hs_a0 := Ext_sh hE22 hs_a0 (by decide)
  have hs12 := Ext_sh hE22 hs12 (by decide)
  have hs23 : sh s20 (sN s16) = 101 := by rw [e21]; exact sh_mk
  have hl25 : ln s20 (sN s16) = 3 := by rw [e21]; exact ln_mk
  have hb24 := nb_N g18
  refine X_putFR0 (v := (some (sN s16))) (ci := 1) (j := 6) (q := (RX1, TX1, 10)) C h0 rfl rfl (by decide) q200 rfl rfl rfl dX1_init_39 hb_a0 hs_a0 (Or.inr ⟨_, rfl⟩) ?_
  refine X_nm (fun s26 e27 => ?_)
  have h := h s26 e27
  have hs_a0 : sh s26 a0 = 2 := by rw [e27]; exact hs_a0
  have hs12 : sh s26 (sN s7) = 112 := by rw [e27]; exact hs12
  have hs23 : sh s26 (sN s16) = 101 := by rw [e27]; exact hs23
  have hl25 : ln s26 (sN s16) = 3 := by rw [e27]; exact hl25
  refine X_aload_n C dX1_init_42 rfl 0 rfl (isRV_r _) ?_
  refine X_bipush (v := 15) C dX1_init_43 rfl ?_
  refine X_iconst (v := 3) C dX1_init_45 rfl ?_
  have g33 := h.1
  have h := h.2
  have g34 := h.1
  have h := h.2
  refine X_multi2 (c0 := 111) (c1 := 101) (n := 15) (k := 3) (ty := .int) (nm := "[[I") C h0 (t0 := 6) (t1 := 0) rfl rfl (by decide) (by decide) rfl (fun st a j v => by simp [acomp, sv, putR, sR]) rfl (fun _ _ h => h) (fun _ _ h => h) (by decide +kernel) (by decide) (by decide) rfl rfl (by decide) (by decide) (by decide) rfl rfl (by simp [gAA]) q229 q179 g33 g34 dX1_init_46 (fun hE30 => ?_)
  refine X_nm (fun s28 e29 => ?_)
  have h := h s28 e29
  have hs31 : sh s28 (sN s26) = 111 := by rw [e29]; exact mk2_sh
  have hb32 : sN s26 < gBIG := by unfold gBIG; unfold gCAP at g33; omega
  rw [← e29] at hE30
  have hs_a0 := Ext_sh hE30 hs_a0 (by decide)
  have hs12 := Ext_sh hE30 hs12 (by decide)
  have hl25 := Ext_ln hE30 (by rw [hs23]; decide) hl25
  have hs23 := Ext_sh hE30 hs23 (by decide)
  refine X_putFR0 (v := (some (sN s26))) (ci := 1) (j := 8) (q := (RX1, TX1, 10)) C h0 rfl rfl (by decide) q204 rfl rfl rfl dX1_init_50 hb_a0 hs_a0 (Or.inr ⟨_, rfl⟩) ?_
  refine X_nm (fun s35 e36 => ?_)
  have h := h s35 e36
  have hs_a0 : sh s35 a0 = 2 := by rw [e36]; exact hs_a0
  have hs12 : sh s35 (sN s7) = 112 := by rw [e36]; exact hs12
  have hs23 : sh s35 (sN s16) = 101 := by rw [e36]; exact hs23
  have hl25 : ln s35 (sN s16) = 3 := by rw [e36]; exact hl25
  have hs31 : sh s35 (sN s26) = 111 := by rw [e36]; exact hs31
  refine X_aload_n C dX1_init_53 rfl 0 rfl (isRV_r _) ?_
  refine X_callV (ci := 1) (q := (RX1, TX1, 10)) (As := []) (rest := []) C rfl hs_a0 q180 q182 qs0 q133 q183 ⟨rfl, nm_X1_laysPoints⟩ rfl dX1_init_54 (m_X1_laysPointsc (Cx_l C) h0 (d := d - 1) (by omega) s35 a0 hs_a0 hb_a0 h) (by omega) (by decide) (Nat.le_of_ble_eq_true rfl) (fun s38 w39 hE40 hP41 => ?_) (fun s44 E42 q43 hE40 hP41 => ?_)
  rotate_left
  · exact False.elim hP41
  obtain ⟨rfl, h⟩ := hP41
  refine X_tln ?_
  have hl25 := Ext_ln hE40 (by rw [hs23]; decide) hl25
  have hs_a0 := Ext_sh hE40 hs_a0 (by decide)
  have hs12 := Ext_sh hE40 hs12 (by decide)
  have hs23 := Ext_sh hE40 hs23 (by decide)
  have hs31 := Ext_sh hE40 hs31 (by decide)
  exact X_vret C rfl dX1_init_57 (hn s38 h)

theorem nm_X0_init : yX0_init.cls ≠ "java/lang/invoke/MethodHandle" ∧ yX0_init.cls ≠ "java/lang/invoke/VarHandle" ∧ (parseMethodDescriptor yX0_init.desc).map (fun d => d.parameters.length) = some 0 := by decide +kernel
def w_X0_init_l266 (Φ : St → Prop) (E291 : St → Nat → Prop) : Nat → St → Nat → Int32 → Prop
  | 0, _, _, _ => False
  | n + 1, st, x0, x1 => ((15 ≤ x1) → E291 st x0) ∧ ((¬ 15 ≤ x1) → ∃ r353, (sR st x0 18) = some r353 ∧ r353 < gBIG ∧ sh st r353 = 114 ∧ sN st + 1 ≤ gCAP ∧ sS st + 2 ≤ gCAPS ∧ ∀ s359, s359 = mk st 3 2 → w_X2_init s359 (sN st) (fun (s365 : St) => vp_in x1 (ln s365 r353) ∧ ∀ s373, s373 = putR s365 r353 (x1.toNatClampNeg) (some (sN st)) → w_X0_init_l266 Φ E291 n s373 x0 (x1 + 1)))
theorem t_X0_init_l266 {θ : Th} {κ : Kx} {Ph : Ph} (h0 : L0 θ) {d : Nat} (hd : 3 ≤ d) (C : Cx θ κ yX0_init cX0_init 2 (none : Option Jvm.ClassFile.FieldType) [] d) {Φ : St → Prop} (hn : ∀ st, Φ st → Ph.1 st none) {E291 : St → Nat → Prop} (hE291 : ∀ (st : St) (x0 : Nat), sh st x0 = 1 → x0 < gBIG → E291 st x0 → X θ κ Ph st 291 [(0, .ref (ad θ x0))] []) : ∀ (n : Nat) (st : St) (x0 : Nat) (x1 : Int32), sh st x0 = 1 → x0 < gBIG → w_X0_init_l266 Φ E291 n st x0 x1 → X θ κ Ph st 266 [(0, .ref (ad θ x0)), (1, .int x1)] [] := by
  intro n
  induction n with
  | zero => intro st x0 x1 hs_x0 hb_x0 h; exact h.elim
  | succ n hK266 =>
    intro st x0 x1 hs_x0 hb_x0 h
    rw [w_X0_init_l266] at h
    refine X_iload_n C dX0_init_266 rfl 1 rfl ?_
    refine X_bipush (v := 15) C dX0_init_267 rfl ?_
    refine X_icmp_ge (tgt := 291) C dX0_init_269 (by decide) (fun c352 => ?_) (fun c352 => ?_)
    · have h := h.1 c352
      refine X_sub [0] (lo2 := [(0, _)]) rfl ?_
      exact hE291 st x0 hs_x0 hb_x0 h
    · have h := h.2 c352
      refine X_aload_n C dX0_init_272 rfl 0 rfl (isRV_r _) ?_
      refine X_get (ci := 0) (j := 18) (q := (RX0, TX0, 49)) C rfl (by decide) q278 rfl dX0_init_273 hs_x0 (v := rv θ (sR st x0 18)) rfl ?_
      obtain ⟨r353, q354, hb356, hs355, h⟩ := h
      rw [q354]
      refine X_tor ?_
      refine X_iload_n C dX0_init_276 rfl 1 rfl ?_
      have g357 := h.1
      have h := h.2
      have g358 := h.1
      have h := h.2
      refine X_new (ci := 2) (q := (RX2, TX2, 2)) C rfl q232 q234 q134 g357 g358 dX0_init_277 (fun hE361 => ?_)
      refine X_nm (fun s359 e360 => ?_)
      have h := h s359 e360
      rw [← e360] at hE361
      have hs_x0 := Ext_sh hE361 hs_x0 (by decide)
      have hs355 := Ext_sh hE361 hs355 (by decide)
      have hs362 : sh s359 (sN st) = 3 := by rw [e360]; exact sh_mk
      have hb363 := nb_N g357
      refine X_dup C dX0_init_280 rfl ?_
      refine X_callIN (As := []) (rest := [_, _, _]) C q235 q236 q134 q237 rfl nm_X2_init rfl dX0_init_281 (m_X2_init (Cx_l C) (d := d - 1) (by omega) s359 (sN st) hs362 hb363 h) (by omega) (by decide) (Nat.le_of_ble_eq_true rfl) (fun s365 w366 hE367 hP368 => ?_) (fun s371 E369 q370 hE367 hP368 => ?_)
      rotate_left
      · exact False.elim hP368
      obtain ⟨rfl, h⟩ := hP368
      refine X_tln ?_
      have hs_x0 := Ext_sh hE367 hs_x0 (by decide)
      have hs355 := Ext_sh hE367 hs355 (by decide)
      have hs362 := Ext_sh hE367 hs362 (by decide)
      have g372 := h.1
      have h := h.2
      refine X_aast0 (t := 114) (ci := 2) (q := (RX2, TX2, 2)) C h0 9 rfl (by decide) rfl rfl hb356 hs355 rfl g372 rfl hs362 dX0_init_284 ?_
      refine X_nm (fun s373 e374 => ?_)
      have h := h s373 e374
      have hs_x0 : sh s373 x0 = 1 := by rw [e374]; exact hs_x0
      have hs355 : sh s373 r353 = 114 := by rw [e374]; exact hs355
      have hs362 : sh s373 (sN st) = 3 := by rw [e374]; exact hs362
      refine X_iinc (v := (x1 + 1)) C (j := 1) dX0_init_285 rfl rfl (lo2 := [(1, _), (0, _)]) (by decide) rfl ?_
      refine X_goto (tgt := 266) C dX0_init_288 (by decide) ?_
      refine X_sub [1, 0] (lo2 := [(0, _), (1, _)]) rfl ?_
      exact hK266 s373 x0 (x1 + 1) hs_x0 hb_x0 h
def w_X0_init_l293 (Φ : St → Prop) (E330 : St → Nat → Prop) : Nat → St → Nat → Int32 → Prop
  | 0, _, _, _ => False
  | n + 1, st, x0, x1 => ((3 ≤ x1) → E330 st x0) ∧ ((¬ 3 ≤ x1) → ∃ r377, (sR st x0 19) = some r377 ∧ r377 < gBIG ∧ sh st r377 = 114 ∧ sN st + 1 ≤ gCAP ∧ sS st + 2 ≤ gCAPS ∧ ∀ s383, s383 = mk st 3 2 → w_X2_init s383 (sN st) (fun (s389 : St) => vp_in x1 (ln s389 r377) ∧ ∀ s397, s397 = putR s389 r377 (x1.toNatClampNeg) (some (sN st)) → ∃ r399, (sR s397 x0 20) = some r399 ∧ r399 < gBIG ∧ sh s397 r399 = 114 ∧ sN s397 + 1 ≤ gCAP ∧ sS s397 + 2 ≤ gCAPS ∧ ∀ s405, s405 = mk s397 3 2 → w_X2_init s405 (sN s397) (fun (s411 : St) => vp_in x1 (ln s411 r399) ∧ ∀ s419, s419 = putR s411 r399 (x1.toNatClampNeg) (some (sN s397)) → w_X0_init_l293 Φ E330 n s419 x0 (x1 + 1))))
theorem t_X0_init_l293 {θ : Th} {κ : Kx} {Ph : Ph} (h0 : L0 θ) {d : Nat} (hd : 3 ≤ d) (C : Cx θ κ yX0_init cX0_init 2 (none : Option Jvm.ClassFile.FieldType) [] d) {Φ : St → Prop} (hn : ∀ st, Φ st → Ph.1 st none) {E330 : St → Nat → Prop} (hE330 : ∀ (st : St) (x0 : Nat), sh st x0 = 1 → x0 < gBIG → E330 st x0 → X θ κ Ph st 330 [(0, .ref (ad θ x0))] []) : ∀ (n : Nat) (st : St) (x0 : Nat) (x1 : Int32), sh st x0 = 1 → x0 < gBIG → w_X0_init_l293 Φ E330 n st x0 x1 → X θ κ Ph st 293 [(0, .ref (ad θ x0)), (1, .int x1)] [] := by
  intro n
  induction n with
  | zero => intro st x0 x1 hs_x0 hb_x0 h; exact h.elim
  | succ n hK293 =>
    intro st x0 x1 hs_x0 hb_x0 h
    rw [w_X0_init_l293] at h
    refine X_iload_n C dX0_init_293 rfl 1 rfl ?_
    refine X_iconst (v := 3) C dX0_init_294 rfl ?_
    refine X_icmp_ge (tgt := 330) C dX0_init_295 (by decide) (fun c376 => ?_) (fun c376 => ?_)
    · have h := h.1 c376
      refine X_sub [0] (lo2 := [(0, _)]) rfl ?_
      exact hE330 st x0 hs_x0 hb_x0 h
    · have h := h.2 c376
      refine X_aload_n C dX0_init_298 rfl 0 rfl (isRV_r _) ?_
      refine X_get (ci := 0) (j := 19) (q := (RX0, TX0, 49)) C rfl (by decide) q279 rfl dX0_init_299 hs_x0 (v := rv θ (sR st x0 19)) rfl ?_
      obtain ⟨r377, q378, hb380, hs379, h⟩ := h
      rw [q378]
      refine X_tor ?_
      refine X_iload_n C dX0_init_302 rfl 1 rfl ?_
      have g381 := h.1
      have h := h.2
      have g382 := h.1
      have h := h.2
      refine X_new (ci := 2) (q := (RX2, TX2, 2)) C rfl q232 q234 q134 g381 g382 dX0_init_303 (fun hE385 => ?_)
      refine X_nm (fun s383 e384 => ?_)
      have h := h s383 e384
      rw [← e384] at hE385
      have hs_x0 := Ext_sh hE385 hs_x0 (by decide)
      have hs379 := Ext_sh hE385 hs379 (by decide)
      have hs386 : sh s383 (sN st) = 3 := by rw [e384]; exact sh_mk
      have hb387 := nb_N g381
      refine X_dup C dX0_init_306 rfl ?_
      refine X_callIN (As := []) (rest := [_, _, _]) C q235 q236 q134 q237 rfl nm_X2_init rfl dX0_init_307 (m_X2_init (Cx_l C) (d := d - 1) (by omega) s383 (sN st) hs386 hb387 h) (by omega) (by decide) (Nat.le_of_ble_eq_true rfl) (fun s389 w390 hE391 hP392 => ?_) (fun s395 E393 q394 hE391 hP392 => ?_)
      rotate_left
      · exact False.elim hP392
      obtain ⟨rfl, h⟩ := hP392
      refine X_tln ?_
      have hs_x0 := Ext_sh hE391 hs_x0 (by decide)
      have hs379 := Ext_sh hE391 hs379 (by decide)
      have hs386 := Ext_sh hE391 hs386 (by decide)
      have g396 := h.1
      have h := h.2
      refine X_aast0 (t := 114) (ci := 2) (q := (RX2, TX2, 2)) C h0 9 rfl (by decide) rfl rfl hb380 hs379 rfl g396 rfl hs386 dX0_init_310 ?_
      refine X_nm (fun s397 e398 => ?_)
      have h := h s397 e398
      have hs_x0 : sh s397 x0 = 1 := by rw [e398]; exact hs_x0
      have hs379 : sh s397 r377 = 114 := by rw [e398]; exact hs379
      have hs386 : sh s397 (sN st) = 3 := by rw [e398]; exact hs386
      refine X_aload_n C dX0_init_311 rfl 0 rfl (isRV_r _) ?_
      refine X_get (ci := 0) (j := 20) (q := (RX0, TX0, 49)) C rfl (by decide) q280 rfl dX0_init_312 hs_x0 (v := rv θ (sR s397 x0 20)) rfl ?_
      obtain ⟨r399, q400, hb402, hs401, h⟩ := h
      rw [q400]
      refine X_tor ?_
      refine X_iload_n C dX0_init_315 rfl 1 rfl ?_
      have g403 := h.1
      have h := h.2
      have g404 := h.1
      have h := h.2
      refine X_new (ci := 2) (q := (RX2, TX2, 2)) C rfl q232 q234 q134 g403 g404 dX0_init_316 (fun hE407 => ?_)
      refine X_nm (fun s405 e406 => ?_)
      have h := h s405 e406
      rw [← e406] at hE407
      have hs_x0 := Ext_sh hE407 hs_x0 (by decide)
      have hs379 := Ext_sh hE407 hs379 (by decide)
      have hs386 := Ext_sh hE407 hs386 (by decide)
      have hs401 := Ext_sh hE407 hs401 (by decide)
      have hs408 : sh s405 (sN s397) = 3 := by rw [e406]; exact sh_mk
      have hb409 := nb_N g403
      refine X_dup C dX0_init_319 rfl ?_
      refine X_callIN (As := []) (rest := [_, _, _]) C q235 q236 q134 q237 rfl nm_X2_init rfl dX0_init_320 (m_X2_init (Cx_l C) (d := d - 1) (by omega) s405 (sN s397) hs408 hb409 h) (by omega) (by decide) (Nat.le_of_ble_eq_true rfl) (fun s411 w412 hE413 hP414 => ?_) (fun s417 E415 q416 hE413 hP414 => ?_)
      rotate_left
      · exact False.elim hP414
      obtain ⟨rfl, h⟩ := hP414
      refine X_tln ?_
      have hs_x0 := Ext_sh hE413 hs_x0 (by decide)
      have hs379 := Ext_sh hE413 hs379 (by decide)
      have hs386 := Ext_sh hE413 hs386 (by decide)
      have hs401 := Ext_sh hE413 hs401 (by decide)
      have hs408 := Ext_sh hE413 hs408 (by decide)
      have g418 := h.1
      have h := h.2
      refine X_aast0 (t := 114) (ci := 2) (q := (RX2, TX2, 2)) C h0 9 rfl (by decide) rfl rfl hb402 hs401 rfl g418 rfl hs408 dX0_init_323 ?_
      refine X_nm (fun s419 e420 => ?_)
      have h := h s419 e420
      have hs_x0 : sh s419 x0 = 1 := by rw [e420]; exact hs_x0
      have hs379 : sh s419 r377 = 114 := by rw [e420]; exact hs379
      have hs386 : sh s419 (sN st) = 3 := by rw [e420]; exact hs386
      have hs401 : sh s419 r399 = 114 := by rw [e420]; exact hs401
      have hs408 : sh s419 (sN s397) = 3 := by rw [e420]; exact hs408
      refine X_iinc (v := (x1 + 1)) C (j := 1) dX0_init_324 rfl rfl (lo2 := [(1, _), (0, _)]) (by decide) rfl ?_
      refine X_goto (tgt := 293) C dX0_init_327 (by decide) ?_
      refine X_sub [1, 0] (lo2 := [(0, _), (1, _)]) rfl ?_
      exact hK293 s419 x0 (x1 + 1) hs_x0 hb_x0 h
def w_X0_init_l332 (Φ : St → Prop) (E356 : St → Prop) : Nat → St → Nat → Int32 → Prop
  | 0, _, _, _ => False
  | n + 1, st, x0, x1 => ((5 ≤ x1) → E356 st) ∧ ((¬ 5 ≤ x1) → ∃ r423, (sR st x0 48) = some r423 ∧ r423 < gBIG ∧ sh st r423 = 115 ∧ sN st + 1 ≤ gCAP ∧ sS st + 1 ≤ gCAPS ∧ ∀ s429, s429 = mk st 4 1 → w_X3_initc s429 (sN st) (fun (s435 : St) => vp_in x1 (ln s435 r423) ∧ ∀ s443, s443 = putR s435 r423 (x1.toNatClampNeg) (some (sN st)) → w_X0_init_l332 Φ E356 n s443 x0 (x1 + 1)))
theorem t_X0_init_l332 {θ : Th} {κ : Kx} {Ph : Ph} (h0 : L0 θ) {d : Nat} (hd : 3 ≤ d) (C : Cx θ κ yX0_init cX0_init 2 (none : Option Jvm.ClassFile.FieldType) [] d) {Φ : St → Prop} (hn : ∀ st, Φ st → Ph.1 st none) {E356 : St → Prop} (hE356 : ∀ (st : St), E356 st → X θ κ Ph st 356 [] []) : ∀ (n : Nat) (st : St) (x0 : Nat) (x1 : Int32), sh st x0 = 1 → x0 < gBIG → w_X0_init_l332 Φ E356 n st x0 x1 → X θ κ Ph st 332 [(0, .ref (ad θ x0)), (1, .int x1)] [] := by
  intro n
  induction n with
  | zero => intro st x0 x1 hs_x0 hb_x0 h; exact h.elim
  | succ n hK332 =>
    intro st x0 x1 hs_x0 hb_x0 h
    rw [w_X0_init_l332] at h
    refine X_iload_n C dX0_init_332 rfl 1 rfl ?_
    refine X_iconst (v := 5) C dX0_init_333 rfl ?_
    refine X_icmp_ge (tgt := 356) C dX0_init_334 (by decide) (fun c422 => ?_) (fun c422 => ?_)
    · have h := h.1 c422
      refine X_sub [] (lo2 := []) rfl ?_
      exact hE356 st h
    · have h := h.2 c422
      refine X_aload_n C dX0_init_337 rfl 0 rfl (isRV_r _) ?_
      refine X_get (ci := 0) (j := 48) (q := (RX0, TX0, 49)) C rfl (by decide) q308 rfl dX0_init_338 hs_x0 (v := rv θ (sR st x0 48)) rfl ?_
      obtain ⟨r423, q424, hb426, hs425, h⟩ := h
      rw [q424]
      refine X_tor ?_
      refine X_iload_n C dX0_init_341 rfl 1 rfl ?_
      have g427 := h.1
      have h := h.2
      have g428 := h.1
      have h := h.2
      refine X_new (ci := 3) (q := (RX3, TX3, 1)) C rfl q248 q250 q135 g427 g428 dX0_init_342 (fun hE431 => ?_)
      refine X_nm (fun s429 e430 => ?_)
      have h := h s429 e430
      rw [← e430] at hE431
      have hs_x0 := Ext_sh hE431 hs_x0 (by decide)
      have hs425 := Ext_sh hE431 hs425 (by decide)
      have hs432 : sh s429 (sN st) = 4 := by rw [e430]; exact sh_mk
      have hb433 := nb_N g427
      refine X_dup C dX0_init_345 rfl ?_
      refine X_callIN (As := []) (rest := [_, _, _]) C q251 q252 q135 q253 rfl nm_X3_init rfl dX0_init_346 (m_X3_initc (Cx_l C) h0 (d := d - 1) (by omega) s429 (sN st) hs432 hb433 h) (by omega) (by decide) (Nat.le_of_ble_eq_true rfl) (fun s435 w436 hE437 hP438 => ?_) (fun s441 E439 q440 hE437 hP438 => ?_)
      rotate_left
      · exact False.elim hP438
      obtain ⟨rfl, h⟩ := hP438
      refine X_tln ?_
      have hs_x0 := Ext_sh hE437 hs_x0 (by decide)
      have hs425 := Ext_sh hE437 hs425 (by decide)
      have hs432 := Ext_sh hE437 hs432 (by decide)
      have g442 := h.1
      have h := h.2
      refine X_aast0 (t := 115) (ci := 3) (q := (RX3, TX3, 1)) C h0 10 rfl (by decide) rfl rfl hb426 hs425 rfl g442 rfl hs432 dX0_init_349 ?_
      refine X_nm (fun s443 e444 => ?_)
      have h := h s443 e444
      have hs_x0 : sh s443 x0 = 1 := by rw [e444]; exact hs_x0
      have hs425 : sh s443 r423 = 115 := by rw [e444]; exact hs425
      have hs432 : sh s443 (sN st) = 4 := by rw [e444]; exact hs432
      refine X_iinc (v := (x1 + 1)) C (j := 1) dX0_init_350 rfl rfl (lo2 := [(1, _), (0, _)]) (by decide) rfl ?_
      refine X_goto (tgt := 332) C dX0_init_353 (by decide) ?_
      refine X_sub [1, 0] (lo2 := [(0, _), (1, _)]) rfl ?_
      exact hK332 s443 x0 (x1 + 1) hs_x0 hb_x0 h
def w_X0_init_b356 (Φ : St → Prop) (st : St) : Prop := Φ st
theorem t_X0_init_b356 {θ : Th} {κ : Kx} {Ph : Ph} (h0 : L0 θ) {d : Nat} (hd : 3 ≤ d) (C : Cx θ κ yX0_init cX0_init 2 (none : Option Jvm.ClassFile.FieldType) [] d) {Φ : St → Prop} (hn : ∀ st, Φ st → Ph.1 st none) (st : St) (h : w_X0_init_b356 Φ st) : X θ κ Ph st 356 [] [] := by
  unfold w_X0_init_b356 at h
  exact X_vret C rfl dX0_init_356 (hn st h)
def w_X0_init_b330 (Φ : St → Prop) (st : St) (x0 : Nat) : Prop := w_X0_init_l332 Φ (fun (s445 : St) => w_X0_init_b356 Φ s445) gFU st x0 0
theorem t_X0_init_b330 {θ : Th} {κ : Kx} {Ph : Ph} (h0 : L0 θ) {d : Nat} (hd : 3 ≤ d) (C : Cx θ κ yX0_init cX0_init 2 (none : Option Jvm.ClassFile.FieldType) [] d) {Φ : St → Prop} (hn : ∀ st, Φ st → Ph.1 st none) (st : St) (x0 : Nat) (hs_x0 : sh st x0 = 1) (hb_x0 : x0 < gBIG) (h : w_X0_init_b330 Φ st x0) : X θ κ Ph st 330 [(0, .ref (ad θ x0))] [] := by
  unfold w_X0_init_b330 at h
  refine X_iconst (v := 0) C dX0_init_330 rfl ?_
  refine X_istore_n C dX0_init_331 rfl (lo2 := [(1, _), (0, _)]) (by decide) rfl ?_
  refine X_sub [1, 0] (lo2 := [(0, _), (1, _)]) rfl ?_
  refine t_X0_init_l332 h0 hd C hn ?_ gFU st x0 0 hs_x0 hb_x0 h
  · intro s445 h
    exact t_X0_init_b356 h0 hd C hn s445 h
def w_X0_init_b291 (Φ : St → Prop) (st : St) (x0 : Nat) : Prop := w_X0_init_l293 Φ (fun (s421 : St) (x0 : Nat) => w_X0_init_b330 Φ s421 x0) gFU st x0 0
theorem t_X0_init_b291 {θ : Th} {κ : Kx} {Ph : Ph} (h0 : L0 θ) {d : Nat} (hd : 3 ≤ d) (C : Cx θ κ yX0_init cX0_init 2 (none : Option Jvm.ClassFile.FieldType) [] d) {Φ : St → Prop} (hn : ∀ st, Φ st → Ph.1 st none) (st : St) (x0 : Nat) (hs_x0 : sh st x0 = 1) (hb_x0 : x0 < gBIG) (h : w_X0_init_b291 Φ st x0) : X θ κ Ph st 291 [(0, .ref (ad θ x0))] [] := by
  unfold w_X0_init_b291 at h
  refine X_iconst (v := 0) C dX0_init_291 rfl ?_
  refine X_istore_n C dX0_init_292 rfl (lo2 := [(1, _), (0, _)]) (by decide) rfl ?_
  refine X_sub [1, 0] (lo2 := [(0, _), (1, _)]) rfl ?_
  refine t_X0_init_l293 h0 hd C hn ?_ gFU st x0 0 hs_x0 hb_x0 h
  · intro s421 x0 hs_x0 hb_x0 h
    exact t_X0_init_b330 h0 hd C hn s421 x0 hs_x0 hb_x0 h
def w_X0_init (st : St) (a0 : Nat) (Φ : St → Prop) : Prop := sN st + 1 ≤ gCAP ∧ sS st + 9 ≤ gCAPS ∧ ∀ s3, s3 = mk st 101 9 → ∀ s9, s9 = putR s3 a0 0 (some (sN st)) → sN s9 + 1 ≤ gCAP ∧ sS s9 + 10 ≤ gCAPS ∧ ∀ s13, s13 = mk s9 2 10 → w_X1_init s13 (sN s9) (fun (s19 : St) => ∀ s26, s26 = putR s19 a0 1 (some (sN s9)) → sN s26 + 1 ≤ gCAP ∧ sS s26 + 10 ≤ gCAPS ∧ ∀ s30, s30 = mk s26 2 10 → w_X1_init s30 (sN s26) (fun (s36 : St) => ∀ s43, s43 = putR s36 a0 2 (some (sN s26)) → sN s43 + 1 ≤ gCAP ∧ sS s43 + 10 ≤ gCAPS ∧ ∀ s47, s47 = mk s43 2 10 → w_X1_init s47 (sN s43) (fun (s53 : St) => ∀ s60, s60 = putR s53 a0 3 (some (sN s43)) → ∀ s62, s62 = putI s60 a0 6 1 → sN s62 + 1 + 27 ≤ gCAP ∧ sS s62 + 27 + 27 * 3 ≤ gCAPS ∧ ∀ s64, s64 = mk2 s62 113 102 27 3 → ∀ s71, s71 = putR s64 a0 7 (some (sN s62)) → sN s71 + 1 + 4 ≤ gCAP ∧ sS s71 + 4 + 4 * 4 ≤ gCAPS ∧ ∀ s73, s73 = mk2 s71 113 102 4 4 → ∀ s80, s80 = putR s73 a0 10 (some (sN s71)) → sN s80 + 1 ≤ gCAP ∧ sS s80 + 16 ≤ gCAPS ∧ ∀ s84, s84 = mk s80 102 16 → ∀ s90, s90 = putR s84 a0 11 (some (sN s80)) → sN s90 + 1 ≤ gCAP ∧ sS s90 + 3 ≤ gCAPS ∧ ∀ s94, s94 = mk s90 101 3 → ∀ s100, s100 = putR s94 a0 12 (some (sN s90)) → sN s100 + 1 ≤ gCAP ∧ sS s100 + 3 ≤ gCAPS ∧ ∀ s104, s104 = mk s100 101 3 → ∀ s110, s110 = putR s104 a0 13 (some (sN s100)) → sN s110 + 1 ≤ gCAP ∧ sS s110 + 3 ≤ gCAPS ∧ ∀ s114, s114 = mk s110 102 3 → ∀ s120, s120 = putR s114 a0 14 (some (sN s110)) → sN s120 + 1 ≤ gCAP ∧ sS s120 + 3 ≤ gCAPS ∧ ∀ s124, s124 = mk s120 102 3 → ∀ s130, s130 = putR s124 a0 15 (some (sN s120)) → sN s130 + 1 ≤ gCAP ∧ sS s130 + 15 ≤ gCAPS ∧ ∀ s134, s134 = mk s130 114 15 → ∀ s140, s140 = putR s134 a0 18 (some (sN s130)) → sN s140 + 1 ≤ gCAP ∧ sS s140 + 3 ≤ gCAPS ∧ ∀ s144, s144 = mk s140 114 3 → ∀ s150, s150 = putR s144 a0 19 (some (sN s140)) → sN s150 + 1 ≤ gCAP ∧ sS s150 + 3 ≤ gCAPS ∧ ∀ s154, s154 = mk s150 114 3 → ∀ s160, s160 = putR s154 a0 20 (some (sN s150)) → sN s160 + 1 ≤ gCAP ∧ sS s160 + 3 ≤ gCAPS ∧ ∀ s164, s164 = mk s160 101 3 → ∀ s170, s170 = putR s164 a0 21 (some (sN s160)) → sN s170 + 1 ≤ gCAP ∧ sS s170 + 3 ≤ gCAPS ∧ ∀ s174, s174 = mk s170 101 3 → ∀ s180, s180 = putR s174 a0 22 (some (sN s170)) → sN s180 + 1 ≤ gCAP ∧ sS s180 + 2 ≤ gCAPS ∧ ∀ s184, s184 = mk s180 3 2 → w_X2_init s184 (sN s180) (fun (s190 : St) => ∀ s197, s197 = putR s190 a0 24 (some (sN s180)) → sN s197 + 1 ≤ gCAP ∧ sS s197 + 2 ≤ gCAPS ∧ ∀ s201, s201 = mk s197 3 2 → w_X2_init s201 (sN s197) (fun (s207 : St) => ∀ s214, s214 = putR s207 a0 25 (some (sN s197)) → sN s214 + 1 ≤ gCAP ∧ sS s214 + 2 ≤ gCAPS ∧ ∀ s218, s218 = mk s214 3 2 → w_X2_init s218 (sN s214) (fun (s224 : St) => ∀ s231, s231 = putR s224 a0 26 (some (sN s214)) → sN s231 + 1 ≤ gCAP ∧ sS s231 + 2 ≤ gCAPS ∧ ∀ s235, s235 = mk s231 3 2 → w_X2_init s235 (sN s231) (fun (s241 : St) => ∀ s248, s248 = putR s241 a0 27 (some (sN s231)) → sN s248 + 1 ≤ gCAP ∧ sS s248 + 2 ≤ gCAPS ∧ ∀ s252, s252 = mk s248 3 2 → w_X2_init s252 (sN s248) (fun (s258 : St) => ∀ s265, s265 = putR s258 a0 28 (some (sN s248)) → sN s265 + 1 ≤ gCAP ∧ sS s265 + 2 ≤ gCAPS ∧ ∀ s269, s269 = mk s265 3 2 → w_X2_init s269 (sN s265) (fun (s275 : St) => ∀ s282, s282 = putR s275 a0 29 (some (sN s265)) → sN s282 + 1 ≤ gCAP ∧ sS s282 + 2 ≤ gCAPS ∧ ∀ s286, s286 = mk s282 3 2 → w_X2_init s286 (sN s282) (fun (s292 : St) => ∀ s299, s299 = putR s292 a0 30 (some (sN s282)) → sN s299 + 1 ≤ gCAP ∧ sS s299 + 2 ≤ gCAPS ∧ ∀ s303, s303 = mk s299 3 2 → w_X2_init s303 (sN s299) (fun (s309 : St) => ∀ s316, s316 = putR s309 a0 31 (some (sN s299)) → sN s316 + 1 ≤ gCAP ∧ sS s316 + 200 ≤ gCAPS ∧ ∀ s320, s320 = mk s316 101 200 → ∀ s326, s326 = putR s320 a0 32 (some (sN s316)) → ∀ s330, s330 = putR s326 a0 42 (some (gBIG + 2 * 0)) → sN s330 + 1 ≤ gCAP ∧ sS s330 + 3 ≤ gCAPS ∧ ∀ s334, s334 = mk s330 101 3 → ∀ s340, s340 = putR s334 a0 45 (some (sN s330)) → sN s340 + 1 ≤ gCAP ∧ sS s340 + 5 ≤ gCAPS ∧ ∀ s344, s344 = mk s340 115 5 → ∀ s350, s350 = putR s344 a0 48 (some (sN s340)) → w_X0_init_l266 Φ (fun (s375 : St) (x0 : Nat) => w_X0_init_b291 Φ s375 x0) gFU s350 a0 0)))))))))))
theorem e_X0_init : plainFor yX0_init = true := plainFor_of_name (by decide +kernel)
theorem m_X0_init {θ : Th} {l : Launch} (hl0 : l.stackTraces = false) (h0 : L0 θ) {d : Nat} (hd : 3 ≤ d) (st : St) (a0 : Nat) (hs_a0 : sh st a0 = 1) (hb_a0 : a0 < gBIG) {Φ : St → Prop} (h : w_X0_init st a0 Φ) : Ct θ l yX0_init (ws_ yX0_init cX0_init 2 (none : Option Jvm.ClassFile.FieldType)) d [.ref (ad θ a0)] st (pV Φ, noX) := by
  refine Ct_entry hl0 e_X0_init (Nat.le_of_ble_eq_true rfl) (fun κ hκ _ C => ?_)
  have hn : ∀ st, Φ st → ((pV Φ, noX) : Ph).1 st none := fun st q => ⟨rfl, q⟩
  change X _ _ _ _ _ [(0, .ref (ad θ a0))] _
  unfold w_X0_init at h
  refine X_aload_n C dX0_init_0 rfl 0 rfl (isRV_r _) ?_
  refine X_objInit C ⟨_, rfl⟩ q167 q168 q169 (Nat.le_of_ble_eq_true rfl) dX0_init_1 ?_
  refine X_aload_n C dX0_init_4 rfl 0 rfl (isRV_r _) ?_
  refine X_bipush (v := 9) C dX0_init_5 rfl ?_
  have g1 := h.1
  have h := h.2
  have g2 := h.1
  have h := h.2
  refine X_newarray (t := 101) (aty := .int) C 0 rfl (by decide) rfl q229 (fun _ _ h => h) (by decide) rfl (by decide) (by decide) g1 g2 dX0_init_7 (fun hE5 => ?_)
  refine X_nm (fun s3 e4 => ?_)
  have h := h s3 e4
  rw [← e4] at hE5
  have hs_a0 := Ext_sh hE5 hs_a0 (by decide)
  have hs6 : sh s3 (sN st) = 101 := by rw [e4]; exact sh_mk
  have hl8 : ln s3 (sN st) = 9 := by rw [e4]; exact ln_mk
  have hb7 := nb_N g1
  refine X_putFR0 (v := (some (sN st))) (ci := 0) (j := 0) (q := (RX0, TX0, 49)) C h0 rfl rfl (by decide) q260 rfl rfl rfl dX0_init_9 hb_a0 hs_a0 (Or.inr ⟨_, rfl⟩) ?_
  refine X_nm (fun s9 e10 => ?_)
  have h := h s9 e10
  have hs_a0 : sh s9 a0 = 1 := by rw [e10]; exact hs_a0
  have hs6 : sh s9 (sN st) = 101 := by rw [e10]; exact hs6
  have hl8 : ln s9 (sN st) = 9 := by rw [e10]; exact hl8
  refine X_aload_n C dX0_init_12 rfl 0 rfl (isRV_r _) ?_
  have g11 := h.1
  have h := h.2
  have g12 := h.1
  have h := h.2
  refine X_new (ci := 1) (q := (RX1, TX1, 10)) C rfl q170 q171 q133 g11 g12 dX0_init_13 (fun hE15 => ?_)
  refine X_nm (fun s13 e14 => ?_)
  have h := h s13 e14
  rw [← e14] at hE15
  have hs_a0 := Ext_sh hE15 hs_a0 (by decide)
  have hl8 := Ext_ln hE15 (by rw [hs6]; decide) hl8
  have hs6 := Ext_sh hE15 hs6 (by decide)
  have hs16 : sh s13 (sN s9) = 2 := by rw [e14]; exact sh_mk
  have hb17 := nb_N g11
  refine X_dup C dX0_init_16 rfl ?_
  refine X_callI (As := []) (rest := [_, _]) C q172 q173 q133 q174 rfl nm_X1_init rfl dX0_init_17 (m_X1_init (Cx_l C) h0 (d := d - 1) (by omega) s13 (sN s9) hs16 hb17 h) (by omega) (by decide) (Nat.le_of_ble_eq_true rfl) (fun s19 w20 hE21 hP22 => ?_) (fun s25 E23 q24 hE21 hP22 => ?_)
  rotate_left
  · exact False.elim hP22
  obtain ⟨rfl, h⟩ := hP22
  refine X_tln ?_
  have hl8 := Ext_ln hE21 (by rw [hs6]; decide) hl8
  have hs_a0 := Ext_sh hE21 hs_a0 (by decide)
  have hs6 := Ext_sh hE21 hs6 (by decide)
  have hs16 := Ext_sh hE21 hs16 (by decide)
  refine X_putFR0 (v := (some (sN s9))) (ci := 0) (j := 1) (q := (RX0, TX0, 49)) C h0 rfl rfl (by decide) q261 rfl rfl rfl dX0_init_20 hb_a0 hs_a0 (Or.inl ⟨_, rfl⟩) ?_
  refine X_nm (fun s26 e27 => ?_)
  have h := h s26 e27
  have hs_a0 : sh s26 a0 = 1 := by rw [e27]; exact hs_a0
  have hs6 : sh s26 (sN st) = 101 := by rw [e27]; exact hs6
  have hl8 : ln s26 (sN st) = 9 := by rw [e27]; exact hl8
  have hs16 : sh s26 (sN s9) = 2 := by rw [e27]; exact hs16
  refine X_aload_n C dX0_init_23 rfl 0 rfl (isRV_r _) ?_
  have g28 := h.1
  have h := h.2
  have g29 := h.1
  have h := h.2
  refine X_new (ci := 1) (q := (RX1, TX1, 10)) C rfl q170 q171 q133 g28 g29 dX0_init_24 (fun hE32 => ?_)
  refine X_nm (fun s30 e31 => ?_)
  have h := h s30 e31
  rw [← e31] at hE32
  have hs_a0 := Ext_sh hE32 hs_a0 (by decide)
  have hl8 := Ext_ln hE32 (by rw [hs6]; decide) hl8
  have hs6 := Ext_sh hE32 hs6 (by decide)
  have hs16 := Ext_sh hE32 hs16 (by decide)
  have hs33 : sh s30 (sN s26) = 2 := by rw [e31]; exact sh_mk
  have hb34 := nb_N g28
  refine X_dup C dX0_init_27 rfl ?_
  refine X_callI (As := []) (rest := [_, _]) C q172 q173 q133 q174 rfl nm_X1_init rfl dX0_init_28 (m_X1_init (Cx_l C) h0 (d := d - 1) (by omega) s30 (sN s26) hs33 hb34 h) (by omega) (by decide) (Nat.le_of_ble_eq_true rfl) (fun s36 w37 hE38 hP39 => ?_) (fun s42 E40 q41 hE38 hP39 => ?_)
  rotate_left
  · exact False.elim hP39
  obtain ⟨rfl, h⟩ := hP39
  refine X_tln ?_
  have hl8 := Ext_ln hE38 (by rw [hs6]; decide) hl8
  have hs_a0 := Ext_sh hE38 hs_a0 (by decide)
  have hs6 := Ext_sh hE38 hs6 (by decide)
  have hs16 := Ext_sh hE38 hs16 (by decide)
  have hs33 := Ext_sh hE38 hs33 (by decide)
  refine X_putFR0 (v := (some (sN s26))) (ci := 0) (j := 2) (q := (RX0, TX0, 49)) C h0 rfl rfl (by decide) q262 rfl rfl rfl dX0_init_31 hb_a0 hs_a0 (Or.inl ⟨_, rfl⟩) ?_
  refine X_nm (fun s43 e44 => ?_)
  have h := h s43 e44
  have hs_a0 : sh s43 a0 = 1 := by rw [e44]; exact hs_a0
  have hs6 : sh s43 (sN st) = 101 := by rw [e44]; exact hs6
  have hl8 : ln s43 (sN st) = 9 := by rw [e44]; exact hl8
  have hs16 : sh s43 (sN s9) = 2 := by rw [e44]; exact hs16
  have hs33 : sh s43 (sN s26) = 2 := by rw [e44]; exact hs33
  refine X_aload_n C dX0_init_34 rfl 0 rfl (isRV_r _) ?_
  have g45 := h.1
  have h := h.2
  have g46 := h.1
  have h := h.2
  refine X_new (ci := 1) (q := (RX1, TX1, 10)) C rfl q170 q171 q133 g45 g46 dX0_init_35 (fun hE49 => ?_)
  refine X_nm (fun s47 e48 => ?_)
  have h := h s47 e48
  rw [← e48] at hE49
  have hs_a0 := Ext_sh hE49 hs_a0 (by decide)
  have hl8 := Ext_ln hE49 (by rw [hs6]; decide) hl8
  have hs6 := Ext_sh hE49 hs6 (by decide)
  have hs16 := Ext_sh hE49 hs16 (by decide)
  have hs33 := Ext_sh hE49 hs33 (by decide)
  have hs50 : sh s47 (sN s43) = 2 := by rw [e48]; exact sh_mk
  have hb51 := nb_N g45
  refine X_dup C dX0_init_38 rfl ?_
  refine X_callI (As := []) (rest := [_, _]) C q172 q173 q133 q174 rfl nm_X1_init rfl dX0_init_39 (m_X1_init (Cx_l C) h0 (d := d - 1) (by omega) s47 (sN s43) hs50 hb51 h) (by omega) (by decide) (Nat.le_of_ble_eq_true rfl) (fun s53 w54 hE55 hP56 => ?_) (fun s59 E57 q58 hE55 hP56 => ?_)
  rotate_left
  · exact False.elim hP56
  obtain ⟨rfl, h⟩ := hP56
  refine X_tln ?_
  have hl8 := Ext_ln hE55 (by rw [hs6]; decide) hl8
  have hs_a0 := Ext_sh hE55 hs_a0 (by decide)
  have hs6 := Ext_sh hE55 hs6 (by decide)
  have hs16 := Ext_sh hE55 hs16 (by decide)
  have hs33 := Ext_sh hE55 hs33 (by decide)
  have hs50 := Ext_sh hE55 hs50 (by decide)
  refine X_putFR0 (v := (some (sN s43))) (ci := 0) (j := 3) (q := (RX0, TX0, 49)) C h0 rfl rfl (by decide) q263 rfl rfl rfl dX0_init_42 hb_a0 hs_a0 (Or.inl ⟨_, rfl⟩) ?_
  refine X_nm (fun s60 e61 => ?_)
  have h := h s60 e61
  have hs_a0 : sh s60 a0 = 1 := by rw [e61]; exact hs_a0
  have hs6 : sh s60 (sN st) = 101 := by rw [e61]; exact hs6
  have hl8 : ln s60 (sN st) = 9 := by rw [e61]; exact hl8
  have hs16 : sh s60 (sN s9) = 2 := by rw [e61]; exact hs16
  have hs33 : sh s60 (sN s26) = 2 := by rw [e61]; exact hs33
  have hs50 : sh s60 (sN s43) = 2 := by rw [e61]; exact hs50
  refine X_aload_n C dX0_init_45 rfl 0 rfl (isRV_r _) ?_
  refine X_iconst (v := 1) C dX0_init_46 rfl ?_
  refine X_putI (ci := 0) (j := 6) (q := (RX0, TX0, 49)) C rfl (by decide) q266 rfl rfl dX0_init_47 hb_a0 hs_a0 rfl rfl rfl ?_
  refine X_nm (fun s62 e63 => ?_)
  have h := h s62 e63
  have hs_a0 : sh s62 a0 = 1 := by rw [e63]; exact hs_a0
  have hs6 : sh s62 (sN st) = 101 := by rw [e63]; exact hs6
  have hl8 : ln s62 (sN st) = 9 := by rw [e63]; exact hl8
  have hs16 : sh s62 (sN s9) = 2 := by rw [e63]; exact hs16
  have hs33 : sh s62 (sN s26) = 2 := by rw [e63]; exact hs33
  have hs50 : sh s62 (sN s43) = 2 := by rw [e63]; exact hs50
  refine X_aload_n C dX0_init_50 rfl 0 rfl (isRV_r _) ?_
  refine X_bipush (v := 27) C dX0_init_51 rfl ?_
  refine X_iconst (v := 3) C dX0_init_53 rfl ?_
  have g69 := h.1
  have h := h.2
  have g70 := h.1
  have h := h.2
  refine X_multi2 (c0 := 113) (c1 := 102) (n := 27) (k := 3) (ty := .long) (nm := "[[J") C h0 (t0 := 8) (t1 := 1) rfl rfl (by decide) (by decide) rfl (fun st a j v => by simp [acomp, sv, putR, sR]) rfl (fun _ _ h => h) (fun _ _ h => h) (by decide +kernel) (by decide) (by decide) rfl rfl (by decide) (by decide) (by decide) rfl rfl (by simp [gAA]) q246 q230 g69 g70 dX0_init_54 (fun hE66 => ?_)
  refine X_nm (fun s64 e65 => ?_)
  have h := h s64 e65
  have hs67 : sh s64 (sN s62) = 113 := by rw [e65]; exact mk2_sh
  have hb68 : sN s62 < gBIG := by unfold gBIG; unfold gCAP at g69; omega
  rw [← e65] at hE66
  have hs_a0 := Ext_sh hE66 hs_a0 (by decide)
  have hl8 := Ext_ln hE66 (by rw [hs6]; decide) hl8
  have hs6 := Ext_sh hE66 hs6 (by decide)
  have hs16 := Ext_sh hE66 hs16 (by decide)
  have hs33 := Ext_sh hE66 hs33 (by decide)
  have hs50 := Ext_sh hE66 hs50 (by decide)
  refine X_putFR0 (v := (some (sN s62))) (ci := 0) (j := 7) (q := (RX0, TX0, 49)) C h0 rfl rfl (by decide) q267 rfl rfl rfl dX0_init_58 hb_a0 hs_a0 (Or.inr ⟨_, rfl⟩) ?_
  refine X_nm (fun s71 e72 => ?_)
  have h := h s71 e72
  have hs_a0 : sh s71 a0 = 1 := by rw [e72]; exact hs_a0
  have hs6 : sh s71 (sN st) = 101 := by rw [e72]; exact hs6
  have hl8 : ln s71 (sN st) = 9 := by rw [e72]; exact hl8
  have hs16 : sh s71 (sN s9) = 2 := by rw [e72]; exact hs16
  have hs33 : sh s71 (sN s26) = 2 := by rw [e72]; exact hs33
  have hs50 : sh s71 (sN s43) = 2 := by rw [e72]; exact hs50
  have hs67 : sh s71 (sN s62) = 113 := by rw [e72]; exact hs67
  refine X_aload_n C dX0_init_61 rfl 0 rfl (isRV_r _) ?_
  refine X_iconst (v := 4) C dX0_init_62 rfl ?_
  refine X_iconst (v := 4) C dX0_init_63 rfl ?_
  have g78 := h.1
  have h := h.2
  have g79 := h.1
  have h := h.2
  refine X_multi2 (c0 := 113) (c1 := 102) (n := 4) (k := 4) (ty := .long) (nm := "[[J") C h0 (t0 := 8) (t1 := 1) rfl rfl (by decide) (by decide) rfl (fun st a j v => by simp [acomp, sv, putR, sR]) rfl (fun _ _ h => h) (fun _ _ h => h) (by decide +kernel) (by decide) (by decide) rfl rfl (by decide) (by decide) (by decide) rfl rfl (by simp [gAA]) q246 q230 g78 g79 dX0_init_64 (fun hE75 => ?_)
  refine X_nm (fun s73 e74 => ?_)
  have h := h s73 e74
  have hs76 : sh s73 (sN s71) = 113 := by rw [e74]; exact mk2_sh
  have hb77 : sN s71 < gBIG := by unfold gBIG; unfold gCAP at g78; omega
  rw [← e74] at hE75
  have hs_a0 := Ext_sh hE75 hs_a0 (by decide)
  have hl8 := Ext_ln hE75 (by rw [hs6]; decide) hl8
  have hs6 := Ext_sh hE75 hs6 (by decide)
  have hs16 := Ext_sh hE75 hs16 (by decide)
  have hs33 := Ext_sh hE75 hs33 (by decide)
  have hs50 := Ext_sh hE75 hs50 (by decide)
  have hs67 := Ext_sh hE75 hs67 (by decide)
  refine X_putFR0 (v := (some (sN s71))) (ci := 0) (j := 10) (q := (RX0, TX0, 49)) C h0 rfl rfl (by decide) q270 rfl rfl rfl dX0_init_68 hb_a0 hs_a0 (Or.inr ⟨_, rfl⟩) ?_
  refine X_nm (fun s80 e81 => ?_)
  have h := h s80 e81
  have hs_a0 : sh s80 a0 = 1 := by rw [e81]; exact hs_a0
  have hs6 : sh s80 (sN st) = 101 := by rw [e81]; exact hs6
  have hl8 : ln s80 (sN st) = 9 := by rw [e81]; exact hl8
  have hs16 : sh s80 (sN s9) = 2 := by rw [e81]; exact hs16
  have hs33 : sh s80 (sN s26) = 2 := by rw [e81]; exact hs33
  have hs50 : sh s80 (sN s43) = 2 := by rw [e81]; exact hs50
  have hs67 : sh s80 (sN s62) = 113 := by rw [e81]; exact hs67
  have hs76 : sh s80 (sN s71) = 113 := by rw [e81]; exact hs76
  refine X_aload_n C dX0_init_71 rfl 0 rfl (isRV_r _) ?_
  refine X_bipush (v := 16) C dX0_init_72 rfl ?_
  have g82 := h.1
  have h := h.2
  have g83 := h.1
  have h := h.2
  refine X_newarray (t := 102) (aty := .long) C 1 rfl (by decide) rfl q246 (fun _ _ h => h) (by decide) rfl (by decide) (by decide) g82 g83 dX0_init_74 (fun hE86 => ?_)
  refine X_nm (fun s84 e85 => ?_)
  have h := h s84 e85
  rw [← e85] at hE86
  have hs_a0 := Ext_sh hE86 hs_a0 (by decide)
  have hl8 := Ext_ln hE86 (by rw [hs6]; decide) hl8
  have hs6 := Ext_sh hE86 hs6 (by decide)
  have hs16 := Ext_sh hE86 hs16 (by decide)
  have hs33 := Ext_sh hE86 hs33 (by decide)
  have hs50 := Ext_sh hE86 hs50 (by decide)
  have hs67 := Ext_sh hE86 hs67 (by decide)
  have hs76 := Ext_sh hE86 hs76 (by decide)
  have hs87 : sh s84 (sN s80) = 102 := by rw [e85]; exact sh_mk
  have hl89 : ln s84 (sN s80) = 16 := by rw [e85]; exact ln_mk
  have hb88 := nb_N g82
  refine X_putFR0 (v := (some (sN s80))) (ci := 0) (j := 11) (q := (RX0, TX0, 49)) C h0 rfl rfl (by decide) q271 rfl rfl rfl dX0_init_76 hb_a0 hs_a0 (Or.inr ⟨_, rfl⟩) ?_
  refine X_nm (fun s90 e91 => ?_)
  have h := h s90 e91
  have hs_a0 : sh s90 a0 = 1 := by rw [e91]; exact hs_a0
  have hs6 : sh s90 (sN st) = 101 := by rw [e91]; exact hs6
  have hl8 : ln s90 (sN st) = 9 := by rw [e91]; exact hl8
  have hs16 : sh s90 (sN s9) = 2 := by rw [e91]; exact hs16
  have hs33 : sh s90 (sN s26) = 2 := by rw [e91]; exact hs33
  have hs50 : sh s90 (sN s43) = 2 := by rw [e91]; exact hs50
  have hs67 : sh s90 (sN s62) = 113 := by rw [e91]; exact hs67
  have hs76 : sh s90 (sN s71) = 113 := by rw [e91]; exact hs76
  have hs87 : sh s90 (sN s80) = 102 := by rw [e91]; exact hs87
  have hl89 : ln s90 (sN s80) = 16 := by rw [e91]; exact hl89
  refine X_aload_n C dX0_init_79 rfl 0 rfl (isRV_r _) ?_
  refine X_iconst (v := 3) C dX0_init_80 rfl ?_
  have g92 := h.1
  have h := h.2
  have g93 := h.1
  have h := h.2
  refine X_newarray (t := 101) (aty := .int) C 0 rfl (by decide) rfl q229 (fun _ _ h => h) (by decide) rfl (by decide) (by decide) g92 g93 dX0_init_81 (fun hE96 => ?_)
  refine X_nm (fun s94 e95 => ?_)
  have h := h s94 e95
  rw [← e95] at hE96
  have hs_a0 := Ext_sh hE96 hs_a0 (by decide)
  have hl8 := Ext_ln hE96 (by rw [hs6]; decide) hl8
  have hs6 := Ext_sh hE96 hs6 (by decide)
  have hs16 := Ext_sh hE96 hs16 (by decide)
  have hs33 := Ext_sh hE96 hs33 (by decide)
  have hs50 := Ext_sh hE96 hs50 (by decide)
  have hs67 := Ext_sh hE96 hs67 (by decide)
  have hs76 := Ext_sh hE96 hs76 (by decide)
  have hl89 := Ext_ln hE96 (by rw [hs87]; decide) hl89
  have hs87 := Ext_sh hE96 hs87 (by decide)
  have hs97 : sh s94 (sN s90) = 101 := by rw [e95]; exact sh_mk
  have hl99 : ln s94 (sN s90) = 3 := by rw [e95]; exact ln_mk
  have hb98 := nb_N g92
  refine X_putFR0 (v := (some (sN s90))) (ci := 0) (j := 12) (q := (RX0, TX0, 49)) C h0 rfl rfl (by decide) q272 rfl rfl rfl dX0_init_83 hb_a0 hs_a0 (Or.inr ⟨_, rfl⟩) ?_
  refine X_nm (fun s100 e101 => ?_)
  have h := h s100 e101
  have hs_a0 : sh s100 a0 = 1 := by rw [e101]; exact hs_a0
  have hs6 : sh s100 (sN st) = 101 := by rw [e101]; exact hs6
  have hl8 : ln s100 (sN st) = 9 := by rw [e101]; exact hl8
  have hs16 : sh s100 (sN s9) = 2 := by rw [e101]; exact hs16
  have hs33 : sh s100 (sN s26) = 2 := by rw [e101]; exact hs33
  have hs50 : sh s100 (sN s43) = 2 := by rw [e101]; exact hs50
  have hs67 : sh s100 (sN s62) = 113 := by rw [e101]; exact hs67
  have hs76 : sh s100 (sN s71) = 113 := by rw [e101]; exact hs76
  have hs87 : sh s100 (sN s80) = 102 := by rw [e101]; exact hs87
  have hl89 : ln s100 (sN s80) = 16 := by rw [e101]; exact hl89
  have hs97 : sh s100 (sN s90) = 101 := by rw [e101]; exact hs97
  have hl99 : ln s100 (sN s90) = 3 := by rw [e101]; exact hl99
  refine X_aload_n C dX0_init_86 rfl 0 rfl (isRV_r _) ?_
  refine X_iconst (v := 3) C dX0_init_87 rfl ?_
  have g102 := h.1
  have h := h.2
  have g103 := h.1
  have h := h.2
  refine X_newarray (t := 101) (aty := .int) C 0 rfl (by decide) rfl q229 (fun _ _ h => h) (by decide) rfl (by decide) (by decide) g102 g103 dX0_init_88 (fun hE106 => ?_)
  refine X_nm (fun s104 e105 => ?_)
  have h := h s104 e105
  rw [← e105] at hE106
  have hs_a0 := Ext_sh hE106 hs_a0 (by decide)
  have hl8 := Ext_ln hE106 (by rw [hs6]; decide) hl8
  have hs6 := Ext_sh hE106 hs6 (by decide)
  have hs16 := Ext_sh hE106 hs16 (by decide)
  have hs33 := Ext_sh hE106 hs33 (by decide)
  have hs50 := Ext_sh hE106 hs50 (by decide)
  have hs67 := Ext_sh hE106 hs67 (by decide)
  have hs76 := Ext_sh hE106 hs76 (by decide)
  have hl89 := Ext_ln hE106 (by rw [hs87]; decide) hl89
  have hs87 := Ext_sh hE106 hs87 (by decide)
  have hl99 := Ext_ln hE106 (by rw [hs97]; decide) hl99
  have hs97 := Ext_sh hE106 hs97 (by decide)
  have hs107 : sh s104 (sN s100) = 101 := by rw [e105]; exact sh_mk
  have hl109 : ln s104 (sN s100) = 3 := by rw [e105]; exact ln_mk
  have hb108 := nb_N g102
  refine X_putFR0 (v := (some (sN s100))) (ci := 0) (j := 13) (q := (RX0, TX0, 49)) C h0 rfl rfl (by decide) q273 rfl rfl rfl dX0_init_90 hb_a0 hs_a0 (Or.inr ⟨_, rfl⟩) ?_
  refine X_nm (fun s110 e111 => ?_)
  have h := h s110 e111
  have hs_a0 : sh s110 a0 = 1 := by rw [e111]; exact hs_a0
  have hs6 : sh s110 (sN st) = 101 := by rw [e111]; exact hs6
  have hl8 : ln s110 (sN st) = 9 := by rw [e111]; exact hl8
  have hs16 : sh s110 (sN s9) = 2 := by rw [e111]; exact hs16
  have hs33 : sh s110 (sN s26) = 2 := by rw [e111]; exact hs33
  have hs50 : sh s110 (sN s43) = 2 := by rw [e111]; exact hs50
  have hs67 : sh s110 (sN s62) = 113 := by rw [e111]; exact hs67
  have hs76 : sh s110 (sN s71) = 113 := by rw [e111]; exact hs76
  have hs87 : sh s110 (sN s80) = 102 := by rw [e111]; exact hs87
  have hl89 : ln s110 (sN s80) = 16 := by rw [e111]; exact hl89
  have hs97 : sh s110 (sN s90) = 101 := by rw [e111]; exact hs97
  have hl99 : ln s110 (sN s90) = 3 := by rw [e111]; exact hl99
  have hs107 : sh s110 (sN s100) = 101 := by rw [e111]; exact hs107
  have hl109 : ln s110 (sN s100) = 3 := by rw [e111]; exact hl109
  refine X_aload_n C dX0_init_93 rfl 0 rfl (isRV_r _) ?_
  refine X_iconst (v := 3) C dX0_init_94 rfl ?_
  have g112 := h.1
  have h := h.2
  have g113 := h.1
  have h := h.2
  refine X_newarray (t := 102) (aty := .long) C 1 rfl (by decide) rfl q246 (fun _ _ h => h) (by decide) rfl (by decide) (by decide) g112 g113 dX0_init_95 (fun hE116 => ?_)
  refine X_nm (fun s114 e115 => ?_)
  have h := h s114 e115
  rw [← e115] at hE116
  have hs_a0 := Ext_sh hE116 hs_a0 (by decide)
  have hl8 := Ext_ln hE116 (by rw [hs6]; decide) hl8
  have hs6 := Ext_sh hE116 hs6 (by decide)
  have hs16 := Ext_sh hE116 hs16 (by decide)
  have hs33 := Ext_sh hE116 hs33 (by decide)
  have hs50 := Ext_sh hE116 hs50 (by decide)
  have hs67 := Ext_sh hE116 hs67 (by decide)
  have hs76 := Ext_sh hE116 hs76 (by decide)
  have hl89 := Ext_ln hE116 (by rw [hs87]; decide) hl89
  have hs87 := Ext_sh hE116 hs87 (by decide)
  have hl99 := Ext_ln hE116 (by rw [hs97]; decide) hl99
  have hs97 := Ext_sh hE116 hs97 (by decide)
  have hl109 := Ext_ln hE116 (by rw [hs107]; decide) hl109
  have hs107 := Ext_sh hE116 hs107 (by decide)
  have hs117 : sh s114 (sN s110) = 102 := by rw [e115]; exact sh_mk
  have hl119 : ln s114 (sN s110) = 3 := by rw [e115]; exact ln_mk
  have hb118 := nb_N g112
  refine X_putFR0 (v := (some (sN s110))) (ci := 0) (j := 14) (q := (RX0, TX0, 49)) C h0 rfl rfl (by decide) q274 rfl rfl rfl dX0_init_97 hb_a0 hs_a0 (Or.inr ⟨_, rfl⟩) ?_
  refine X_nm (fun s120 e121 => ?_)
  have h := h s120 e121
  have hs_a0 : sh s120 a0 = 1 := by rw [e121]; exact hs_a0
  have hs6 : sh s120 (sN st) = 101 := by rw [e121]; exact hs6
  have hl8 : ln s120 (sN st) = 9 := by rw [e121]; exact hl8
  have hs16 : sh s120 (sN s9) = 2 := by rw [e121]; exact hs16
  have hs33 : sh s120 (sN s26) = 2 := by rw [e121]; exact hs33
  have hs50 : sh s120 (sN s43) = 2 := by rw [e121]; exact hs50
  have hs67 : sh s120 (sN s62) = 113 := by rw [e121]; exact hs67
  have hs76 : sh s120 (sN s71) = 113 := by rw [e121]; exact hs76
  have hs87 : sh s120 (sN s80) = 102 := by rw [e121]; exact hs87
  have hl89 : ln s120 (sN s80) = 16 := by rw [e121]; exact hl89
  have hs97 : sh s120 (sN s90) = 101 := by rw [e121]; exact hs97
  have hl99 : ln s120 (sN s90) = 3 := by rw [e121]; exact hl99
  have hs107 : sh s120 (sN s100) = 101 := by rw [e121]; exact hs107
  have hl109 : ln s120 (sN s100) = 3 := by rw [e121]; exact hl109
  have hs117 : sh s120 (sN s110) = 102 := by rw [e121]; exact hs117
  have hl119 : ln s120 (sN s110) = 3 := by rw [e121]; exact hl119
  refine X_aload_n C dX0_init_100 rfl 0 rfl (isRV_r _) ?_
  refine X_iconst (v := 3) C dX0_init_101 rfl ?_
  have g122 := h.1
  have h := h.2
  have g123 := h.1
  have h := h.2
  refine X_newarray (t := 102) (aty := .long) C 1 rfl (by decide) rfl q246 (fun _ _ h => h) (by decide) rfl (by decide) (by decide) g122 g123 dX0_init_102 (fun hE126 => ?_)
  refine X_nm (fun s124 e125 => ?_)
  have h := h s124 e125
  rw [← e125] at hE126
  have hs_a0 := Ext_sh hE126 hs_a0 (by decide)
  have hl8 := Ext_ln hE126 (by rw [hs6]; decide) hl8
  have hs6 := Ext_sh hE126 hs6 (by decide)
  have hs16 := Ext_sh hE126 hs16 (by decide)
  have hs33 := Ext_sh hE126 hs33 (by decide)
  have hs50 := Ext_sh hE126 hs50 (by decide)
  have hs67 := Ext_sh hE126 hs67 (by decide)
  have hs76 := Ext_sh hE126 hs76 (by decide)
  have hl89 := Ext_ln hE126 (by rw [hs87]; decide) hl89
  have hs87 := Ext_sh hE126 hs87 (by decide)
  have hl99 := Ext_ln hE126 (by rw [hs97]; decide) hl99
  have hs97 := Ext_sh hE126 hs97 (by decide)
  have hl109 := Ext_ln hE126 (by rw [hs107]; decide) hl109
  have hs107 := Ext_sh hE126 hs107 (by decide)
  have hl119 := Ext_ln hE126 (by rw [hs117]; decide) hl119
  have hs117 := Ext_sh hE126 hs117 (by decide)
  have hs127 : sh s124 (sN s120) = 102 := by rw [e125]; exact sh_mk
  have hl129 : ln s124 (sN s120) = 3 := by rw [e125]; exact ln_mk
  have hb128 := nb_N g122
  refine X_putFR0 (v := (some (sN s120))) (ci := 0) (j := 15) (q := (RX0, TX0, 49)) C h0 rfl rfl (by decide) q275 rfl rfl rfl dX0_init_104 hb_a0 hs_a0 (Or.inr ⟨_, rfl⟩) ?_
  refine X_nm (fun s130 e131 => ?_)
  have h := h s130 e131
  have hs_a0 : sh s130 a0 = 1 := by rw [e131]; exact hs_a0
  have hs6 : sh s130 (sN st) = 101 := by rw [e131]; exact hs6
  have hl8 : ln s130 (sN st) = 9 := by rw [e131]; exact hl8
  have hs16 : sh s130 (sN s9) = 2 := by rw [e131]; exact hs16
  have hs33 : sh s130 (sN s26) = 2 := by rw [e131]; exact hs33
  have hs50 : sh s130 (sN s43) = 2 := by rw [e131]; exact hs50
  have hs67 : sh s130 (sN s62) = 113 := by rw [e131]; exact hs67
  have hs76 : sh s130 (sN s71) = 113 := by rw [e131]; exact hs76
  have hs87 : sh s130 (sN s80) = 102 := by rw [e131]; exact hs87
  have hl89 : ln s130 (sN s80) = 16 := by rw [e131]; exact hl89
  have hs97 : sh s130 (sN s90) = 101 := by rw [e131]; exact hs97
  have hl99 : ln s130 (sN s90) = 3 := by rw [e131]; exact hl99
  have hs107 : sh s130 (sN s100) = 101 := by rw [e131]; exact hs107
  have hl109 : ln s130 (sN s100) = 3 := by rw [e131]; exact hl109
  have hs117 : sh s130 (sN s110) = 102 := by rw [e131]; exact hs117
  have hl119 : ln s130 (sN s110) = 3 := by rw [e131]; exact hl119
  have hs127 : sh s130 (sN s120) = 102 := by rw [e131]; exact hs127
  have hl129 : ln s130 (sN s120) = 3 := by rw [e131]; exact hl129
  refine X_aload_n C dX0_init_107 rfl 0 rfl (isRV_r _) ?_
  refine X_bipush (v := 15) C dX0_init_108 rfl ?_
  have g132 := h.1
  have h := h.2
  have g133 := h.1
  have h := h.2
  refine X_anewarray (t := 114) C 9 rfl (by decide) (Cn := "SecretsWorth$Ratio") rfl q232 (by decide) (by decide) rfl (by decide) g132 g133 dX0_init_110 (fun hE136 => ?_)
  refine X_nm (fun s134 e135 => ?_)
  have h := h s134 e135
  rw [← e135] at hE136
  have hs_a0 := Ext_sh hE136 hs_a0 (by decide)
  have hl8 := Ext_ln hE136 (by rw [hs6]; decide) hl8
  have hs6 := Ext_sh hE136 hs6 (by decide)
  have hs16 := Ext_sh hE136 hs16 (by decide)
  have hs33 := Ext_sh hE136 hs33 (by decide)
  have hs50 := Ext_sh hE136 hs50 (by decide)
  have hs67 := Ext_sh hE136 hs67 (by decide)
  have hs76 := Ext_sh hE136 hs76 (by decide)
  have hl89 := Ext_ln hE136 (by rw [hs87]; decide) hl89
  have hs87 := Ext_sh hE136 hs87 (by decide)
  have hl99 := Ext_ln hE136 (by rw [hs97]; decide) hl99
  have hs97 := Ext_sh hE136 hs97 (by decide)
  have hl109 := Ext_ln hE136 (by rw [hs107]; decide) hl109
  have hs107 := Ext_sh hE136 hs107 (by decide)
  have hl119 := Ext_ln hE136 (by rw [hs117]; decide) hl119
  have hs117 := Ext_sh hE136 hs117 (by decide)
  have hl129 := Ext_ln hE136 (by rw [hs127]; decide) hl129
  have hs127 := Ext_sh hE136 hs127 (by decide)
  have hs137 : sh s134 (sN s130) = 114 := by rw [e135]; exact sh_mk
  have hl139 : ln s134 (sN s130) = 15 := by rw [e135]; exact ln_mk
  have hb138 := nb_N g132
  refine X_putFR0 (v := (some (sN s130))) (ci := 0) (j := 18) (q := (RX0, TX0, 49)) C h0 rfl rfl (by decide) q278 rfl rfl rfl dX0_init_113 hb_a0 hs_a0 (Or.inr ⟨_, rfl⟩) ?_
  refine X_nm (fun s140 e141 => ?_)
  have h := h s140 e141
  have hs_a0 : sh s140 a0 = 1 := by rw [e141]; exact hs_a0
  have hs6 : sh s140 (sN st) = 101 := by rw [e141]; exact hs6
  have hl8 : ln s140 (sN st) = 9 := by rw [e141]; exact hl8
  have hs16 : sh s140 (sN s9) = 2 := by rw [e141]; exact hs16
  have hs33 : sh s140 (sN s26) = 2 := by rw [e141]; exact hs33
  have hs50 : sh s140 (sN s43) = 2 := by rw [e141]; exact hs50
  have hs67 : sh s140 (sN s62) = 113 := by rw [e141]; exact hs67
  have hs76 : sh s140 (sN s71) = 113 := by rw [e141]; exact hs76
  have hs87 : sh s140 (sN s80) = 102 := by rw [e141]; exact hs87
  have hl89 : ln s140 (sN s80) = 16 := by rw [e141]; exact hl89
  have hs97 : sh s140 (sN s90) = 101 := by rw [e141]; exact hs97
  have hl99 : ln s140 (sN s90) = 3 := by rw [e141]; exact hl99
  have hs107 : sh s140 (sN s100) = 101 := by rw [e141]; exact hs107
  have hl109 : ln s140 (sN s100) = 3 := by rw [e141]; exact hl109
  have hs117 : sh s140 (sN s110) = 102 := by rw [e141]; exact hs117
  have hl119 : ln s140 (sN s110) = 3 := by rw [e141]; exact hl119
  have hs127 : sh s140 (sN s120) = 102 := by rw [e141]; exact hs127
  have hl129 : ln s140 (sN s120) = 3 := by rw [e141]; exact hl129
  have hs137 : sh s140 (sN s130) = 114 := by rw [e141]; exact hs137
  have hl139 : ln s140 (sN s130) = 15 := by rw [e141]; exact hl139
  refine X_aload_n C dX0_init_116 rfl 0 rfl (isRV_r _) ?_
  refine X_iconst (v := 3) C dX0_init_117 rfl ?_
  have g142 := h.1
  have h := h.2
  have g143 := h.1
  have h := h.2
  refine X_anewarray (t := 114) C 9 rfl (by decide) (Cn := "SecretsWorth$Ratio") rfl q232 (by decide) (by decide) rfl (by decide) g142 g143 dX0_init_118 (fun hE146 => ?_)
  refine X_nm (fun s144 e145 => ?_)
  have h := h s144 e145
  rw [← e145] at hE146
  have hs_a0 := Ext_sh hE146 hs_a0 (by decide)
  have hl8 := Ext_ln hE146 (by rw [hs6]; decide) hl8
  have hs6 := Ext_sh hE146 hs6 (by decide)
  have hs16 := Ext_sh hE146 hs16 (by decide)
  have hs33 := Ext_sh hE146 hs33 (by decide)
  have hs50 := Ext_sh hE146 hs50 (by decide)
  have hs67 := Ext_sh hE146 hs67 (by decide)
  have hs76 := Ext_sh hE146 hs76 (by decide)
  have hl89 := Ext_ln hE146 (by rw [hs87]; decide) hl89
  have hs87 := Ext_sh hE146 hs87 (by decide)
  have hl99 := Ext_ln hE146 (by rw [hs97]; decide) hl99
  have hs97 := Ext_sh hE146 hs97 (by decide)
  have hl109 := Ext_ln hE146 (by rw [hs107]; decide) hl109
  have hs107 := Ext_sh hE146 hs107 (by decide)
  have hl119 := Ext_ln hE146 (by rw [hs117]; decide) hl119
  have hs117 := Ext_sh hE146 hs117 (by decide)
  have hl129 := Ext_ln hE146 (by rw [hs127]; decide) hl129
  have hs127 := Ext_sh hE146 hs127 (by decide)
  have hl139 := Ext_ln hE146 (by rw [hs137]; decide) hl139
  have hs137 := Ext_sh hE146 hs137 (by decide)
  have hs147 : sh s144 (sN s140) = 114 := by rw [e145]; exact sh_mk
  have hl149 : ln s144 (sN s140) = 3 := by rw [e145]; exact ln_mk
  have hb148 := nb_N g142
  refine X_putFR0 (v := (some (sN s140))) (ci := 0) (j := 19) (q := (RX0, TX0, 49)) C h0 rfl rfl (by decide) q279 rfl rfl rfl dX0_init_121 hb_a0 hs_a0 (Or.inr ⟨_, rfl⟩) ?_
  refine X_nm (fun s150 e151 => ?_)
  have h := h s150 e151
  have hs_a0 : sh s150 a0 = 1 := by rw [e151]; exact hs_a0
  have hs6 : sh s150 (sN st) = 101 := by rw [e151]; exact hs6
  have hl8 : ln s150 (sN st) = 9 := by rw [e151]; exact hl8
  have hs16 : sh s150 (sN s9) = 2 := by rw [e151]; exact hs16
  have hs33 : sh s150 (sN s26) = 2 := by rw [e151]; exact hs33
  have hs50 : sh s150 (sN s43) = 2 := by rw [e151]; exact hs50
  have hs67 : sh s150 (sN s62) = 113 := by rw [e151]; exact hs67
  have hs76 : sh s150 (sN s71) = 113 := by rw [e151]; exact hs76
  have hs87 : sh s150 (sN s80) = 102 := by rw [e151]; exact hs87
  have hl89 : ln s150 (sN s80) = 16 := by rw [e151]; exact hl89
  have hs97 : sh s150 (sN s90) = 101 := by rw [e151]; exact hs97
  have hl99 : ln s150 (sN s90) = 3 := by rw [e151]; exact hl99
  have hs107 : sh s150 (sN s100) = 101 := by rw [e151]; exact hs107
  have hl109 : ln s150 (sN s100) = 3 := by rw [e151]; exact hl109
  have hs117 : sh s150 (sN s110) = 102 := by rw [e151]; exact hs117
  have hl119 : ln s150 (sN s110) = 3 := by rw [e151]; exact hl119
  have hs127 : sh s150 (sN s120) = 102 := by rw [e151]; exact hs127
  have hl129 : ln s150 (sN s120) = 3 := by rw [e151]; exact hl129
  have hs137 : sh s150 (sN s130) = 114 := by rw [e151]; exact hs137
  have hl139 : ln s150 (sN s130) = 15 := by rw [e151]; exact hl139
  have hs147 : sh s150 (sN s140) = 114 := by rw [e151]; exact hs147
  have hl149 : ln s150 (sN s140) = 3 := by rw [e151]; exact hl149
  refine X_aload_n C dX0_init_124 rfl 0 rfl (isRV_r _) ?_
  refine X_iconst (v := 3) C dX0_init_125 rfl ?_
  have g152 := h.1
  have h := h.2
  have g153 := h.1
  have h := h.2
  refine X_anewarray (t := 114) C 9 rfl (by decide) (Cn := "SecretsWorth$Ratio") rfl q232 (by decide) (by decide) rfl (by decide) g152 g153 dX0_init_126 (fun hE156 => ?_)
  refine X_nm (fun s154 e155 => ?_)
  have h := h s154 e155
  rw [← e155] at hE156
  have hs_a0 := Ext_sh hE156 hs_a0 (by decide)
  have hl8 := Ext_ln hE156 (by rw [hs6]; decide) hl8
  have hs6 := Ext_sh hE156 hs6 (by decide)
  have hs16 := Ext_sh hE156 hs16 (by decide)
  have hs33 := Ext_sh hE156 hs33 (by decide)
  have hs50 := Ext_sh hE156 hs50 (by decide)
  have hs67 := Ext_sh hE156 hs67 (by decide)
  have hs76 := Ext_sh hE156 hs76 (by decide)
  have hl89 := Ext_ln hE156 (by rw [hs87]; decide) hl89
  have hs87 := Ext_sh hE156 hs87 (by decide)
  have hl99 := Ext_ln hE156 (by rw [hs97]; decide) hl99
  have hs97 := Ext_sh hE156 hs97 (by decide)
  have hl109 := Ext_ln hE156 (by rw [hs107]; decide) hl109
  have hs107 := Ext_sh hE156 hs107 (by decide)
  have hl119 := Ext_ln hE156 (by rw [hs117]; decide) hl119
  have hs117 := Ext_sh hE156 hs117 (by decide)
  have hl129 := Ext_ln hE156 (by rw [hs127]; decide) hl129
  have hs127 := Ext_sh hE156 hs127 (by decide)
  have hl139 := Ext_ln hE156 (by rw [hs137]; decide) hl139
  have hs137 := Ext_sh hE156 hs137 (by decide)
  have hl149 := Ext_ln hE156 (by rw [hs147]; decide) hl149
  have hs147 := Ext_sh hE156 hs147 (by decide)
  have hs157 : sh s154 (sN s150) = 114 := by rw [e155]; exact sh_mk
  have hl159 : ln s154 (sN s150) = 3 := by rw [e155]; exact ln_mk
  have hb158 := nb_N g152
  refine X_putFR0 (v := (some (sN s150))) (ci := 0) (j := 20) (q := (RX0, TX0, 49)) C h0 rfl rfl (by decide) q280 rfl rfl rfl dX0_init_129 hb_a0 hs_a0 (Or.inr ⟨_, rfl⟩) ?_
  refine X_nm (fun s160 e161 => ?_)
  have h := h s160 e161
  have hs_a0 : sh s160 a0 = 1 := by rw [e161]; exact hs_a0
  have hs6 : sh s160 (sN st) = 101 := by rw [e161]; exact hs6
  have hl8 : ln s160 (sN st) = 9 := by rw [e161]; exact hl8
  have hs16 : sh s160 (sN s9) = 2 := by rw [e161]; exact hs16
  have hs33 : sh s160 (sN s26) = 2 := by rw [e161]; exact hs33
  have hs50 : sh s160 (sN s43) = 2 := by rw [e161]; exact hs50
  have hs67 : sh s160 (sN s62) = 113 := by rw [e161]; exact hs67
  have hs76 : sh s160 (sN s71) = 113 := by rw [e161]; exact hs76
  have hs87 : sh s160 (sN s80) = 102 := by rw [e161]; exact hs87
  have hl89 : ln s160 (sN s80) = 16 := by rw [e161]; exact hl89
  have hs97 : sh s160 (sN s90) = 101 := by rw [e161]; exact hs97
  have hl99 : ln s160 (sN s90) = 3 := by rw [e161]; exact hl99
  have hs107 : sh s160 (sN s100) = 101 := by rw [e161]; exact hs107
  have hl109 : ln s160 (sN s100) = 3 := by rw [e161]; exact hl109
  have hs117 : sh s160 (sN s110) = 102 := by rw [e161]; exact hs117
  have hl119 : ln s160 (sN s110) = 3 := by rw [e161]; exact hl119
  have hs127 : sh s160 (sN s120) = 102 := by rw [e161]; exact hs127
  have hl129 : ln s160 (sN s120) = 3 := by rw [e161]; exact hl129
  have hs137 : sh s160 (sN s130) = 114 := by rw [e161]; exact hs137
  have hl139 : ln s160 (sN s130) = 15 := by rw [e161]; exact hl139
  have hs147 : sh s160 (sN s140) = 114 := by rw [e161]; exact hs147
  have hl149 : ln s160 (sN s140) = 3 := by rw [e161]; exact hl149
  have hs157 : sh s160 (sN s150) = 114 := by rw [e161]; exact hs157
  have hl159 : ln s160 (sN s150) = 3 := by rw [e161]; exact hl159
  refine X_aload_n C dX0_init_132 rfl 0 rfl (isRV_r _) ?_
  refine X_iconst (v := 3) C dX0_init_133 rfl ?_
  have g162 := h.1
  have h := h.2
  have g163 := h.1
  have h := h.2
  refine X_newarray (t := 101) (aty := .int) C 0 rfl (by decide) rfl q229 (fun _ _ h => h) (by decide) rfl (by decide) (by decide) g162 g163 dX0_init_134 (fun hE166 => ?_)
  refine X_nm (fun s164 e165 => ?_)
  have h := h s164 e165
  rw [← e165] at hE166
  have hs_a0 := Ext_sh hE166 hs_a0 (by decide)
  have hl8 := Ext_ln hE166 (by rw [hs6]; decide) hl8
  have hs6 := Ext_sh hE166 hs6 (by decide)
  have hs16 := Ext_sh hE166 hs16 (by decide)
  have hs33 := Ext_sh hE166 hs33 (by decide)
  have hs50 := Ext_sh hE166 hs50 (by decide)
  have hs67 := Ext_sh hE166 hs67 (by decide)
  have hs76 := Ext_sh hE166 hs76 (by decide)
  have hl89 := Ext_ln hE166 (by rw [hs87]; decide) hl89
  have hs87 := Ext_sh hE166 hs87 (by decide)
  have hl99 := Ext_ln hE166 (by rw [hs97]; decide) hl99
  have hs97 := Ext_sh hE166 hs97 (by decide)
  have hl109 := Ext_ln hE166 (by rw [hs107]; decide) hl109
  have hs107 := Ext_sh hE166 hs107 (by decide)
  have hl119 := Ext_ln hE166 (by rw [hs117]; decide) hl119
  have hs117 := Ext_sh hE166 hs117 (by decide)
  have hl129 := Ext_ln hE166 (by rw [hs127]; decide) hl129
  have hs127 := Ext_sh hE166 hs127 (by decide)
  have hl139 := Ext_ln hE166 (by rw [hs137]; decide) hl139
  have hs137 := Ext_sh hE166 hs137 (by decide)
  have hl149 := Ext_ln hE166 (by rw [hs147]; decide) hl149
  have hs147 := Ext_sh hE166 hs147 (by decide)
  have hl159 := Ext_ln hE166 (by rw [hs157]; decide) hl159
  have hs157 := Ext_sh hE166 hs157 (by decide)
  have hs167 : sh s164 (sN s160) = 101 := by rw [e165]; exact sh_mk
  have hl169 : ln s164 (sN s160) = 3 := by rw [e165]; exact ln_mk
  have hb168 := nb_N g162
  refine X_putFR0 (v := (some (sN s160))) (ci := 0) (j := 21) (q := (RX0, TX0, 49)) C h0 rfl rfl (by decide) q281 rfl rfl rfl dX0_init_136 hb_a0 hs_a0 (Or.inr ⟨_, rfl⟩) ?_
  refine X_nm (fun s170 e171 => ?_)
  have h := h s170 e171
  have hs_a0 : sh s170 a0 = 1 := by rw [e171]; exact hs_a0
  have hs6 : sh s170 (sN st) = 101 := by rw [e171]; exact hs6
  have hl8 : ln s170 (sN st) = 9 := by rw [e171]; exact hl8
  have hs16 : sh s170 (sN s9) = 2 := by rw [e171]; exact hs16
  have hs33 : sh s170 (sN s26) = 2 := by rw [e171]; exact hs33
  have hs50 : sh s170 (sN s43) = 2 := by rw [e171]; exact hs50
  have hs67 : sh s170 (sN s62) = 113 := by rw [e171]; exact hs67
  have hs76 : sh s170 (sN s71) = 113 := by rw [e171]; exact hs76
  have hs87 : sh s170 (sN s80) = 102 := by rw [e171]; exact hs87
  have hl89 : ln s170 (sN s80) = 16 := by rw [e171]; exact hl89
  have hs97 : sh s170 (sN s90) = 101 := by rw [e171]; exact hs97
  have hl99 : ln s170 (sN s90) = 3 := by rw [e171]; exact hl99
  have hs107 : sh s170 (sN s100) = 101 := by rw [e171]; exact hs107
  have hl109 : ln s170 (sN s100) = 3 := by rw [e171]; exact hl109
  have hs117 : sh s170 (sN s110) = 102 := by rw [e171]; exact hs117
  have hl119 : ln s170 (sN s110) = 3 := by rw [e171]; exact hl119
  have hs127 : sh s170 (sN s120) = 102 := by rw [e171]; exact hs127
  have hl129 : ln s170 (sN s120) = 3 := by rw [e171]; exact hl129
  have hs137 : sh s170 (sN s130) = 114 := by rw [e171]; exact hs137
  have hl139 : ln s170 (sN s130) = 15 := by rw [e171]; exact hl139
  have hs147 : sh s170 (sN s140) = 114 := by rw [e171]; exact hs147
  have hl149 : ln s170 (sN s140) = 3 := by rw [e171]; exact hl149
  have hs157 : sh s170 (sN s150) = 114 := by rw [e171]; exact hs157
  have hl159 : ln s170 (sN s150) = 3 := by rw [e171]; exact hl159
  have hs167 : sh s170 (sN s160) = 101 := by rw [e171]; exact hs167
  have hl169 : ln s170 (sN s160) = 3 := by rw [e171]; exact hl169
  refine X_aload_n C dX0_init_139 rfl 0 rfl (isRV_r _) ?_
  refine X_iconst (v := 3) C dX0_init_140 rfl ?_
  have g172 := h.1
  have h := h.2
  have g173 := h.1
  have h := h.2
  refine X_newarray (t := 101) (aty := .int) C 0 rfl (by decide) rfl q229 (fun _ _ h => h) (by decide) rfl (by decide) (by decide) g172 g173 dX0_init_141 (fun hE176 => ?_)
  refine X_nm (fun s174 e175 => ?_)
  have h := h s174 e175
  rw [← e175] at hE176
  have hs_a0 := Ext_sh hE176 hs_a0 (by decide)
  have hl8 := Ext_ln hE176 (by rw [hs6]; decide) hl8
  have hs6 := Ext_sh hE176 hs6 (by decide)
  have hs16 := Ext_sh hE176 hs16 (by decide)
  have hs33 := Ext_sh hE176 hs33 (by decide)
  have hs50 := Ext_sh hE176 hs50 (by decide)
  have hs67 := Ext_sh hE176 hs67 (by decide)
  have hs76 := Ext_sh hE176 hs76 (by decide)
  have hl89 := Ext_ln hE176 (by rw [hs87]; decide) hl89
  have hs87 := Ext_sh hE176 hs87 (by decide)
  have hl99 := Ext_ln hE176 (by rw [hs97]; decide) hl99
  have hs97 := Ext_sh hE176 hs97 (by decide)
  have hl109 := Ext_ln hE176 (by rw [hs107]; decide) hl109
  have hs107 := Ext_sh hE176 hs107 (by decide)
  have hl119 := Ext_ln hE176 (by rw [hs117]; decide) hl119
  have hs117 := Ext_sh hE176 hs117 (by decide)
  have hl129 := Ext_ln hE176 (by rw [hs127]; decide) hl129
  have hs127 := Ext_sh hE176 hs127 (by decide)
  have hl139 := Ext_ln hE176 (by rw [hs137]; decide) hl139
  have hs137 := Ext_sh hE176 hs137 (by decide)
  have hl149 := Ext_ln hE176 (by rw [hs147]; decide) hl149
  have hs147 := Ext_sh hE176 hs147 (by decide)
  have hl159 := Ext_ln hE176 (by rw [hs157]; decide) hl159
  have hs157 := Ext_sh hE176 hs157 (by decide)
  have hl169 := Ext_ln hE176 (by rw [hs167]; decide) hl169
  have hs167 := Ext_sh hE176 hs167 (by decide)
  have hs177 : sh s174 (sN s170) = 101 := by rw [e175]; exact sh_mk
  have hl179 : ln s174 (sN s170) = 3 := by rw [e175]; exact ln_mk
  have hb178 := nb_N g172
  refine X_putFR0 (v := (some (sN s170))) (ci := 0) (j := 22) (q := (RX0, TX0, 49)) C h0 rfl rfl (by decide) q282 rfl rfl rfl dX0_init_143 hb_a0 hs_a0 (Or.inr ⟨_, rfl⟩) ?_
  refine X_nm (fun s180 e181 => ?_)
  have h := h s180 e181
  have hs_a0 : sh s180 a0 = 1 := by rw [e181]; exact hs_a0
  have hs6 : sh s180 (sN st) = 101 := by rw [e181]; exact hs6
  have hl8 : ln s180 (sN st) = 9 := by rw [e181]; exact hl8
  have hs16 : sh s180 (sN s9) = 2 := by rw [e181]; exact hs16
  have hs33 : sh s180 (sN s26) = 2 := by rw [e181]; exact hs33
  have hs50 : sh s180 (sN s43) = 2 := by rw [e181]; exact hs50
  have hs67 : sh s180 (sN s62) = 113 := by rw [e181]; exact hs67
  have hs76 : sh s180 (sN s71) = 113 := by rw [e181]; exact hs76
  have hs87 : sh s180 (sN s80) = 102 := by rw [e181]; exact hs87
  have hl89 : ln s180 (sN s80) = 16 := by rw [e181]; exact hl89
  have hs97 : sh s180 (sN s90) = 101 := by rw [e181]; exact hs97
  have hl99 : ln s180 (sN s90) = 3 := by rw [e181]; exact hl99
  have hs107 : sh s180 (sN s100) = 101 := by rw [e181]; exact hs107
  have hl109 : ln s180 (sN s100) = 3 := by rw [e181]; exact hl109
  have hs117 : sh s180 (sN s110) = 102 := by rw [e181]; exact hs117
  have hl119 : ln s180 (sN s110) = 3 := by rw [e181]; exact hl119
  have hs127 : sh s180 (sN s120) = 102 := by rw [e181]; exact hs127
  have hl129 : ln s180 (sN s120) = 3 := by rw [e181]; exact hl129
  have hs137 : sh s180 (sN s130) = 114 := by rw [e181]; exact hs137
  have hl139 : ln s180 (sN s130) = 15 := by rw [e181]; exact hl139
  have hs147 : sh s180 (sN s140) = 114 := by rw [e181]; exact hs147
  have hl149 : ln s180 (sN s140) = 3 := by rw [e181]; exact hl149
  have hs157 : sh s180 (sN s150) = 114 := by rw [e181]; exact hs157
  have hl159 : ln s180 (sN s150) = 3 := by rw [e181]; exact hl159
  have hs167 : sh s180 (sN s160) = 101 := by rw [e181]; exact hs167
  have hl169 : ln s180 (sN s160) = 3 := by rw [e181]; exact hl169
  have hs177 : sh s180 (sN s170) = 101 := by rw [e181]; exact hs177
  have hl179 : ln s180 (sN s170) = 3 := by rw [e181]; exact hl179
  refine X_aload_n C dX0_init_146 rfl 0 rfl (isRV_r _) ?_
  have g182 := h.1
  have h := h.2
  have g183 := h.1
  have h := h.2
  refine X_new (ci := 2) (q := (RX2, TX2, 2)) C rfl q232 q234 q134 g182 g183 dX0_init_147 (fun hE186 => ?_)
  refine X_nm (fun s184 e185 => ?_)
  have h := h s184 e185
  rw [← e185] at hE186
  have hs_a0 := Ext_sh hE186 hs_a0 (by decide)
  have hl8 := Ext_ln hE186 (by rw [hs6]; decide) hl8
  have hs6 := Ext_sh hE186 hs6 (by decide)
  have hs16 := Ext_sh hE186 hs16 (by decide)
  have hs33 := Ext_sh hE186 hs33 (by decide)
  have hs50 := Ext_sh hE186 hs50 (by decide)
  have hs67 := Ext_sh hE186 hs67 (by decide)
  have hs76 := Ext_sh hE186 hs76 (by decide)
  have hl89 := Ext_ln hE186 (by rw [hs87]; decide) hl89
  have hs87 := Ext_sh hE186 hs87 (by decide)
  have hl99 := Ext_ln hE186 (by rw [hs97]; decide) hl99
  have hs97 := Ext_sh hE186 hs97 (by decide)
  have hl109 := Ext_ln hE186 (by rw [hs107]; decide) hl109
  have hs107 := Ext_sh hE186 hs107 (by decide)
  have hl119 := Ext_ln hE186 (by rw [hs117]; decide) hl119
  have hs117 := Ext_sh hE186 hs117 (by decide)
  have hl129 := Ext_ln hE186 (by rw [hs127]; decide) hl129
  have hs127 := Ext_sh hE186 hs127 (by decide)
  have hl139 := Ext_ln hE186 (by rw [hs137]; decide) hl139
  have hs137 := Ext_sh hE186 hs137 (by decide)
  have hl149 := Ext_ln hE186 (by rw [hs147]; decide) hl149
  have hs147 := Ext_sh hE186 hs147 (by decide)
  have hl159 := Ext_ln hE186 (by rw [hs157]; decide) hl159
  have hs157 := Ext_sh hE186 hs157 (by decide)
  have hl169 := Ext_ln hE186 (by rw [hs167]; decide) hl169
  have hs167 := Ext_sh hE186 hs167 (by decide)
  have hl179 := Ext_ln hE186 (by rw [hs177]; decide) hl179
  have hs177 := Ext_sh hE186 hs177 (by decide)
  have hs187 : sh s184 (sN s180) = 3 := by rw [e185]; exact sh_mk
  have hb188 := nb_N g182
  refine X_dup C dX0_init_150 rfl ?_
  refine X_callIN (As := []) (rest := [_, _]) C q235 q236 q134 q237 rfl nm_X2_init rfl dX0_init_151 (m_X2_init (Cx_l C) (d := d - 1) (by omega) s184 (sN s180) hs187 hb188 h) (by omega) (by decide) (Nat.le_of_ble_eq_true rfl) (fun s190 w191 hE192 hP193 => ?_) (fun s196 E194 q195 hE192 hP193 => ?_)
  rotate_left
  · exact False.elim hP193
  obtain ⟨rfl, h⟩ := hP193
  refine X_tln ?_
  have hl8 := Ext_ln hE192 (by rw [hs6]; decide) hl8
  have hl89 := Ext_ln hE192 (by rw [hs87]; decide) hl89
  have hl99 := Ext_ln hE192 (by rw [hs97]; decide) hl99
  have hl109 := Ext_ln hE192 (by rw [hs107]; decide) hl109
  have hl119 := Ext_ln hE192 (by rw [hs117]; decide) hl119
  have hl129 := Ext_ln hE192 (by rw [hs127]; decide) hl129
  have hl139 := Ext_ln hE192 (by rw [hs137]; decide) hl139
  have hl149 := Ext_ln hE192 (by rw [hs147]; decide) hl149
  have hl159 := Ext_ln hE192 (by rw [hs157]; decide) hl159
  have hl169 := Ext_ln hE192 (by rw [hs167]; decide) hl169
  have hl179 := Ext_ln hE192 (by rw [hs177]; decide) hl179
  have hs_a0 := Ext_sh hE192 hs_a0 (by decide)
  have hs6 := Ext_sh hE192 hs6 (by decide)
  have hs16 := Ext_sh hE192 hs16 (by decide)
  have hs33 := Ext_sh hE192 hs33 (by decide)
  have hs50 := Ext_sh hE192 hs50 (by decide)
  have hs67 := Ext_sh hE192 hs67 (by decide)
  have hs76 := Ext_sh hE192 hs76 (by decide)
  have hs87 := Ext_sh hE192 hs87 (by decide)
  have hs97 := Ext_sh hE192 hs97 (by decide)
  have hs107 := Ext_sh hE192 hs107 (by decide)
  have hs117 := Ext_sh hE192 hs117 (by decide)
  have hs127 := Ext_sh hE192 hs127 (by decide)
  have hs137 := Ext_sh hE192 hs137 (by decide)
  have hs147 := Ext_sh hE192 hs147 (by decide)
  have hs157 := Ext_sh hE192 hs157 (by decide)
  have hs167 := Ext_sh hE192 hs167 (by decide)
  have hs177 := Ext_sh hE192 hs177 (by decide)
  have hs187 := Ext_sh hE192 hs187 (by decide)
  refine X_putFR0 (v := (some (sN s180))) (ci := 0) (j := 24) (q := (RX0, TX0, 49)) C h0 rfl rfl (by decide) q284 rfl rfl rfl dX0_init_154 hb_a0 hs_a0 (Or.inl ⟨_, rfl⟩) ?_
  refine X_nm (fun s197 e198 => ?_)
  have h := h s197 e198
  have hs_a0 : sh s197 a0 = 1 := by rw [e198]; exact hs_a0
  have hs6 : sh s197 (sN st) = 101 := by rw [e198]; exact hs6
  have hl8 : ln s197 (sN st) = 9 := by rw [e198]; exact hl8
  have hs16 : sh s197 (sN s9) = 2 := by rw [e198]; exact hs16
  have hs33 : sh s197 (sN s26) = 2 := by rw [e198]; exact hs33
  have hs50 : sh s197 (sN s43) = 2 := by rw [e198]; exact hs50
  have hs67 : sh s197 (sN s62) = 113 := by rw [e198]; exact hs67
  have hs76 : sh s197 (sN s71) = 113 := by rw [e198]; exact hs76
  have hs87 : sh s197 (sN s80) = 102 := by rw [e198]; exact hs87
  have hl89 : ln s197 (sN s80) = 16 := by rw [e198]; exact hl89
  have hs97 : sh s197 (sN s90) = 101 := by rw [e198]; exact hs97
  have hl99 : ln s197 (sN s90) = 3 := by rw [e198]; exact hl99
  have hs107 : sh s197 (sN s100) = 101 := by rw [e198]; exact hs107
  have hl109 : ln s197 (sN s100) = 3 := by rw [e198]; exact hl109
  have hs117 : sh s197 (sN s110) = 102 := by rw [e198]; exact hs117
  have hl119 : ln s197 (sN s110) = 3 := by rw [e198]; exact hl119
  have hs127 : sh s197 (sN s120) = 102 := by rw [e198]; exact hs127
  have hl129 : ln s197 (sN s120) = 3 := by rw [e198]; exact hl129
  have hs137 : sh s197 (sN s130) = 114 := by rw [e198]; exact hs137
  have hl139 : ln s197 (sN s130) = 15 := by rw [e198]; exact hl139
  have hs147 : sh s197 (sN s140) = 114 := by rw [e198]; exact hs147
  have hl149 : ln s197 (sN s140) = 3 := by rw [e198]; exact hl149
  have hs157 : sh s197 (sN s150) = 114 := by rw [e198]; exact hs157
  have hl159 : ln s197 (sN s150) = 3 := by rw [e198]; exact hl159
  have hs167 : sh s197 (sN s160) = 101 := by rw [e198]; exact hs167
  have hl169 : ln s197 (sN s160) = 3 := by rw [e198]; exact hl169
  have hs177 : sh s197 (sN s170) = 101 := by rw [e198]; exact hs177
  have hl179 : ln s197 (sN s170) = 3 := by rw [e198]; exact hl179
  have hs187 : sh s197 (sN s180) = 3 := by rw [e198]; exact hs187
  refine X_aload_n C dX0_init_157 rfl 0 rfl (isRV_r _) ?_
  have g199 := h.1
  have h := h.2
  have g200 := h.1
  have h := h.2
  refine X_new (ci := 2) (q := (RX2, TX2, 2)) C rfl q232 q234 q134 g199 g200 dX0_init_158 (fun hE203 => ?_)
  refine X_nm (fun s201 e202 => ?_)
  have h := h s201 e202
  rw [← e202] at hE203
  have hs_a0 := Ext_sh hE203 hs_a0 (by decide)
  have hl8 := Ext_ln hE203 (by rw [hs6]; decide) hl8
  have hs6 := Ext_sh hE203 hs6 (by decide)
  have hs16 := Ext_sh hE203 hs16 (by decide)
  have hs33 := Ext_sh hE203 hs33 (by decide)
  have hs50 := Ext_sh hE203 hs50 (by decide)
  have hs67 := Ext_sh hE203 hs67 (by decide)
  have hs76 := Ext_sh hE203 hs76 (by decide)
  have hl89 := Ext_ln hE203 (by rw [hs87]; decide) hl89
  have hs87 := Ext_sh hE203 hs87 (by decide)
  have hl99 := Ext_ln hE203 (by rw [hs97]; decide) hl99
  have hs97 := Ext_sh hE203 hs97 (by decide)
  have hl109 := Ext_ln hE203 (by rw [hs107]; decide) hl109
  have hs107 := Ext_sh hE203 hs107 (by decide)
  have hl119 := Ext_ln hE203 (by rw [hs117]; decide) hl119
  have hs117 := Ext_sh hE203 hs117 (by decide)
  have hl129 := Ext_ln hE203 (by rw [hs127]; decide) hl129
  have hs127 := Ext_sh hE203 hs127 (by decide)
  have hl139 := Ext_ln hE203 (by rw [hs137]; decide) hl139
  have hs137 := Ext_sh hE203 hs137 (by decide)
  have hl149 := Ext_ln hE203 (by rw [hs147]; decide) hl149
  have hs147 := Ext_sh hE203 hs147 (by decide)
  have hl159 := Ext_ln hE203 (by rw [hs157]; decide) hl159
  have hs157 := Ext_sh hE203 hs157 (by decide)
  have hl169 := Ext_ln hE203 (by rw [hs167]; decide) hl169
  have hs167 := Ext_sh hE203 hs167 (by decide)
  have hl179 := Ext_ln hE203 (by rw [hs177]; decide) hl179
  have hs177 := Ext_sh hE203 hs177 (by decide)
  have hs187 := Ext_sh hE203 hs187 (by decide)
  have hs204 : sh s201 (sN s197) = 3 := by rw [e202]; exact sh_mk
  have hb205 := nb_N g199
  refine X_dup C dX0_init_161 rfl ?_
  refine X_callIN (As := []) (rest := [_, _]) C q235 q236 q134 q237 rfl nm_X2_init rfl dX0_init_162 (m_X2_init (Cx_l C) (d := d - 1) (by omega) s201 (sN s197) hs204 hb205 h) (by omega) (by decide) (Nat.le_of_ble_eq_true rfl) (fun s207 w208 hE209 hP210 => ?_) (fun s213 E211 q212 hE209 hP210 => ?_)
  rotate_left
  · exact False.elim hP210
  obtain ⟨rfl, h⟩ := hP210
  refine X_tln ?_
  have hl8 := Ext_ln hE209 (by rw [hs6]; decide) hl8
  have hl89 := Ext_ln hE209 (by rw [hs87]; decide) hl89
  have hl99 := Ext_ln hE209 (by rw [hs97]; decide) hl99
  have hl109 := Ext_ln hE209 (by rw [hs107]; decide) hl109
  have hl119 := Ext_ln hE209 (by rw [hs117]; decide) hl119
  have hl129 := Ext_ln hE209 (by rw [hs127]; decide) hl129
  have hl139 := Ext_ln hE209 (by rw [hs137]; decide) hl139
  have hl149 := Ext_ln hE209 (by rw [hs147]; decide) hl149
  have hl159 := Ext_ln hE209 (by rw [hs157]; decide) hl159
  have hl169 := Ext_ln hE209 (by rw [hs167]; decide) hl169
  have hl179 := Ext_ln hE209 (by rw [hs177]; decide) hl179
  have hs_a0 := Ext_sh hE209 hs_a0 (by decide)
  have hs6 := Ext_sh hE209 hs6 (by decide)
  have hs16 := Ext_sh hE209 hs16 (by decide)
  have hs33 := Ext_sh hE209 hs33 (by decide)
  have hs50 := Ext_sh hE209 hs50 (by decide)
  have hs67 := Ext_sh hE209 hs67 (by decide)
  have hs76 := Ext_sh hE209 hs76 (by decide)
  have hs87 := Ext_sh hE209 hs87 (by decide)
  have hs97 := Ext_sh hE209 hs97 (by decide)
  have hs107 := Ext_sh hE209 hs107 (by decide)
  have hs117 := Ext_sh hE209 hs117 (by decide)
  have hs127 := Ext_sh hE209 hs127 (by decide)
  have hs137 := Ext_sh hE209 hs137 (by decide)
  have hs147 := Ext_sh hE209 hs147 (by decide)
  have hs157 := Ext_sh hE209 hs157 (by decide)
  have hs167 := Ext_sh hE209 hs167 (by decide)
  have hs177 := Ext_sh hE209 hs177 (by decide)
  have hs187 := Ext_sh hE209 hs187 (by decide)
  have hs204 := Ext_sh hE209 hs204 (by decide)
  refine X_putFR0 (v := (some (sN s197))) (ci := 0) (j := 25) (q := (RX0, TX0, 49)) C h0 rfl rfl (by decide) q285 rfl rfl rfl dX0_init_165 hb_a0 hs_a0 (Or.inl ⟨_, rfl⟩) ?_
  refine X_nm (fun s214 e215 => ?_)
  have h := h s214 e215
  have hs_a0 : sh s214 a0 = 1 := by rw [e215]; exact hs_a0
  have hs6 : sh s214 (sN st) = 101 := by rw [e215]; exact hs6
  have hl8 : ln s214 (sN st) = 9 := by rw [e215]; exact hl8
  have hs16 : sh s214 (sN s9) = 2 := by rw [e215]; exact hs16
  have hs33 : sh s214 (sN s26) = 2 := by rw [e215]; exact hs33
  have hs50 : sh s214 (sN s43) = 2 := by rw [e215]; exact hs50
  have hs67 : sh s214 (sN s62) = 113 := by rw [e215]; exact hs67
  have hs76 : sh s214 (sN s71) = 113 := by rw [e215]; exact hs76
  have hs87 : sh s214 (sN s80) = 102 := by rw [e215]; exact hs87
  have hl89 : ln s214 (sN s80) = 16 := by rw [e215]; exact hl89
  have hs97 : sh s214 (sN s90) = 101 := by rw [e215]; exact hs97
  have hl99 : ln s214 (sN s90) = 3 := by rw [e215]; exact hl99
  have hs107 : sh s214 (sN s100) = 101 := by rw [e215]; exact hs107
  have hl109 : ln s214 (sN s100) = 3 := by rw [e215]; exact hl109
  have hs117 : sh s214 (sN s110) = 102 := by rw [e215]; exact hs117
  have hl119 : ln s214 (sN s110) = 3 := by rw [e215]; exact hl119
  have hs127 : sh s214 (sN s120) = 102 := by rw [e215]; exact hs127
  have hl129 : ln s214 (sN s120) = 3 := by rw [e215]; exact hl129
  have hs137 : sh s214 (sN s130) = 114 := by rw [e215]; exact hs137
  have hl139 : ln s214 (sN s130) = 15 := by rw [e215]; exact hl139
  have hs147 : sh s214 (sN s140) = 114 := by rw [e215]; exact hs147
  have hl149 : ln s214 (sN s140) = 3 := by rw [e215]; exact hl149
  have hs157 : sh s214 (sN s150) = 114 := by rw [e215]; exact hs157
  have hl159 : ln s214 (sN s150) = 3 := by rw [e215]; exact hl159
  have hs167 : sh s214 (sN s160) = 101 := by rw [e215]; exact hs167
  have hl169 : ln s214 (sN s160) = 3 := by rw [e215]; exact hl169
  have hs177 : sh s214 (sN s170) = 101 := by rw [e215]; exact hs177
  have hl179 : ln s214 (sN s170) = 3 := by rw [e215]; exact hl179
  have hs187 : sh s214 (sN s180) = 3 := by rw [e215]; exact hs187
  have hs204 : sh s214 (sN s197) = 3 := by rw [e215]; exact hs204
  refine X_aload_n C dX0_init_168 rfl 0 rfl (isRV_r _) ?_
  have g216 := h.1
  have h := h.2
  have g217 := h.1
  have h := h.2
  refine X_new (ci := 2) (q := (RX2, TX2, 2)) C rfl q232 q234 q134 g216 g217 dX0_init_169 (fun hE220 => ?_)
  refine X_nm (fun s218 e219 => ?_)
  have h := h s218 e219
  rw [← e219] at hE220
  have hs_a0 := Ext_sh hE220 hs_a0 (by decide)
  have hl8 := Ext_ln hE220 (by rw [hs6]; decide) hl8
  have hs6 := Ext_sh hE220 hs6 (by decide)
  have hs16 := Ext_sh hE220 hs16 (by decide)
  have hs33 := Ext_sh hE220 hs33 (by decide)
  have hs50 := Ext_sh hE220 hs50 (by decide)
  have hs67 := Ext_sh hE220 hs67 (by decide)
  have hs76 := Ext_sh hE220 hs76 (by decide)
  have hl89 := Ext_ln hE220 (by rw [hs87]; decide) hl89
  have hs87 := Ext_sh hE220 hs87 (by decide)
  have hl99 := Ext_ln hE220 (by rw [hs97]; decide) hl99
  have hs97 := Ext_sh hE220 hs97 (by decide)
  have hl109 := Ext_ln hE220 (by rw [hs107]; decide) hl109
  have hs107 := Ext_sh hE220 hs107 (by decide)
  have hl119 := Ext_ln hE220 (by rw [hs117]; decide) hl119
  have hs117 := Ext_sh hE220 hs117 (by decide)
  have hl129 := Ext_ln hE220 (by rw [hs127]; decide) hl129
  have hs127 := Ext_sh hE220 hs127 (by decide)
  have hl139 := Ext_ln hE220 (by rw [hs137]; decide) hl139
  have hs137 := Ext_sh hE220 hs137 (by decide)
  have hl149 := Ext_ln hE220 (by rw [hs147]; decide) hl149
  have hs147 := Ext_sh hE220 hs147 (by decide)
  have hl159 := Ext_ln hE220 (by rw [hs157]; decide) hl159
  have hs157 := Ext_sh hE220 hs157 (by decide)
  have hl169 := Ext_ln hE220 (by rw [hs167]; decide) hl169
  have hs167 := Ext_sh hE220 hs167 (by decide)
  have hl179 := Ext_ln hE220 (by rw [hs177]; decide) hl179
  have hs177 := Ext_sh hE220 hs177 (by decide)
  have hs187 := Ext_sh hE220 hs187 (by decide)
  have hs204 := Ext_sh hE220 hs204 (by decide)
  have hs221 : sh s218 (sN s214) = 3 := by rw [e219]; exact sh_mk
  have hb222 := nb_N g216
  refine X_dup C dX0_init_172 rfl ?_
  refine X_callIN (As := []) (rest := [_, _]) C q235 q236 q134 q237 rfl nm_X2_init rfl dX0_init_173 (m_X2_init (Cx_l C) (d := d - 1) (by omega) s218 (sN s214) hs221 hb222 h) (by omega) (by decide) (Nat.le_of_ble_eq_true rfl) (fun s224 w225 hE226 hP227 => ?_) (fun s230 E228 q229 hE226 hP227 => ?_)
  rotate_left
  · exact False.elim hP227
  obtain ⟨rfl, h⟩ := hP227
  refine X_tln ?_
  have hl8 := Ext_ln hE226 (by rw [hs6]; decide) hl8
  have hl89 := Ext_ln hE226 (by rw [hs87]; decide) hl89
  have hl99 := Ext_ln hE226 (by rw [hs97]; decide) hl99
  have hl109 := Ext_ln hE226 (by rw [hs107]; decide) hl109
  have hl119 := Ext_ln hE226 (by rw [hs117]; decide) hl119
  have hl129 := Ext_ln hE226 (by rw [hs127]; decide) hl129
  have hl139 := Ext_ln hE226 (by rw [hs137]; decide) hl139
  have hl149 := Ext_ln hE226 (by rw [hs147]; decide) hl149
  have hl159 := Ext_ln hE226 (by rw [hs157]; decide) hl159
  have hl169 := Ext_ln hE226 (by rw [hs167]; decide) hl169
  have hl179 := Ext_ln hE226 (by rw [hs177]; decide) hl179
  have hs_a0 := Ext_sh hE226 hs_a0 (by decide)
  have hs6 := Ext_sh hE226 hs6 (by decide)
  have hs16 := Ext_sh hE226 hs16 (by decide)
  have hs33 := Ext_sh hE226 hs33 (by decide)
  have hs50 := Ext_sh hE226 hs50 (by decide)
  have hs67 := Ext_sh hE226 hs67 (by decide)
  have hs76 := Ext_sh hE226 hs76 (by decide)
  have hs87 := Ext_sh hE226 hs87 (by decide)
  have hs97 := Ext_sh hE226 hs97 (by decide)
  have hs107 := Ext_sh hE226 hs107 (by decide)
  have hs117 := Ext_sh hE226 hs117 (by decide)
  have hs127 := Ext_sh hE226 hs127 (by decide)
  have hs137 := Ext_sh hE226 hs137 (by decide)
  have hs147 := Ext_sh hE226 hs147 (by decide)
  have hs157 := Ext_sh hE226 hs157 (by decide)
  have hs167 := Ext_sh hE226 hs167 (by decide)
  have hs177 := Ext_sh hE226 hs177 (by decide)
  have hs187 := Ext_sh hE226 hs187 (by decide)
  have hs204 := Ext_sh hE226 hs204 (by decide)
  have hs221 := Ext_sh hE226 hs221 (by decide)
  refine X_putFR0 (v := (some (sN s214))) (ci := 0) (j := 26) (q := (RX0, TX0, 49)) C h0 rfl rfl (by decide) q286 rfl rfl rfl dX0_init_176 hb_a0 hs_a0 (Or.inl ⟨_, rfl⟩) ?_
  refine X_nm (fun s231 e232 => ?_)
  have h := h s231 e232
  have hs_a0 : sh s231 a0 = 1 := by rw [e232]; exact hs_a0
  have hs6 : sh s231 (sN st) = 101 := by rw [e232]; exact hs6
  have hl8 : ln s231 (sN st) = 9 := by rw [e232]; exact hl8
  have hs16 : sh s231 (sN s9) = 2 := by rw [e232]; exact hs16
  have hs33 : sh s231 (sN s26) = 2 := by rw [e232]; exact hs33
  have hs50 : sh s231 (sN s43) = 2 := by rw [e232]; exact hs50
  have hs67 : sh s231 (sN s62) = 113 := by rw [e232]; exact hs67
  have hs76 : sh s231 (sN s71) = 113 := by rw [e232]; exact hs76
  have hs87 : sh s231 (sN s80) = 102 := by rw [e232]; exact hs87
  have hl89 : ln s231 (sN s80) = 16 := by rw [e232]; exact hl89
  have hs97 : sh s231 (sN s90) = 101 := by rw [e232]; exact hs97
  have hl99 : ln s231 (sN s90) = 3 := by rw [e232]; exact hl99
  have hs107 : sh s231 (sN s100) = 101 := by rw [e232]; exact hs107
  have hl109 : ln s231 (sN s100) = 3 := by rw [e232]; exact hl109
  have hs117 : sh s231 (sN s110) = 102 := by rw [e232]; exact hs117
  have hl119 : ln s231 (sN s110) = 3 := by rw [e232]; exact hl119
  have hs127 : sh s231 (sN s120) = 102 := by rw [e232]; exact hs127
  have hl129 : ln s231 (sN s120) = 3 := by rw [e232]; exact hl129
  have hs137 : sh s231 (sN s130) = 114 := by rw [e232]; exact hs137
  have hl139 : ln s231 (sN s130) = 15 := by rw [e232]; exact hl139
  have hs147 : sh s231 (sN s140) = 114 := by rw [e232]; exact hs147
  have hl149 : ln s231 (sN s140) = 3 := by rw [e232]; exact hl149
  have hs157 : sh s231 (sN s150) = 114 := by rw [e232]; exact hs157
  have hl159 : ln s231 (sN s150) = 3 := by rw [e232]; exact hl159
  have hs167 : sh s231 (sN s160) = 101 := by rw [e232]; exact hs167
  have hl169 : ln s231 (sN s160) = 3 := by rw [e232]; exact hl169
  have hs177 : sh s231 (sN s170) = 101 := by rw [e232]; exact hs177
  have hl179 : ln s231 (sN s170) = 3 := by rw [e232]; exact hl179
  have hs187 : sh s231 (sN s180) = 3 := by rw [e232]; exact hs187
  have hs204 : sh s231 (sN s197) = 3 := by rw [e232]; exact hs204
  have hs221 : sh s231 (sN s214) = 3 := by rw [e232]; exact hs221
  refine X_aload_n C dX0_init_179 rfl 0 rfl (isRV_r _) ?_
  have g233 := h.1
  have h := h.2
  have g234 := h.1
  have h := h.2
  refine X_new (ci := 2) (q := (RX2, TX2, 2)) C rfl q232 q234 q134 g233 g234 dX0_init_180 (fun hE237 => ?_)
  refine X_nm (fun s235 e236 => ?_)
  have h := h s235 e236
  rw [← e236] at hE237
  have hs_a0 := Ext_sh hE237 hs_a0 (by decide)
  have hl8 := Ext_ln hE237 (by rw [hs6]; decide) hl8
  have hs6 := Ext_sh hE237 hs6 (by decide)
  have hs16 := Ext_sh hE237 hs16 (by decide)
  have hs33 := Ext_sh hE237 hs33 (by decide)
  have hs50 := Ext_sh hE237 hs50 (by decide)
  have hs67 := Ext_sh hE237 hs67 (by decide)
  have hs76 := Ext_sh hE237 hs76 (by decide)
  have hl89 := Ext_ln hE237 (by rw [hs87]; decide) hl89
  have hs87 := Ext_sh hE237 hs87 (by decide)
  have hl99 := Ext_ln hE237 (by rw [hs97]; decide) hl99
  have hs97 := Ext_sh hE237 hs97 (by decide)
  have hl109 := Ext_ln hE237 (by rw [hs107]; decide) hl109
  have hs107 := Ext_sh hE237 hs107 (by decide)
  have hl119 := Ext_ln hE237 (by rw [hs117]; decide) hl119
  have hs117 := Ext_sh hE237 hs117 (by decide)
  have hl129 := Ext_ln hE237 (by rw [hs127]; decide) hl129
  have hs127 := Ext_sh hE237 hs127 (by decide)
  have hl139 := Ext_ln hE237 (by rw [hs137]; decide) hl139
  have hs137 := Ext_sh hE237 hs137 (by decide)
  have hl149 := Ext_ln hE237 (by rw [hs147]; decide) hl149
  have hs147 := Ext_sh hE237 hs147 (by decide)
  have hl159 := Ext_ln hE237 (by rw [hs157]; decide) hl159
  have hs157 := Ext_sh hE237 hs157 (by decide)
  have hl169 := Ext_ln hE237 (by rw [hs167]; decide) hl169
  have hs167 := Ext_sh hE237 hs167 (by decide)
  have hl179 := Ext_ln hE237 (by rw [hs177]; decide) hl179
  have hs177 := Ext_sh hE237 hs177 (by decide)
  have hs187 := Ext_sh hE237 hs187 (by decide)
  have hs204 := Ext_sh hE237 hs204 (by decide)
  have hs221 := Ext_sh hE237 hs221 (by decide)
  have hs238 : sh s235 (sN s231) = 3 := by rw [e236]; exact sh_mk
  have hb239 := nb_N g233
  refine X_dup C dX0_init_183 rfl ?_
  refine X_callIN (As := []) (rest := [_, _]) C q235 q236 q134 q237 rfl nm_X2_init rfl dX0_init_184 (m_X2_init (Cx_l C) (d := d - 1) (by omega) s235 (sN s231) hs238 hb239 h) (by omega) (by decide) (Nat.le_of_ble_eq_true rfl) (fun s241 w242 hE243 hP244 => ?_) (fun s247 E245 q246 hE243 hP244 => ?_)
  rotate_left
  · exact False.elim hP244
  obtain ⟨rfl, h⟩ := hP244
  refine X_tln ?_
  have hl8 := Ext_ln hE243 (by rw [hs6]; decide) hl8
  have hl89 := Ext_ln hE243 (by rw [hs87]; decide) hl89
  have hl99 := Ext_ln hE243 (by rw [hs97]; decide) hl99
  have hl109 := Ext_ln hE243 (by rw [hs107]; decide) hl109
  have hl119 := Ext_ln hE243 (by rw [hs117]; decide) hl119
  have hl129 := Ext_ln hE243 (by rw [hs127]; decide) hl129
  have hl139 := Ext_ln hE243 (by rw [hs137]; decide) hl139
  have hl149 := Ext_ln hE243 (by rw [hs147]; decide) hl149
  have hl159 := Ext_ln hE243 (by rw [hs157]; decide) hl159
  have hl169 := Ext_ln hE243 (by rw [hs167]; decide) hl169
  have hl179 := Ext_ln hE243 (by rw [hs177]; decide) hl179
  have hs_a0 := Ext_sh hE243 hs_a0 (by decide)
  have hs6 := Ext_sh hE243 hs6 (by decide)
  have hs16 := Ext_sh hE243 hs16 (by decide)
  have hs33 := Ext_sh hE243 hs33 (by decide)
  have hs50 := Ext_sh hE243 hs50 (by decide)
  have hs67 := Ext_sh hE243 hs67 (by decide)
  have hs76 := Ext_sh hE243 hs76 (by decide)
  have hs87 := Ext_sh hE243 hs87 (by decide)
  have hs97 := Ext_sh hE243 hs97 (by decide)
  have hs107 := Ext_sh hE243 hs107 (by decide)
  have hs117 := Ext_sh hE243 hs117 (by decide)
  have hs127 := Ext_sh hE243 hs127 (by decide)
  have hs137 := Ext_sh hE243 hs137 (by decide)
  have hs147 := Ext_sh hE243 hs147 (by decide)
  have hs157 := Ext_sh hE243 hs157 (by decide)
  have hs167 := Ext_sh hE243 hs167 (by decide)
  have hs177 := Ext_sh hE243 hs177 (by decide)
  have hs187 := Ext_sh hE243 hs187 (by decide)
  have hs204 := Ext_sh hE243 hs204 (by decide)
  have hs221 := Ext_sh hE243 hs221 (by decide)
  have hs238 := Ext_sh hE243 hs238 (by decide)
  refine X_putFR0 (v := (some (sN s231))) (ci := 0) (j := 27) (q := (RX0, TX0, 49)) C h0 rfl rfl (by decide) q287 rfl rfl rfl dX0_init_187 hb_a0 hs_a0 (Or.inl ⟨_, rfl⟩) ?_
  refine X_nm (fun s248 e249 => ?_)
  have h := h s248 e249
  have hs_a0 : sh s248 a0 = 1 := by rw [e249]; exact hs_a0
  have hs6 : sh s248 (sN st) = 101 := by rw [e249]; exact hs6
  have hl8 : ln s248 (sN st) = 9 := by rw [e249]; exact hl8
  have hs16 : sh s248 (sN s9) = 2 := by rw [e249]; exact hs16
  have hs33 : sh s248 (sN s26) = 2 := by rw [e249]; exact hs33
  have hs50 : sh s248 (sN s43) = 2 := by rw [e249]; exact hs50
  have hs67 : sh s248 (sN s62) = 113 := by rw [e249]; exact hs67
  have hs76 : sh s248 (sN s71) = 113 := by rw [e249]; exact hs76
  have hs87 : sh s248 (sN s80) = 102 := by rw [e249]; exact hs87
  have hl89 : ln s248 (sN s80) = 16 := by rw [e249]; exact hl89
  have hs97 : sh s248 (sN s90) = 101 := by rw [e249]; exact hs97
  have hl99 : ln s248 (sN s90) = 3 := by rw [e249]; exact hl99
  have hs107 : sh s248 (sN s100) = 101 := by rw [e249]; exact hs107
  have hl109 : ln s248 (sN s100) = 3 := by rw [e249]; exact hl109
  have hs117 : sh s248 (sN s110) = 102 := by rw [e249]; exact hs117
  have hl119 : ln s248 (sN s110) = 3 := by rw [e249]; exact hl119
  have hs127 : sh s248 (sN s120) = 102 := by rw [e249]; exact hs127
  have hl129 : ln s248 (sN s120) = 3 := by rw [e249]; exact hl129
  have hs137 : sh s248 (sN s130) = 114 := by rw [e249]; exact hs137
  have hl139 : ln s248 (sN s130) = 15 := by rw [e249]; exact hl139
  have hs147 : sh s248 (sN s140) = 114 := by rw [e249]; exact hs147
  have hl149 : ln s248 (sN s140) = 3 := by rw [e249]; exact hl149
  have hs157 : sh s248 (sN s150) = 114 := by rw [e249]; exact hs157
  have hl159 : ln s248 (sN s150) = 3 := by rw [e249]; exact hl159
  have hs167 : sh s248 (sN s160) = 101 := by rw [e249]; exact hs167
  have hl169 : ln s248 (sN s160) = 3 := by rw [e249]; exact hl169
  have hs177 : sh s248 (sN s170) = 101 := by rw [e249]; exact hs177
  have hl179 : ln s248 (sN s170) = 3 := by rw [e249]; exact hl179
  have hs187 : sh s248 (sN s180) = 3 := by rw [e249]; exact hs187
  have hs204 : sh s248 (sN s197) = 3 := by rw [e249]; exact hs204
  have hs221 : sh s248 (sN s214) = 3 := by rw [e249]; exact hs221
  have hs238 : sh s248 (sN s231) = 3 := by rw [e249]; exact hs238
  refine X_aload_n C dX0_init_190 rfl 0 rfl (isRV_r _) ?_
  have g250 := h.1
  have h := h.2
  have g251 := h.1
  have h := h.2
  refine X_new (ci := 2) (q := (RX2, TX2, 2)) C rfl q232 q234 q134 g250 g251 dX0_init_191 (fun hE254 => ?_)
  refine X_nm (fun s252 e253 => ?_)
  have h := h s252 e253
  rw [← e253] at hE254
  have hs_a0 := Ext_sh hE254 hs_a0 (by decide)
  have hl8 := Ext_ln hE254 (by rw [hs6]; decide) hl8
  have hs6 := Ext_sh hE254 hs6 (by decide)
  have hs16 := Ext_sh hE254 hs16 (by decide)
  have hs33 := Ext_sh hE254 hs33 (by decide)
  have hs50 := Ext_sh hE254 hs50 (by decide)
  have hs67 := Ext_sh hE254 hs67 (by decide)
  have hs76 := Ext_sh hE254 hs76 (by decide)
  have hl89 := Ext_ln hE254 (by rw [hs87]; decide) hl89
  have hs87 := Ext_sh hE254 hs87 (by decide)
  have hl99 := Ext_ln hE254 (by rw [hs97]; decide) hl99
  have hs97 := Ext_sh hE254 hs97 (by decide)
  have hl109 := Ext_ln hE254 (by rw [hs107]; decide) hl109
  have hs107 := Ext_sh hE254 hs107 (by decide)
  have hl119 := Ext_ln hE254 (by rw [hs117]; decide) hl119
  have hs117 := Ext_sh hE254 hs117 (by decide)
  have hl129 := Ext_ln hE254 (by rw [hs127]; decide) hl129
  have hs127 := Ext_sh hE254 hs127 (by decide)
  have hl139 := Ext_ln hE254 (by rw [hs137]; decide) hl139
  have hs137 := Ext_sh hE254 hs137 (by decide)
  have hl149 := Ext_ln hE254 (by rw [hs147]; decide) hl149
  have hs147 := Ext_sh hE254 hs147 (by decide)
  have hl159 := Ext_ln hE254 (by rw [hs157]; decide) hl159
  have hs157 := Ext_sh hE254 hs157 (by decide)
  have hl169 := Ext_ln hE254 (by rw [hs167]; decide) hl169
  have hs167 := Ext_sh hE254 hs167 (by decide)
  have hl179 := Ext_ln hE254 (by rw [hs177]; decide) hl179
  have hs177 := Ext_sh hE254 hs177 (by decide)
  have hs187 := Ext_sh hE254 hs187 (by decide)
  have hs204 := Ext_sh hE254 hs204 (by decide)
  have hs221 := Ext_sh hE254 hs221 (by decide)
  have hs238 := Ext_sh hE254 hs238 (by decide)
  have hs255 : sh s252 (sN s248) = 3 := by rw [e253]; exact sh_mk
  have hb256 := nb_N g250
  refine X_dup C dX0_init_194 rfl ?_
  refine X_callIN (As := []) (rest := [_, _]) C q235 q236 q134 q237 rfl nm_X2_init rfl dX0_init_195 (m_X2_init (Cx_l C) (d := d - 1) (by omega) s252 (sN s248) hs255 hb256 h) (by omega) (by decide) (Nat.le_of_ble_eq_true rfl) (fun s258 w259 hE260 hP261 => ?_) (fun s264 E262 q263 hE260 hP261 => ?_)
  rotate_left
  · exact False.elim hP261
  obtain ⟨rfl, h⟩ := hP261
  refine X_tln ?_
  have hl8 := Ext_ln hE260 (by rw [hs6]; decide) hl8
  have hl89 := Ext_ln hE260 (by rw [hs87]; decide) hl89
  have hl99 := Ext_ln hE260 (by rw [hs97]; decide) hl99
  have hl109 := Ext_ln hE260 (by rw [hs107]; decide) hl109
  have hl119 := Ext_ln hE260 (by rw [hs117]; decide) hl119
  have hl129 := Ext_ln hE260 (by rw [hs127]; decide) hl129
  have hl139 := Ext_ln hE260 (by rw [hs137]; decide) hl139
  have hl149 := Ext_ln hE260 (by rw [hs147]; decide) hl149
  have hl159 := Ext_ln hE260 (by rw [hs157]; decide) hl159
  have hl169 := Ext_ln hE260 (by rw [hs167]; decide) hl169
  have hl179 := Ext_ln hE260 (by rw [hs177]; decide) hl179
  have hs_a0 := Ext_sh hE260 hs_a0 (by decide)
  have hs6 := Ext_sh hE260 hs6 (by decide)
  have hs16 := Ext_sh hE260 hs16 (by decide)
  have hs33 := Ext_sh hE260 hs33 (by decide)
  have hs50 := Ext_sh hE260 hs50 (by decide)
  have hs67 := Ext_sh hE260 hs67 (by decide)
  have hs76 := Ext_sh hE260 hs76 (by decide)
  have hs87 := Ext_sh hE260 hs87 (by decide)
  have hs97 := Ext_sh hE260 hs97 (by decide)
  have hs107 := Ext_sh hE260 hs107 (by decide)
  have hs117 := Ext_sh hE260 hs117 (by decide)
  have hs127 := Ext_sh hE260 hs127 (by decide)
  have hs137 := Ext_sh hE260 hs137 (by decide)
  have hs147 := Ext_sh hE260 hs147 (by decide)
  have hs157 := Ext_sh hE260 hs157 (by decide)
  have hs167 := Ext_sh hE260 hs167 (by decide)
  have hs177 := Ext_sh hE260 hs177 (by decide)
  have hs187 := Ext_sh hE260 hs187 (by decide)
  have hs204 := Ext_sh hE260 hs204 (by decide)
  have hs221 := Ext_sh hE260 hs221 (by decide)
  have hs238 := Ext_sh hE260 hs238 (by decide)
  have hs255 := Ext_sh hE260 hs255 (by decide)
  refine X_putFR0 (v := (some (sN s248))) (ci := 0) (j := 28) (q := (RX0, TX0, 49)) C h0 rfl rfl (by decide) q288 rfl rfl rfl dX0_init_198 hb_a0 hs_a0 (Or.inl ⟨_, rfl⟩) ?_
  refine X_nm (fun s265 e266 => ?_)
  have h := h s265 e266
  have hs_a0 : sh s265 a0 = 1 := by rw [e266]; exact hs_a0
  have hs6 : sh s265 (sN st) = 101 := by rw [e266]; exact hs6
  have hl8 : ln s265 (sN st) = 9 := by rw [e266]; exact hl8
  have hs16 : sh s265 (sN s9) = 2 := by rw [e266]; exact hs16
  have hs33 : sh s265 (sN s26) = 2 := by rw [e266]; exact hs33
  have hs50 : sh s265 (sN s43) = 2 := by rw [e266]; exact hs50
  have hs67 : sh s265 (sN s62) = 113 := by rw [e266]; exact hs67
  have hs76 : sh s265 (sN s71) = 113 := by rw [e266]; exact hs76
  have hs87 : sh s265 (sN s80) = 102 := by rw [e266]; exact hs87
  have hl89 : ln s265 (sN s80) = 16 := by rw [e266]; exact hl89
  have hs97 : sh s265 (sN s90) = 101 := by rw [e266]; exact hs97
  have hl99 : ln s265 (sN s90) = 3 := by rw [e266]; exact hl99
  have hs107 : sh s265 (sN s100) = 101 := by rw [e266]; exact hs107
  have hl109 : ln s265 (sN s100) = 3 := by rw [e266]; exact hl109
  have hs117 : sh s265 (sN s110) = 102 := by rw [e266]; exact hs117
  have hl119 : ln s265 (sN s110) = 3 := by rw [e266]; exact hl119
  have hs127 : sh s265 (sN s120) = 102 := by rw [e266]; exact hs127
  have hl129 : ln s265 (sN s120) = 3 := by rw [e266]; exact hl129
  have hs137 : sh s265 (sN s130) = 114 := by rw [e266]; exact hs137
  have hl139 : ln s265 (sN s130) = 15 := by rw [e266]; exact hl139
  have hs147 : sh s265 (sN s140) = 114 := by rw [e266]; exact hs147
  have hl149 : ln s265 (sN s140) = 3 := by rw [e266]; exact hl149
  have hs157 : sh s265 (sN s150) = 114 := by rw [e266]; exact hs157
  have hl159 : ln s265 (sN s150) = 3 := by rw [e266]; exact hl159
  have hs167 : sh s265 (sN s160) = 101 := by rw [e266]; exact hs167
  have hl169 : ln s265 (sN s160) = 3 := by rw [e266]; exact hl169
  have hs177 : sh s265 (sN s170) = 101 := by rw [e266]; exact hs177
  have hl179 : ln s265 (sN s170) = 3 := by rw [e266]; exact hl179
  have hs187 : sh s265 (sN s180) = 3 := by rw [e266]; exact hs187
  have hs204 : sh s265 (sN s197) = 3 := by rw [e266]; exact hs204
  have hs221 : sh s265 (sN s214) = 3 := by rw [e266]; exact hs221
  have hs238 : sh s265 (sN s231) = 3 := by rw [e266]; exact hs238
  have hs255 : sh s265 (sN s248) = 3 := by rw [e266]; exact hs255
  refine X_aload_n C dX0_init_201 rfl 0 rfl (isRV_r _) ?_
  have g267 := h.1
  have h := h.2
  have g268 := h.1
  have h := h.2
  refine X_new (ci := 2) (q := (RX2, TX2, 2)) C rfl q232 q234 q134 g267 g268 dX0_init_202 (fun hE271 => ?_)
  refine X_nm (fun s269 e270 => ?_)
  have h := h s269 e270
  rw [← e270] at hE271
  have hs_a0 := Ext_sh hE271 hs_a0 (by decide)
  have hl8 := Ext_ln hE271 (by rw [hs6]; decide) hl8
  have hs6 := Ext_sh hE271 hs6 (by decide)
  have hs16 := Ext_sh hE271 hs16 (by decide)
  have hs33 := Ext_sh hE271 hs33 (by decide)
  have hs50 := Ext_sh hE271 hs50 (by decide)
  have hs67 := Ext_sh hE271 hs67 (by decide)
  have hs76 := Ext_sh hE271 hs76 (by decide)
  have hl89 := Ext_ln hE271 (by rw [hs87]; decide) hl89
  have hs87 := Ext_sh hE271 hs87 (by decide)
  have hl99 := Ext_ln hE271 (by rw [hs97]; decide) hl99
  have hs97 := Ext_sh hE271 hs97 (by decide)
  have hl109 := Ext_ln hE271 (by rw [hs107]; decide) hl109
  have hs107 := Ext_sh hE271 hs107 (by decide)
  have hl119 := Ext_ln hE271 (by rw [hs117]; decide) hl119
  have hs117 := Ext_sh hE271 hs117 (by decide)
  have hl129 := Ext_ln hE271 (by rw [hs127]; decide) hl129
  have hs127 := Ext_sh hE271 hs127 (by decide)
  have hl139 := Ext_ln hE271 (by rw [hs137]; decide) hl139
  have hs137 := Ext_sh hE271 hs137 (by decide)
  have hl149 := Ext_ln hE271 (by rw [hs147]; decide) hl149
  have hs147 := Ext_sh hE271 hs147 (by decide)
  have hl159 := Ext_ln hE271 (by rw [hs157]; decide) hl159
  have hs157 := Ext_sh hE271 hs157 (by decide)
  have hl169 := Ext_ln hE271 (by rw [hs167]; decide) hl169
  have hs167 := Ext_sh hE271 hs167 (by decide)
  have hl179 := Ext_ln hE271 (by rw [hs177]; decide) hl179
  have hs177 := Ext_sh hE271 hs177 (by decide)
  have hs187 := Ext_sh hE271 hs187 (by decide)
  have hs204 := Ext_sh hE271 hs204 (by decide)
  have hs221 := Ext_sh hE271 hs221 (by decide)
  have hs238 := Ext_sh hE271 hs238 (by decide)
  have hs255 := Ext_sh hE271 hs255 (by decide)
  have hs272 : sh s269 (sN s265) = 3 := by rw [e270]; exact sh_mk
  have hb273 := nb_N g267
  refine X_dup C dX0_init_205 rfl ?_
  refine X_callIN (As := []) (rest := [_, _]) C q235 q236 q134 q237 rfl nm_X2_init rfl dX0_init_206 (m_X2_init (Cx_l C) (d := d - 1) (by omega) s269 (sN s265) hs272 hb273 h) (by omega) (by decide) (Nat.le_of_ble_eq_true rfl) (fun s275 w276 hE277 hP278 => ?_) (fun s281 E279 q280 hE277 hP278 => ?_)
  rotate_left
  · exact False.elim hP278
  obtain ⟨rfl, h⟩ := hP278
  refine X_tln ?_
  have hl8 := Ext_ln hE277 (by rw [hs6]; decide) hl8
  have hl89 := Ext_ln hE277 (by rw [hs87]; decide) hl89
  have hl99 := Ext_ln hE277 (by rw [hs97]; decide) hl99
  have hl109 := Ext_ln hE277 (by rw [hs107]; decide) hl109
  have hl119 := Ext_ln hE277 (by rw [hs117]; decide) hl119
  have hl129 := Ext_ln hE277 (by rw [hs127]; decide) hl129
  have hl139 := Ext_ln hE277 (by rw [hs137]; decide) hl139
  have hl149 := Ext_ln hE277 (by rw [hs147]; decide) hl149
  have hl159 := Ext_ln hE277 (by rw [hs157]; decide) hl159
  have hl169 := Ext_ln hE277 (by rw [hs167]; decide) hl169
  have hl179 := Ext_ln hE277 (by rw [hs177]; decide) hl179
  have hs_a0 := Ext_sh hE277 hs_a0 (by decide)
  have hs6 := Ext_sh hE277 hs6 (by decide)
  have hs16 := Ext_sh hE277 hs16 (by decide)
  have hs33 := Ext_sh hE277 hs33 (by decide)
  have hs50 := Ext_sh hE277 hs50 (by decide)
  have hs67 := Ext_sh hE277 hs67 (by decide)
  have hs76 := Ext_sh hE277 hs76 (by decide)
  have hs87 := Ext_sh hE277 hs87 (by decide)
  have hs97 := Ext_sh hE277 hs97 (by decide)
  have hs107 := Ext_sh hE277 hs107 (by decide)
  have hs117 := Ext_sh hE277 hs117 (by decide)
  have hs127 := Ext_sh hE277 hs127 (by decide)
  have hs137 := Ext_sh hE277 hs137 (by decide)
  have hs147 := Ext_sh hE277 hs147 (by decide)
  have hs157 := Ext_sh hE277 hs157 (by decide)
  have hs167 := Ext_sh hE277 hs167 (by decide)
  have hs177 := Ext_sh hE277 hs177 (by decide)
  have hs187 := Ext_sh hE277 hs187 (by decide)
  have hs204 := Ext_sh hE277 hs204 (by decide)
  have hs221 := Ext_sh hE277 hs221 (by decide)
  have hs238 := Ext_sh hE277 hs238 (by decide)
  have hs255 := Ext_sh hE277 hs255 (by decide)
  have hs272 := Ext_sh hE277 hs272 (by decide)
  refine X_putFR0 (v := (some (sN s265))) (ci := 0) (j := 29) (q := (RX0, TX0, 49)) C h0 rfl rfl (by decide) q289 rfl rfl rfl dX0_init_209 hb_a0 hs_a0 (Or.inl ⟨_, rfl⟩) ?_
  refine X_nm (fun s282 e283 => ?_)
  have h := h s282 e283
  have hs_a0 : sh s282 a0 = 1 := by rw [e283]; exact hs_a0
  have hs6 : sh s282 (sN st) = 101 := by rw [e283]; exact hs6
  have hl8 : ln s282 (sN st) = 9 := by rw [e283]; exact hl8
  have hs16 : sh s282 (sN s9) = 2 := by rw [e283]; exact hs16
  have hs33 : sh s282 (sN s26) = 2 := by rw [e283]; exact hs33
  have hs50 : sh s282 (sN s43) = 2 := by rw [e283]; exact hs50
  have hs67 : sh s282 (sN s62) = 113 := by rw [e283]; exact hs67
  have hs76 : sh s282 (sN s71) = 113 := by rw [e283]; exact hs76
  have hs87 : sh s282 (sN s80) = 102 := by rw [e283]; exact hs87
  have hl89 : ln s282 (sN s80) = 16 := by rw [e283]; exact hl89
  have hs97 : sh s282 (sN s90) = 101 := by rw [e283]; exact hs97
  have hl99 : ln s282 (sN s90) = 3 := by rw [e283]; exact hl99
  have hs107 : sh s282 (sN s100) = 101 := by rw [e283]; exact hs107
  have hl109 : ln s282 (sN s100) = 3 := by rw [e283]; exact hl109
  have hs117 : sh s282 (sN s110) = 102 := by rw [e283]; exact hs117
  have hl119 : ln s282 (sN s110) = 3 := by rw [e283]; exact hl119
  have hs127 : sh s282 (sN s120) = 102 := by rw [e283]; exact hs127
  have hl129 : ln s282 (sN s120) = 3 := by rw [e283]; exact hl129
  have hs137 : sh s282 (sN s130) = 114 := by rw [e283]; exact hs137
  have hl139 : ln s282 (sN s130) = 15 := by rw [e283]; exact hl139
  have hs147 : sh s282 (sN s140) = 114 := by rw [e283]; exact hs147
  have hl149 : ln s282 (sN s140) = 3 := by rw [e283]; exact hl149
  have hs157 : sh s282 (sN s150) = 114 := by rw [e283]; exact hs157
  have hl159 : ln s282 (sN s150) = 3 := by rw [e283]; exact hl159
  have hs167 : sh s282 (sN s160) = 101 := by rw [e283]; exact hs167
  have hl169 : ln s282 (sN s160) = 3 := by rw [e283]; exact hl169
  have hs177 : sh s282 (sN s170) = 101 := by rw [e283]; exact hs177
  have hl179 : ln s282 (sN s170) = 3 := by rw [e283]; exact hl179
  have hs187 : sh s282 (sN s180) = 3 := by rw [e283]; exact hs187
  have hs204 : sh s282 (sN s197) = 3 := by rw [e283]; exact hs204
  have hs221 : sh s282 (sN s214) = 3 := by rw [e283]; exact hs221
  have hs238 : sh s282 (sN s231) = 3 := by rw [e283]; exact hs238
  have hs255 : sh s282 (sN s248) = 3 := by rw [e283]; exact hs255
  have hs272 : sh s282 (sN s265) = 3 := by rw [e283]; exact hs272
  refine X_aload_n C dX0_init_212 rfl 0 rfl (isRV_r _) ?_
  have g284 := h.1
  have h := h.2
  have g285 := h.1
  have h := h.2
  refine X_new (ci := 2) (q := (RX2, TX2, 2)) C rfl q232 q234 q134 g284 g285 dX0_init_213 (fun hE288 => ?_)
  refine X_nm (fun s286 e287 => ?_)
  have h := h s286 e287
  rw [← e287] at hE288
  have hs_a0 := Ext_sh hE288 hs_a0 (by decide)
  have hl8 := Ext_ln hE288 (by rw [hs6]; decide) hl8
  have hs6 := Ext_sh hE288 hs6 (by decide)
  have hs16 := Ext_sh hE288 hs16 (by decide)
  have hs33 := Ext_sh hE288 hs33 (by decide)
  have hs50 := Ext_sh hE288 hs50 (by decide)
  have hs67 := Ext_sh hE288 hs67 (by decide)
  have hs76 := Ext_sh hE288 hs76 (by decide)
  have hl89 := Ext_ln hE288 (by rw [hs87]; decide) hl89
  have hs87 := Ext_sh hE288 hs87 (by decide)
  have hl99 := Ext_ln hE288 (by rw [hs97]; decide) hl99
  have hs97 := Ext_sh hE288 hs97 (by decide)
  have hl109 := Ext_ln hE288 (by rw [hs107]; decide) hl109
  have hs107 := Ext_sh hE288 hs107 (by decide)
  have hl119 := Ext_ln hE288 (by rw [hs117]; decide) hl119
  have hs117 := Ext_sh hE288 hs117 (by decide)
  have hl129 := Ext_ln hE288 (by rw [hs127]; decide) hl129
  have hs127 := Ext_sh hE288 hs127 (by decide)
  have hl139 := Ext_ln hE288 (by rw [hs137]; decide) hl139
  have hs137 := Ext_sh hE288 hs137 (by decide)
  have hl149 := Ext_ln hE288 (by rw [hs147]; decide) hl149
  have hs147 := Ext_sh hE288 hs147 (by decide)
  have hl159 := Ext_ln hE288 (by rw [hs157]; decide) hl159
  have hs157 := Ext_sh hE288 hs157 (by decide)
  have hl169 := Ext_ln hE288 (by rw [hs167]; decide) hl169
  have hs167 := Ext_sh hE288 hs167 (by decide)
  have hl179 := Ext_ln hE288 (by rw [hs177]; decide) hl179
  have hs177 := Ext_sh hE288 hs177 (by decide)
  have hs187 := Ext_sh hE288 hs187 (by decide)
  have hs204 := Ext_sh hE288 hs204 (by decide)
  have hs221 := Ext_sh hE288 hs221 (by decide)
  have hs238 := Ext_sh hE288 hs238 (by decide)
  have hs255 := Ext_sh hE288 hs255 (by decide)
  have hs272 := Ext_sh hE288 hs272 (by decide)
  have hs289 : sh s286 (sN s282) = 3 := by rw [e287]; exact sh_mk
  have hb290 := nb_N g284
  refine X_dup C dX0_init_216 rfl ?_
  refine X_callIN (As := []) (rest := [_, _]) C q235 q236 q134 q237 rfl nm_X2_init rfl dX0_init_217 (m_X2_init (Cx_l C) (d := d - 1) (by omega) s286 (sN s282) hs289 hb290 h) (by omega) (by decide) (Nat.le_of_ble_eq_true rfl) (fun s292 w293 hE294 hP295 => ?_) (fun s298 E296 q297 hE294 hP295 => ?_)
  rotate_left
  · exact False.elim hP295
  obtain ⟨rfl, h⟩ := hP295
  refine X_tln ?_
  have hl8 := Ext_ln hE294 (by rw [hs6]; decide) hl8
  have hl89 := Ext_ln hE294 (by rw [hs87]; decide) hl89
  have hl99 := Ext_ln hE294 (by rw [hs97]; decide) hl99
  have hl109 := Ext_ln hE294 (by rw [hs107]; decide) hl109
  have hl119 := Ext_ln hE294 (by rw [hs117]; decide) hl119
  have hl129 := Ext_ln hE294 (by rw [hs127]; decide) hl129
  have hl139 := Ext_ln hE294 (by rw [hs137]; decide) hl139
  have hl149 := Ext_ln hE294 (by rw [hs147]; decide) hl149
  have hl159 := Ext_ln hE294 (by rw [hs157]; decide) hl159
  have hl169 := Ext_ln hE294 (by rw [hs167]; decide) hl169
  have hl179 := Ext_ln hE294 (by rw [hs177]; decide) hl179
  have hs_a0 := Ext_sh hE294 hs_a0 (by decide)
  have hs6 := Ext_sh hE294 hs6 (by decide)
  have hs16 := Ext_sh hE294 hs16 (by decide)
  have hs33 := Ext_sh hE294 hs33 (by decide)
  have hs50 := Ext_sh hE294 hs50 (by decide)
  have hs67 := Ext_sh hE294 hs67 (by decide)
  have hs76 := Ext_sh hE294 hs76 (by decide)
  have hs87 := Ext_sh hE294 hs87 (by decide)
  have hs97 := Ext_sh hE294 hs97 (by decide)
  have hs107 := Ext_sh hE294 hs107 (by decide)
  have hs117 := Ext_sh hE294 hs117 (by decide)
  have hs127 := Ext_sh hE294 hs127 (by decide)
  have hs137 := Ext_sh hE294 hs137 (by decide)
  have hs147 := Ext_sh hE294 hs147 (by decide)
  have hs157 := Ext_sh hE294 hs157 (by decide)
  have hs167 := Ext_sh hE294 hs167 (by decide)
  have hs177 := Ext_sh hE294 hs177 (by decide)
  have hs187 := Ext_sh hE294 hs187 (by decide)
  have hs204 := Ext_sh hE294 hs204 (by decide)
  have hs221 := Ext_sh hE294 hs221 (by decide)
  have hs238 := Ext_sh hE294 hs238 (by decide)
  have hs255 := Ext_sh hE294 hs255 (by decide)
  have hs272 := Ext_sh hE294 hs272 (by decide)
  have hs289 := Ext_sh hE294 hs289 (by decide)
  refine X_putFR0 (v := (some (sN s282))) (ci := 0) (j := 30) (q := (RX0, TX0, 49)) C h0 rfl rfl (by decide) q290 rfl rfl rfl dX0_init_220 hb_a0 hs_a0 (Or.inl ⟨_, rfl⟩) ?_
  refine X_nm (fun s299 e300 => ?_)
  have h := h s299 e300
  have hs_a0 : sh s299 a0 = 1 := by rw [e300]; exact hs_a0
  have hs6 : sh s299 (sN st) = 101 := by rw [e300]; exact hs6
  have hl8 : ln s299 (sN st) = 9 := by rw [e300]; exact hl8
  have hs16 : sh s299 (sN s9) = 2 := by rw [e300]; exact hs16
  have hs33 : sh s299 (sN s26) = 2 := by rw [e300]; exact hs33
  have hs50 : sh s299 (sN s43) = 2 := by rw [e300]; exact hs50
  have hs67 : sh s299 (sN s62) = 113 := by rw [e300]; exact hs67
  have hs76 : sh s299 (sN s71) = 113 := by rw [e300]; exact hs76
  have hs87 : sh s299 (sN s80) = 102 := by rw [e300]; exact hs87
  have hl89 : ln s299 (sN s80) = 16 := by rw [e300]; exact hl89
  have hs97 : sh s299 (sN s90) = 101 := by rw [e300]; exact hs97
  have hl99 : ln s299 (sN s90) = 3 := by rw [e300]; exact hl99
  have hs107 : sh s299 (sN s100) = 101 := by rw [e300]; exact hs107
  have hl109 : ln s299 (sN s100) = 3 := by rw [e300]; exact hl109
  have hs117 : sh s299 (sN s110) = 102 := by rw [e300]; exact hs117
  have hl119 : ln s299 (sN s110) = 3 := by rw [e300]; exact hl119
  have hs127 : sh s299 (sN s120) = 102 := by rw [e300]; exact hs127
  have hl129 : ln s299 (sN s120) = 3 := by rw [e300]; exact hl129
  have hs137 : sh s299 (sN s130) = 114 := by rw [e300]; exact hs137
  have hl139 : ln s299 (sN s130) = 15 := by rw [e300]; exact hl139
  have hs147 : sh s299 (sN s140) = 114 := by rw [e300]; exact hs147
  have hl149 : ln s299 (sN s140) = 3 := by rw [e300]; exact hl149
  have hs157 : sh s299 (sN s150) = 114 := by rw [e300]; exact hs157
  have hl159 : ln s299 (sN s150) = 3 := by rw [e300]; exact hl159
  have hs167 : sh s299 (sN s160) = 101 := by rw [e300]; exact hs167
  have hl169 : ln s299 (sN s160) = 3 := by rw [e300]; exact hl169
  have hs177 : sh s299 (sN s170) = 101 := by rw [e300]; exact hs177
  have hl179 : ln s299 (sN s170) = 3 := by rw [e300]; exact hl179
  have hs187 : sh s299 (sN s180) = 3 := by rw [e300]; exact hs187
  have hs204 : sh s299 (sN s197) = 3 := by rw [e300]; exact hs204
  have hs221 : sh s299 (sN s214) = 3 := by rw [e300]; exact hs221
  have hs238 : sh s299 (sN s231) = 3 := by rw [e300]; exact hs238
  have hs255 : sh s299 (sN s248) = 3 := by rw [e300]; exact hs255
  have hs272 : sh s299 (sN s265) = 3 := by rw [e300]; exact hs272
  have hs289 : sh s299 (sN s282) = 3 := by rw [e300]; exact hs289
  refine X_aload_n C dX0_init_223 rfl 0 rfl (isRV_r _) ?_
  have g301 := h.1
  have h := h.2
  have g302 := h.1
  have h := h.2
  refine X_new (ci := 2) (q := (RX2, TX2, 2)) C rfl q232 q234 q134 g301 g302 dX0_init_224 (fun hE305 => ?_)
  refine X_nm (fun s303 e304 => ?_)
  have h := h s303 e304
  rw [← e304] at hE305
  have hs_a0 := Ext_sh hE305 hs_a0 (by decide)
  have hl8 := Ext_ln hE305 (by rw [hs6]; decide) hl8
  have hs6 := Ext_sh hE305 hs6 (by decide)
  have hs16 := Ext_sh hE305 hs16 (by decide)
  have hs33 := Ext_sh hE305 hs33 (by decide)
  have hs50 := Ext_sh hE305 hs50 (by decide)
  have hs67 := Ext_sh hE305 hs67 (by decide)
  have hs76 := Ext_sh hE305 hs76 (by decide)
  have hl89 := Ext_ln hE305 (by rw [hs87]; decide) hl89
  have hs87 := Ext_sh hE305 hs87 (by decide)
  have hl99 := Ext_ln hE305 (by rw [hs97]; decide) hl99
  have hs97 := Ext_sh hE305 hs97 (by decide)
  have hl109 := Ext_ln hE305 (by rw [hs107]; decide) hl109
  have hs107 := Ext_sh hE305 hs107 (by decide)
  have hl119 := Ext_ln hE305 (by rw [hs117]; decide) hl119
  have hs117 := Ext_sh hE305 hs117 (by decide)
  have hl129 := Ext_ln hE305 (by rw [hs127]; decide) hl129
  have hs127 := Ext_sh hE305 hs127 (by decide)
  have hl139 := Ext_ln hE305 (by rw [hs137]; decide) hl139
  have hs137 := Ext_sh hE305 hs137 (by decide)
  have hl149 := Ext_ln hE305 (by rw [hs147]; decide) hl149
  have hs147 := Ext_sh hE305 hs147 (by decide)
  have hl159 := Ext_ln hE305 (by rw [hs157]; decide) hl159
  have hs157 := Ext_sh hE305 hs157 (by decide)
  have hl169 := Ext_ln hE305 (by rw [hs167]; decide) hl169
  have hs167 := Ext_sh hE305 hs167 (by decide)
  have hl179 := Ext_ln hE305 (by rw [hs177]; decide) hl179
  have hs177 := Ext_sh hE305 hs177 (by decide)
  have hs187 := Ext_sh hE305 hs187 (by decide)
  have hs204 := Ext_sh hE305 hs204 (by decide)
  have hs221 := Ext_sh hE305 hs221 (by decide)
  have hs238 := Ext_sh hE305 hs238 (by decide)
  have hs255 := Ext_sh hE305 hs255 (by decide)
  have hs272 := Ext_sh hE305 hs272 (by decide)
  have hs289 := Ext_sh hE305 hs289 (by decide)
  have hs306 : sh s303 (sN s299) = 3 := by rw [e304]; exact sh_mk
  have hb307 := nb_N g301
  refine X_dup C dX0_init_227 rfl ?_
  refine X_callIN (As := []) (rest := [_, _]) C q235 q236 q134 q237 rfl nm_X2_init rfl dX0_init_228 (m_X2_init (Cx_l C) (d := d - 1) (by omega) s303 (sN s299) hs306 hb307 h) (by omega) (by decide) (Nat.le_of_ble_eq_true rfl) (fun s309 w310 hE311 hP312 => ?_) (fun s315 E313 q314 hE311 hP312 => ?_)
  rotate_left
  · exact False.elim hP312
  obtain ⟨rfl, h⟩ := hP312
  refine X_tln ?_
  have hl8 := Ext_ln hE311 (by rw [hs6]; decide) hl8
  have hl89 := Ext_ln hE311 (by rw [hs87]; decide) hl89
  have hl99 := Ext_ln hE311 (by rw [hs97]; decide) hl99
  have hl109 := Ext_ln hE311 (by rw [hs107]; decide) hl109
  have hl119 := Ext_ln hE311 (by rw [hs117]; decide) hl119
  have hl129 := Ext_ln hE311 (by rw [hs127]; decide) hl129
  have hl139 := Ext_ln hE311 (by rw [hs137]; decide) hl139
  have hl149 := Ext_ln hE311 (by rw [hs147]; decide) hl149
  have hl159 := Ext_ln hE311 (by rw [hs157]; decide) hl159
  have hl169 := Ext_ln hE311 (by rw [hs167]; decide) hl169
  have hl179 := Ext_ln hE311 (by rw [hs177]; decide) hl179
  have hs_a0 := Ext_sh hE311 hs_a0 (by decide)
  have hs6 := Ext_sh hE311 hs6 (by decide)
  have hs16 := Ext_sh hE311 hs16 (by decide)
  have hs33 := Ext_sh hE311 hs33 (by decide)
  have hs50 := Ext_sh hE311 hs50 (by decide)
  have hs67 := Ext_sh hE311 hs67 (by decide)
  have hs76 := Ext_sh hE311 hs76 (by decide)
  have hs87 := Ext_sh hE311 hs87 (by decide)
  have hs97 := Ext_sh hE311 hs97 (by decide)
  have hs107 := Ext_sh hE311 hs107 (by decide)
  have hs117 := Ext_sh hE311 hs117 (by decide)
  have hs127 := Ext_sh hE311 hs127 (by decide)
  have hs137 := Ext_sh hE311 hs137 (by decide)
  have hs147 := Ext_sh hE311 hs147 (by decide)
  have hs157 := Ext_sh hE311 hs157 (by decide)
  have hs167 := Ext_sh hE311 hs167 (by decide)
  have hs177 := Ext_sh hE311 hs177 (by decide)
  have hs187 := Ext_sh hE311 hs187 (by decide)
  have hs204 := Ext_sh hE311 hs204 (by decide)
  have hs221 := Ext_sh hE311 hs221 (by decide)
  have hs238 := Ext_sh hE311 hs238 (by decide)
  have hs255 := Ext_sh hE311 hs255 (by decide)
  have hs272 := Ext_sh hE311 hs272 (by decide)
  have hs289 := Ext_sh hE311 hs289 (by decide)
  have hs306 := Ext_sh hE311 hs306 (by decide)
  refine X_putFR0 (v := (some (sN s299))) (ci := 0) (j := 31) (q := (RX0, TX0, 49)) C h0 rfl rfl (by decide) q291 rfl rfl rfl dX0_init_231 hb_a0 hs_a0 (Or.inl ⟨_, rfl⟩) ?_
  refine X_nm (fun s316 e317 => ?_)
  have h := h s316 e317
  have hs_a0 : sh s316 a0 = 1 := by rw [e317]; exact hs_a0
  have hs6 : sh s316 (sN st) = 101 := by rw [e317]; exact hs6
  have hl8 : ln s316 (sN st) = 9 := by rw [e317]; exact hl8
  have hs16 : sh s316 (sN s9) = 2 := by rw [e317]; exact hs16
  have hs33 : sh s316 (sN s26) = 2 := by rw [e317]; exact hs33
  have hs50 : sh s316 (sN s43) = 2 := by rw [e317]; exact hs50
  have hs67 : sh s316 (sN s62) = 113 := by rw [e317]; exact hs67
  have hs76 : sh s316 (sN s71) = 113 := by rw [e317]; exact hs76
  have hs87 : sh s316 (sN s80) = 102 := by rw [e317]; exact hs87
  have hl89 : ln s316 (sN s80) = 16 := by rw [e317]; exact hl89
  have hs97 : sh s316 (sN s90) = 101 := by rw [e317]; exact hs97
  have hl99 : ln s316 (sN s90) = 3 := by rw [e317]; exact hl99
  have hs107 : sh s316 (sN s100) = 101 := by rw [e317]; exact hs107
  have hl109 : ln s316 (sN s100) = 3 := by rw [e317]; exact hl109
  have hs117 : sh s316 (sN s110) = 102 := by rw [e317]; exact hs117
  have hl119 : ln s316 (sN s110) = 3 := by rw [e317]; exact hl119
  have hs127 : sh s316 (sN s120) = 102 := by rw [e317]; exact hs127
  have hl129 : ln s316 (sN s120) = 3 := by rw [e317]; exact hl129
  have hs137 : sh s316 (sN s130) = 114 := by rw [e317]; exact hs137
  have hl139 : ln s316 (sN s130) = 15 := by rw [e317]; exact hl139
  have hs147 : sh s316 (sN s140) = 114 := by rw [e317]; exact hs147
  have hl149 : ln s316 (sN s140) = 3 := by rw [e317]; exact hl149
  have hs157 : sh s316 (sN s150) = 114 := by rw [e317]; exact hs157
  have hl159 : ln s316 (sN s150) = 3 := by rw [e317]; exact hl159
  have hs167 : sh s316 (sN s160) = 101 := by rw [e317]; exact hs167
  have hl169 : ln s316 (sN s160) = 3 := by rw [e317]; exact hl169
  have hs177 : sh s316 (sN s170) = 101 := by rw [e317]; exact hs177
  have hl179 : ln s316 (sN s170) = 3 := by rw [e317]; exact hl179
  have hs187 : sh s316 (sN s180) = 3 := by rw [e317]; exact hs187
  have hs204 : sh s316 (sN s197) = 3 := by rw [e317]; exact hs204
  have hs221 : sh s316 (sN s214) = 3 := by rw [e317]; exact hs221
  have hs238 : sh s316 (sN s231) = 3 := by rw [e317]; exact hs238
  have hs255 : sh s316 (sN s248) = 3 := by rw [e317]; exact hs255
  have hs272 : sh s316 (sN s265) = 3 := by rw [e317]; exact hs272
  have hs289 : sh s316 (sN s282) = 3 := by rw [e317]; exact hs289
  have hs306 : sh s316 (sN s299) = 3 := by rw [e317]; exact hs306
  refine X_aload_n C dX0_init_234 rfl 0 rfl (isRV_r _) ?_
  refine X_sipush (v := 200) C dX0_init_235 rfl ?_
  have g318 := h.1
  have h := h.2
  have g319 := h.1
  have h := h.2
  refine X_newarray (t := 101) (aty := .int) C 0 rfl (by decide) rfl q229 (fun _ _ h => h) (by decide) rfl (by decide) (by decide) g318 g319 dX0_init_238 (fun hE322 => ?_)
  refine X_nm (fun s320 e321 => ?_)
  have h := h s320 e321
  rw [← e321] at hE322
  have hs_a0 := Ext_sh hE322 hs_a0 (by decide)
  have hl8 := Ext_ln hE322 (by rw [hs6]; decide) hl8
  have hs6 := Ext_sh hE322 hs6 (by decide)
  have hs16 := Ext_sh hE322 hs16 (by decide)
  have hs33 := Ext_sh hE322 hs33 (by decide)
  have hs50 := Ext_sh hE322 hs50 (by decide)
  have hs67 := Ext_sh hE322 hs67 (by decide)
  have hs76 := Ext_sh hE322 hs76 (by decide)
  have hl89 := Ext_ln hE322 (by rw [hs87]; decide) hl89
  have hs87 := Ext_sh hE322 hs87 (by decide)
  have hl99 := Ext_ln hE322 (by rw [hs97]; decide) hl99
  have hs97 := Ext_sh hE322 hs97 (by decide)
  have hl109 := Ext_ln hE322 (by rw [hs107]; decide) hl109
  have hs107 := Ext_sh hE322 hs107 (by decide)
  have hl119 := Ext_ln hE322 (by rw [hs117]; decide) hl119
  have hs117 := Ext_sh hE322 hs117 (by decide)
  have hl129 := Ext_ln hE322 (by rw [hs127]; decide) hl129
  have hs127 := Ext_sh hE322 hs127 (by decide)
  have hl139 := Ext_ln hE322 (by rw [hs137]; decide) hl139
  have hs137 := Ext_sh hE322 hs137 (by decide)
  have hl149 := Ext_ln hE322 (by rw [hs147]; decide) hl149
  have hs147 := Ext_sh hE322 hs147 (by decide)
  have hl159 := Ext_ln hE322 (by rw [hs157]; decide) hl159
  have hs157 := Ext_sh hE322 hs157 (by decide)
  have hl169 := Ext_ln hE322 (by rw [hs167]; decide) hl169
  have hs167 := Ext_sh hE322 hs167 (by decide)
  have hl179 := Ext_ln hE322 (by rw [hs177]; decide) hl179
  have hs177 := Ext_sh hE322 hs177 (by decide)
  have hs187 := Ext_sh hE322 hs187 (by decide)
  have hs204 := Ext_sh hE322 hs204 (by decide)
  have hs221 := Ext_sh hE322 hs221 (by decide)
  have hs238 := Ext_sh hE322 hs238 (by decide)
  have hs255 := Ext_sh hE322 hs255 (by decide)
  have hs272 := Ext_sh hE322 hs272 (by decide)
  have hs289 := Ext_sh hE322 hs289 (by decide)
  have hs306 := Ext_sh hE322 hs306 (by decide)
  have hs323 : sh s320 (sN s316) = 101 := by rw [e321]; exact sh_mk
  have hl325 : ln s320 (sN s316) = 200 := by rw [e321]; exact ln_mk
  have hb324 := nb_N g318
  refine X_putFR0 (v := (some (sN s316))) (ci := 0) (j := 32) (q := (RX0, TX0, 49)) C h0 rfl rfl (by decide) q292 rfl rfl rfl dX0_init_240 hb_a0 hs_a0 (Or.inr ⟨_, rfl⟩) ?_
  refine X_nm (fun s326 e327 => ?_)
  have h := h s326 e327
  have hs_a0 : sh s326 a0 = 1 := by rw [e327]; exact hs_a0
  have hs6 : sh s326 (sN st) = 101 := by rw [e327]; exact hs6
  have hl8 : ln s326 (sN st) = 9 := by rw [e327]; exact hl8
  have hs16 : sh s326 (sN s9) = 2 := by rw [e327]; exact hs16
  have hs33 : sh s326 (sN s26) = 2 := by rw [e327]; exact hs33
  have hs50 : sh s326 (sN s43) = 2 := by rw [e327]; exact hs50
  have hs67 : sh s326 (sN s62) = 113 := by rw [e327]; exact hs67
  have hs76 : sh s326 (sN s71) = 113 := by rw [e327]; exact hs76
  have hs87 : sh s326 (sN s80) = 102 := by rw [e327]; exact hs87
  have hl89 : ln s326 (sN s80) = 16 := by rw [e327]; exact hl89
  have hs97 : sh s326 (sN s90) = 101 := by rw [e327]; exact hs97
  have hl99 : ln s326 (sN s90) = 3 := by rw [e327]; exact hl99
  have hs107 : sh s326 (sN s100) = 101 := by rw [e327]; exact hs107
  have hl109 : ln s326 (sN s100) = 3 := by rw [e327]; exact hl109
  have hs117 : sh s326 (sN s110) = 102 := by rw [e327]; exact hs117
  have hl119 : ln s326 (sN s110) = 3 := by rw [e327]; exact hl119
  have hs127 : sh s326 (sN s120) = 102 := by rw [e327]; exact hs127
  have hl129 : ln s326 (sN s120) = 3 := by rw [e327]; exact hl129
  have hs137 : sh s326 (sN s130) = 114 := by rw [e327]; exact hs137
  have hl139 : ln s326 (sN s130) = 15 := by rw [e327]; exact hl139
  have hs147 : sh s326 (sN s140) = 114 := by rw [e327]; exact hs147
  have hl149 : ln s326 (sN s140) = 3 := by rw [e327]; exact hl149
  have hs157 : sh s326 (sN s150) = 114 := by rw [e327]; exact hs157
  have hl159 : ln s326 (sN s150) = 3 := by rw [e327]; exact hl159
  have hs167 : sh s326 (sN s160) = 101 := by rw [e327]; exact hs167
  have hl169 : ln s326 (sN s160) = 3 := by rw [e327]; exact hl169
  have hs177 : sh s326 (sN s170) = 101 := by rw [e327]; exact hs177
  have hl179 : ln s326 (sN s170) = 3 := by rw [e327]; exact hl179
  have hs187 : sh s326 (sN s180) = 3 := by rw [e327]; exact hs187
  have hs204 : sh s326 (sN s197) = 3 := by rw [e327]; exact hs204
  have hs221 : sh s326 (sN s214) = 3 := by rw [e327]; exact hs221
  have hs238 : sh s326 (sN s231) = 3 := by rw [e327]; exact hs238
  have hs255 : sh s326 (sN s248) = 3 := by rw [e327]; exact hs255
  have hs272 : sh s326 (sN s265) = 3 := by rw [e327]; exact hs272
  have hs289 : sh s326 (sN s282) = 3 := by rw [e327]; exact hs289
  have hs306 : sh s326 (sN s299) = 3 := by rw [e327]; exact hs306
  have hs323 : sh s326 (sN s316) = 101 := by rw [e327]; exact hs323
  have hl325 : ln s326 (sN s316) = 200 := by rw [e327]; exact hl325
  refine X_aload_n C dX0_init_243 rfl 0 rfl (isRV_r _) ?_
  refine X_ldcs (tx := "") (i := 0) C (by decide +kernel) dX0_init_244 ?_
  refine X_con (fun hc328 => ?_)
  have hs329 : sh s326 (gBIG + 2 * 0) = 10 := con_str hc328 (by decide)
  refine X_putR0 (v := (some (gBIG + 2 * 0))) (ci := 0) (j := 42) (q := (RX0, TX0, 49)) C h0 rfl (by decide) q302 rfl rfl dX0_init_246 hb_a0 hs_a0 (Or.inl ⟨_, rfl⟩) ?_
  refine X_nm (fun s330 e331 => ?_)
  have h := h s330 e331
  have hs_a0 : sh s330 a0 = 1 := by rw [e331]; exact hs_a0
  have hs6 : sh s330 (sN st) = 101 := by rw [e331]; exact hs6
  have hl8 : ln s330 (sN st) = 9 := by rw [e331]; exact hl8
  have hs16 : sh s330 (sN s9) = 2 := by rw [e331]; exact hs16
  have hs33 : sh s330 (sN s26) = 2 := by rw [e331]; exact hs33
  have hs50 : sh s330 (sN s43) = 2 := by rw [e331]; exact hs50
  have hs67 : sh s330 (sN s62) = 113 := by rw [e331]; exact hs67
  have hs76 : sh s330 (sN s71) = 113 := by rw [e331]; exact hs76
  have hs87 : sh s330 (sN s80) = 102 := by rw [e331]; exact hs87
  have hl89 : ln s330 (sN s80) = 16 := by rw [e331]; exact hl89
  have hs97 : sh s330 (sN s90) = 101 := by rw [e331]; exact hs97
  have hl99 : ln s330 (sN s90) = 3 := by rw [e331]; exact hl99
  have hs107 : sh s330 (sN s100) = 101 := by rw [e331]; exact hs107
  have hl109 : ln s330 (sN s100) = 3 := by rw [e331]; exact hl109
  have hs117 : sh s330 (sN s110) = 102 := by rw [e331]; exact hs117
  have hl119 : ln s330 (sN s110) = 3 := by rw [e331]; exact hl119
  have hs127 : sh s330 (sN s120) = 102 := by rw [e331]; exact hs127
  have hl129 : ln s330 (sN s120) = 3 := by rw [e331]; exact hl129
  have hs137 : sh s330 (sN s130) = 114 := by rw [e331]; exact hs137
  have hl139 : ln s330 (sN s130) = 15 := by rw [e331]; exact hl139
  have hs147 : sh s330 (sN s140) = 114 := by rw [e331]; exact hs147
  have hl149 : ln s330 (sN s140) = 3 := by rw [e331]; exact hl149
  have hs157 : sh s330 (sN s150) = 114 := by rw [e331]; exact hs157
  have hl159 : ln s330 (sN s150) = 3 := by rw [e331]; exact hl159
  have hs167 : sh s330 (sN s160) = 101 := by rw [e331]; exact hs167
  have hl169 : ln s330 (sN s160) = 3 := by rw [e331]; exact hl169
  have hs177 : sh s330 (sN s170) = 101 := by rw [e331]; exact hs177
  have hl179 : ln s330 (sN s170) = 3 := by rw [e331]; exact hl179
  have hs187 : sh s330 (sN s180) = 3 := by rw [e331]; exact hs187
  have hs204 : sh s330 (sN s197) = 3 := by rw [e331]; exact hs204
  have hs221 : sh s330 (sN s214) = 3 := by rw [e331]; exact hs221
  have hs238 : sh s330 (sN s231) = 3 := by rw [e331]; exact hs238
  have hs255 : sh s330 (sN s248) = 3 := by rw [e331]; exact hs255
  have hs272 : sh s330 (sN s265) = 3 := by rw [e331]; exact hs272
  have hs289 : sh s330 (sN s282) = 3 := by rw [e331]; exact hs289
  have hs306 : sh s330 (sN s299) = 3 := by rw [e331]; exact hs306
  have hs323 : sh s330 (sN s316) = 101 := by rw [e331]; exact hs323
  have hl325 : ln s330 (sN s316) = 200 := by rw [e331]; exact hl325
  have hs329 : sh s330 (gBIG + 2 * 0) = 10 := by rw [e331]; exact hs329
  refine X_aload_n C dX0_init_249 rfl 0 rfl (isRV_r _) ?_
  refine X_iconst (v := 3) C dX0_init_250 rfl ?_
  have g332 := h.1
  have h := h.2
  have g333 := h.1
  have h := h.2
  refine X_newarray (t := 101) (aty := .int) C 0 rfl (by decide) rfl q229 (fun _ _ h => h) (by decide) rfl (by decide) (by decide) g332 g333 dX0_init_251 (fun hE336 => ?_)
  refine X_nm (fun s334 e335 => ?_)
  have h := h s334 e335
  rw [← e335] at hE336
  have hs_a0 := Ext_sh hE336 hs_a0 (by decide)
  have hl8 := Ext_ln hE336 (by rw [hs6]; decide) hl8
  have hs6 := Ext_sh hE336 hs6 (by decide)
  have hs16 := Ext_sh hE336 hs16 (by decide)
  have hs33 := Ext_sh hE336 hs33 (by decide)
  have hs50 := Ext_sh hE336 hs50 (by decide)
  have hs67 := Ext_sh hE336 hs67 (by decide)
  have hs76 := Ext_sh hE336 hs76 (by decide)
  have hl89 := Ext_ln hE336 (by rw [hs87]; decide) hl89
  have hs87 := Ext_sh hE336 hs87 (by decide)
  have hl99 := Ext_ln hE336 (by rw [hs97]; decide) hl99
  have hs97 := Ext_sh hE336 hs97 (by decide)
  have hl109 := Ext_ln hE336 (by rw [hs107]; decide) hl109
  have hs107 := Ext_sh hE336 hs107 (by decide)
  have hl119 := Ext_ln hE336 (by rw [hs117]; decide) hl119
  have hs117 := Ext_sh hE336 hs117 (by decide)
  have hl129 := Ext_ln hE336 (by rw [hs127]; decide) hl129
  have hs127 := Ext_sh hE336 hs127 (by decide)
  have hl139 := Ext_ln hE336 (by rw [hs137]; decide) hl139
  have hs137 := Ext_sh hE336 hs137 (by decide)
  have hl149 := Ext_ln hE336 (by rw [hs147]; decide) hl149
  have hs147 := Ext_sh hE336 hs147 (by decide)
  have hl159 := Ext_ln hE336 (by rw [hs157]; decide) hl159
  have hs157 := Ext_sh hE336 hs157 (by decide)
  have hl169 := Ext_ln hE336 (by rw [hs167]; decide) hl169
  have hs167 := Ext_sh hE336 hs167 (by decide)
  have hl179 := Ext_ln hE336 (by rw [hs177]; decide) hl179
  have hs177 := Ext_sh hE336 hs177 (by decide)
  have hs187 := Ext_sh hE336 hs187 (by decide)
  have hs204 := Ext_sh hE336 hs204 (by decide)
  have hs221 := Ext_sh hE336 hs221 (by decide)
  have hs238 := Ext_sh hE336 hs238 (by decide)
  have hs255 := Ext_sh hE336 hs255 (by decide)
  have hs272 := Ext_sh hE336 hs272 (by decide)
  have hs289 := Ext_sh hE336 hs289 (by decide)
  have hs306 := Ext_sh hE336 hs306 (by decide)
  have hl325 := Ext_ln hE336 (by rw [hs323]; decide) hl325
  have hs323 := Ext_sh hE336 hs323 (by decide)
  have hs329 := Ext_sh hE336 hs329 (by decide)
  have hs337 : sh s334 (sN s330) = 101 := by rw [e335]; exact sh_mk
  have hl339 : ln s334 (sN s330) = 3 := by rw [e335]; exact ln_mk
  have hb338 := nb_N g332
  refine X_putFR0 (v := (some (sN s330))) (ci := 0) (j := 45) (q := (RX0, TX0, 49)) C h0 rfl rfl (by decide) q305 rfl rfl rfl dX0_init_253 hb_a0 hs_a0 (Or.inr ⟨_, rfl⟩) ?_
  refine X_nm (fun s340 e341 => ?_)
  have h := h s340 e341
  have hs_a0 : sh s340 a0 = 1 := by rw [e341]; exact hs_a0
  have hs6 : sh s340 (sN st) = 101 := by rw [e341]; exact hs6
  have hl8 : ln s340 (sN st) = 9 := by rw [e341]; exact hl8
  have hs16 : sh s340 (sN s9) = 2 := by rw [e341]; exact hs16
  have hs33 : sh s340 (sN s26) = 2 := by rw [e341]; exact hs33
  have hs50 : sh s340 (sN s43) = 2 := by rw [e341]; exact hs50
  have hs67 : sh s340 (sN s62) = 113 := by rw [e341]; exact hs67
  have hs76 : sh s340 (sN s71) = 113 := by rw [e341]; exact hs76
  have hs87 : sh s340 (sN s80) = 102 := by rw [e341]; exact hs87
  have hl89 : ln s340 (sN s80) = 16 := by rw [e341]; exact hl89
  have hs97 : sh s340 (sN s90) = 101 := by rw [e341]; exact hs97
  have hl99 : ln s340 (sN s90) = 3 := by rw [e341]; exact hl99
  have hs107 : sh s340 (sN s100) = 101 := by rw [e341]; exact hs107
  have hl109 : ln s340 (sN s100) = 3 := by rw [e341]; exact hl109
  have hs117 : sh s340 (sN s110) = 102 := by rw [e341]; exact hs117
  have hl119 : ln s340 (sN s110) = 3 := by rw [e341]; exact hl119
  have hs127 : sh s340 (sN s120) = 102 := by rw [e341]; exact hs127
  have hl129 : ln s340 (sN s120) = 3 := by rw [e341]; exact hl129
  have hs137 : sh s340 (sN s130) = 114 := by rw [e341]; exact hs137
  have hl139 : ln s340 (sN s130) = 15 := by rw [e341]; exact hl139
  have hs147 : sh s340 (sN s140) = 114 := by rw [e341]; exact hs147
  have hl149 : ln s340 (sN s140) = 3 := by rw [e341]; exact hl149
  have hs157 : sh s340 (sN s150) = 114 := by rw [e341]; exact hs157
  have hl159 : ln s340 (sN s150) = 3 := by rw [e341]; exact hl159
  have hs167 : sh s340 (sN s160) = 101 := by rw [e341]; exact hs167
  have hl169 : ln s340 (sN s160) = 3 := by rw [e341]; exact hl169
  have hs177 : sh s340 (sN s170) = 101 := by rw [e341]; exact hs177
  have hl179 : ln s340 (sN s170) = 3 := by rw [e341]; exact hl179
  have hs187 : sh s340 (sN s180) = 3 := by rw [e341]; exact hs187
  have hs204 : sh s340 (sN s197) = 3 := by rw [e341]; exact hs204
  have hs221 : sh s340 (sN s214) = 3 := by rw [e341]; exact hs221
  have hs238 : sh s340 (sN s231) = 3 := by rw [e341]; exact hs238
  have hs255 : sh s340 (sN s248) = 3 := by rw [e341]; exact hs255
  have hs272 : sh s340 (sN s265) = 3 := by rw [e341]; exact hs272
  have hs289 : sh s340 (sN s282) = 3 := by rw [e341]; exact hs289
  have hs306 : sh s340 (sN s299) = 3 := by rw [e341]; exact hs306
  have hs323 : sh s340 (sN s316) = 101 := by rw [e341]; exact hs323
  have hl325 : ln s340 (sN s316) = 200 := by rw [e341]; exact hl325
  have hs329 : sh s340 (gBIG + 2 * 0) = 10 := by rw [e341]; exact hs329
  have hs337 : sh s340 (sN s330) = 101 := by rw [e341]; exact hs337
  have hl339 : ln s340 (sN s330) = 3 := by rw [e341]; exact hl339
  refine X_aload_n C dX0_init_256 rfl 0 rfl (isRV_r _) ?_
  refine X_iconst (v := 5) C dX0_init_257 rfl ?_
  have g342 := h.1
  have h := h.2
  have g343 := h.1
  have h := h.2
  refine X_anewarray (t := 115) C 10 rfl (by decide) (Cn := "SecretsWorth$Sheet") rfl q248 (by decide) (by decide) rfl (by decide) g342 g343 dX0_init_258 (fun hE346 => ?_)
  refine X_nm (fun s344 e345 => ?_)
  have h := h s344 e345
  rw [← e345] at hE346
  have hs_a0 := Ext_sh hE346 hs_a0 (by decide)
  have hl8 := Ext_ln hE346 (by rw [hs6]; decide) hl8
  have hs6 := Ext_sh hE346 hs6 (by decide)
  have hs16 := Ext_sh hE346 hs16 (by decide)
  have hs33 := Ext_sh hE346 hs33 (by decide)
  have hs50 := Ext_sh hE346 hs50 (by decide)
  have hs67 := Ext_sh hE346 hs67 (by decide)
  have hs76 := Ext_sh hE346 hs76 (by decide)
  have hl89 := Ext_ln hE346 (by rw [hs87]; decide) hl89
  have hs87 := Ext_sh hE346 hs87 (by decide)
  have hl99 := Ext_ln hE346 (by rw [hs97]; decide) hl99
  have hs97 := Ext_sh hE346 hs97 (by decide)
  have hl109 := Ext_ln hE346 (by rw [hs107]; decide) hl109
  have hs107 := Ext_sh hE346 hs107 (by decide)
  have hl119 := Ext_ln hE346 (by rw [hs117]; decide) hl119
  have hs117 := Ext_sh hE346 hs117 (by decide)
  have hl129 := Ext_ln hE346 (by rw [hs127]; decide) hl129
  have hs127 := Ext_sh hE346 hs127 (by decide)
  have hl139 := Ext_ln hE346 (by rw [hs137]; decide) hl139
  have hs137 := Ext_sh hE346 hs137 (by decide)
  have hl149 := Ext_ln hE346 (by rw [hs147]; decide) hl149
  have hs147 := Ext_sh hE346 hs147 (by decide)
  have hl159 := Ext_ln hE346 (by rw [hs157]; decide) hl159
  have hs157 := Ext_sh hE346 hs157 (by decide)
  have hl169 := Ext_ln hE346 (by rw [hs167]; decide) hl169
  have hs167 := Ext_sh hE346 hs167 (by decide)
  have hl179 := Ext_ln hE346 (by rw [hs177]; decide) hl179
  have hs177 := Ext_sh hE346 hs177 (by decide)
  have hs187 := Ext_sh hE346 hs187 (by decide)
  have hs204 := Ext_sh hE346 hs204 (by decide)
  have hs221 := Ext_sh hE346 hs221 (by decide)
  have hs238 := Ext_sh hE346 hs238 (by decide)
  have hs255 := Ext_sh hE346 hs255 (by decide)
  have hs272 := Ext_sh hE346 hs272 (by decide)
  have hs289 := Ext_sh hE346 hs289 (by decide)
  have hs306 := Ext_sh hE346 hs306 (by decide)
  have hl325 := Ext_ln hE346 (by rw [hs323]; decide) hl325
  have hs323 := Ext_sh hE346 hs323 (by decide)
  have hs329 := Ext_sh hE346 hs329 (by decide)
  have hl339 := Ext_ln hE346 (by rw [hs337]; decide) hl339
  have hs337 := Ext_sh hE346 hs337 (by decide)
  have hs347 : sh s344 (sN s340) = 115 := by rw [e345]; exact sh_mk
  have hl349 : ln s344 (sN s340) = 5 := by rw [e345]; exact ln_mk
  have hb348 := nb_N g342
  refine X_putFR0 (v := (some (sN s340))) (ci := 0) (j := 48) (q := (RX0, TX0, 49)) C h0 rfl rfl (by decide) q308 rfl rfl rfl dX0_init_261 hb_a0 hs_a0 (Or.inr ⟨_, rfl⟩) ?_
  refine X_nm (fun s350 e351 => ?_)
  have h := h s350 e351
  have hs_a0 : sh s350 a0 = 1 := by rw [e351]; exact hs_a0
  have hs6 : sh s350 (sN st) = 101 := by rw [e351]; exact hs6
  have hl8 : ln s350 (sN st) = 9 := by rw [e351]; exact hl8
  have hs16 : sh s350 (sN s9) = 2 := by rw [e351]; exact hs16
  have hs33 : sh s350 (sN s26) = 2 := by rw [e351]; exact hs33
  have hs50 : sh s350 (sN s43) = 2 := by rw [e351]; exact hs50
  have hs67 : sh s350 (sN s62) = 113 := by rw [e351]; exact hs67
  have hs76 : sh s350 (sN s71) = 113 := by rw [e351]; exact hs76
  have hs87 : sh s350 (sN s80) = 102 := by rw [e351]; exact hs87
  have hl89 : ln s350 (sN s80) = 16 := by rw [e351]; exact hl89
  have hs97 : sh s350 (sN s90) = 101 := by rw [e351]; exact hs97
  have hl99 : ln s350 (sN s90) = 3 := by rw [e351]; exact hl99
  have hs107 : sh s350 (sN s100) = 101 := by rw [e351]; exact hs107
  have hl109 : ln s350 (sN s100) = 3 := by rw [e351]; exact hl109
  have hs117 : sh s350 (sN s110) = 102 := by rw [e351]; exact hs117
  have hl119 : ln s350 (sN s110) = 3 := by rw [e351]; exact hl119
  have hs127 : sh s350 (sN s120) = 102 := by rw [e351]; exact hs127
  have hl129 : ln s350 (sN s120) = 3 := by rw [e351]; exact hl129
  have hs137 : sh s350 (sN s130) = 114 := by rw [e351]; exact hs137
  have hl139 : ln s350 (sN s130) = 15 := by rw [e351]; exact hl139
  have hs147 : sh s350 (sN s140) = 114 := by rw [e351]; exact hs147
  have hl149 : ln s350 (sN s140) = 3 := by rw [e351]; exact hl149
  have hs157 : sh s350 (sN s150) = 114 := by rw [e351]; exact hs157
  have hl159 : ln s350 (sN s150) = 3 := by rw [e351]; exact hl159
  have hs167 : sh s350 (sN s160) = 101 := by rw [e351]; exact hs167
  have hl169 : ln s350 (sN s160) = 3 := by rw [e351]; exact hl169
  have hs177 : sh s350 (sN s170) = 101 := by rw [e351]; exact hs177
  have hl179 : ln s350 (sN s170) = 3 := by rw [e351]; exact hl179
  have hs187 : sh s350 (sN s180) = 3 := by rw [e351]; exact hs187
  have hs204 : sh s350 (sN s197) = 3 := by rw [e351]; exact hs204
  have hs221 : sh s350 (sN s214) = 3 := by rw [e351]; exact hs221
  have hs238 : sh s350 (sN s231) = 3 := by rw [e351]; exact hs238
  have hs255 : sh s350 (sN s248) = 3 := by rw [e351]; exact hs255
  have hs272 : sh s350 (sN s265) = 3 := by rw [e351]; exact hs272
  have hs289 : sh s350 (sN s282) = 3 := by rw [e351]; exact hs289
  have hs306 : sh s350 (sN s299) = 3 := by rw [e351]; exact hs306
  have hs323 : sh s350 (sN s316) = 101 := by rw [e351]; exact hs323
  have hl325 : ln s350 (sN s316) = 200 := by rw [e351]; exact hl325
  have hs329 : sh s350 (gBIG + 2 * 0) = 10 := by rw [e351]; exact hs329
  have hs337 : sh s350 (sN s330) = 101 := by rw [e351]; exact hs337
  have hl339 : ln s350 (sN s330) = 3 := by rw [e351]; exact hl339
  have hs347 : sh s350 (sN s340) = 115 := by rw [e351]; exact hs347
  have hl349 : ln s350 (sN s340) = 5 := by rw [e351]; exact hl349
  refine X_iconst (v := 0) C dX0_init_264 rfl ?_
  refine X_istore_n C dX0_init_265 rfl (lo2 := [(1, _), (0, _)]) (by decide) rfl ?_
  refine X_sub [1, 0] (lo2 := [(0, _), (1, _)]) rfl ?_
  refine t_X0_init_l266 h0 hd C hn ?_ gFU s350 a0 0 hs_a0 hb_a0 h
  · intro s375 x0 hs_x0 hb_x0 h
    exact t_X0_init_b291 h0 hd C hn s375 x0 hs_x0 hb_x0 h

theorem nm_X4_init : yX4_init.cls ≠ "java/lang/invoke/MethodHandle" ∧ yX4_init.cls ≠ "java/lang/invoke/VarHandle" ∧ (parseMethodDescriptor yX4_init.desc).map (fun d => d.parameters.length) = some 0 := by decide +kernel
def w_X4_init (st : St) (a0 : Nat) (Φ : St → Prop) : Prop := sN st + 1 ≤ gCAP ∧ sS st + 9 ≤ gCAPS ∧ ∀ s3, s3 = mk st 101 9 → ∀ s9, s9 = putR s3 a0 0 (some (sN st)) → sN s9 + 1 ≤ gCAP ∧ sS s9 + 97 ≤ gCAPS ∧ ∀ s13, s13 = mk s9 101 97 → ∀ s19, s19 = putR s13 a0 1 (some (sN s9)) → sN s19 + 1 ≤ gCAP ∧ sS s19 + 97 ≤ gCAPS ∧ ∀ s23, s23 = mk s19 101 97 → ∀ s29, s29 = putR s23 a0 2 (some (sN s19)) → sN s29 + 1 ≤ gCAP ∧ sS s29 + 97 ≤ gCAPS ∧ ∀ s33, s33 = mk s29 101 97 → ∀ s39, s39 = putR s33 a0 3 (some (sN s29)) → sN s39 + 1 ≤ gCAP ∧ sS s39 + 3 ≤ gCAPS ∧ ∀ s43, s43 = mk s39 101 3 → ∀ s49, s49 = putR s43 a0 7 (some (sN s39)) → sN s49 + 1 ≤ gCAP ∧ sS s49 + 300 ≤ gCAPS ∧ ∀ s53, s53 = mk s49 101 300 → ∀ s59, s59 = putR s53 a0 8 (some (sN s49)) → sN s59 + 1 ≤ gCAP ∧ sS s59 + 200 ≤ gCAPS ∧ ∀ s63, s63 = mk s59 101 200 → ∀ s69, s69 = putR s63 a0 9 (some (sN s59)) → sN s69 + 1 ≤ gCAP ∧ sS s69 + 600 ≤ gCAPS ∧ ∀ s73, s73 = mk s69 101 600 → ∀ s79, s79 = putR s73 a0 11 (some (sN s69)) → sN s79 + 1 ≤ gCAP ∧ sS s79 + 600 ≤ gCAPS ∧ ∀ s83, s83 = mk s79 101 600 → ∀ s89, s89 = putR s83 a0 12 (some (sN s79)) → sN s89 + 1 ≤ gCAP ∧ sS s89 + 300 ≤ gCAPS ∧ ∀ s93, s93 = mk s89 102 300 → ∀ s99, s99 = putR s93 a0 15 (some (sN s89)) → sN s99 + 1 ≤ gCAP ∧ sS s99 + 5 ≤ gCAPS ∧ ∀ s103, s103 = mk s99 101 5 → ∀ s109, s109 = putR s103 a0 16 (some (sN s99)) → sN s109 + 1 ≤ gCAP ∧ sS s109 + 5 ≤ gCAPS ∧ ∀ s113, s113 = mk s109 101 5 → ∀ s119, s119 = putR s113 a0 17 (some (sN s109)) → sN s119 + 1 ≤ gCAP ∧ sS s119 + 81 ≤ gCAPS ∧ ∀ s123, s123 = mk s119 102 81 → ∀ s129, s129 = putR s123 a0 21 (some (sN s119)) → sN s129 + 1 ≤ gCAP ∧ sS s129 + 3 ≤ gCAPS ∧ ∀ s133, s133 = mk s129 101 3 → ∀ s139, s139 = putR s133 a0 25 (some (sN s129)) → sN s139 + 1 ≤ gCAP ∧ sS s139 + 3 ≤ gCAPS ∧ ∀ s143, s143 = mk s139 101 3 → ∀ s149, s149 = putR s143 a0 26 (some (sN s139)) → sN s149 + 1 ≤ gCAP ∧ sS s149 + 27 ≤ gCAPS ∧ ∀ s153, s153 = mk s149 102 27 → ∀ s159, s159 = putR s153 a0 27 (some (sN s149)) → sN s159 + 1 ≤ gCAP ∧ sS s159 + 3 ≤ gCAPS ∧ ∀ s163, s163 = mk s159 102 3 → ∀ s169, s169 = putR s163 a0 28 (some (sN s159)) → sN s169 + 1 ≤ gCAP ∧ sS s169 + 16 ≤ gCAPS ∧ ∀ s173, s173 = mk s169 102 16 → ∀ s179, s179 = putR s173 a0 31 (some (sN s169)) → sN s179 + 1 ≤ gCAP ∧ sS s179 + 15 ≤ gCAPS ∧ ∀ s183, s183 = mk s179 102 15 → ∀ s189, s189 = putR s183 a0 32 (some (sN s179)) → sN s189 + 1 ≤ gCAP ∧ sS s189 + 15 ≤ gCAPS ∧ ∀ s193, s193 = mk s189 102 15 → ∀ s199, s199 = putR s193 a0 33 (some (sN s189)) → sN s199 + 1 ≤ gCAP ∧ sS s199 + 15 ≤ gCAPS ∧ ∀ s203, s203 = mk s199 104 15 → ∀ s209, s209 = putR s203 a0 34 (some (sN s199)) → sN s209 + 1 ≤ gCAP ∧ sS s209 + 3 ≤ gCAPS ∧ ∀ s213, s213 = mk s209 101 3 → ∀ s219, s219 = putR s213 a0 35 (some (sN s209)) → sN s219 + 1 ≤ gCAP ∧ sS s219 + 3 ≤ gCAPS ∧ ∀ s223, s223 = mk s219 102 3 → ∀ s229, s229 = putR s223 a0 37 (some (sN s219)) → sN s229 + 1 ≤ gCAP ∧ sS s229 + 3 ≤ gCAPS ∧ ∀ s233, s233 = mk s229 101 3 → ∀ s239, s239 = putR s233 a0 39 (some (sN s229)) → sN s239 + 1 ≤ gCAP ∧ sS s239 + 3 ≤ gCAPS ∧ ∀ s243, s243 = mk s239 102 3 → ∀ s249, s249 = putR s243 a0 40 (some (sN s239)) → ∃ r251, (sR s249 a0 1) = some r251 ∧ r251 < gBIG ∧ sh s249 r251 = 101 ∧ vp_in (0 : Int32) (ln s249 r251) ∧ ∀ s256, s256 = putI s249 r251 ((0 : Int32).toNatClampNeg) 2 → ∃ r258, (sR s256 a0 1) = some r258 ∧ r258 < gBIG ∧ sh s256 r258 = 101 ∧ vp_in (1 : Int32) (ln s256 r258) ∧ ∀ s263, s263 = putI s256 r258 ((1 : Int32).toNatClampNeg) 4 → ∃ r265, (sR s263 a0 1) = some r265 ∧ r265 < gBIG ∧ sh s263 r265 = 101 ∧ vp_in (2 : Int32) (ln s263 r265) ∧ ∀ s270, s270 = putI s263 r265 ((2 : Int32).toNatClampNeg) 2 → ∃ r272, (sR s270 a0 1) = some r272 ∧ r272 < gBIG ∧ sh s270 r272 = 101 ∧ vp_in (3 : Int32) (ln s270 r272) ∧ ∀ s277, s277 = putI s270 r272 ((3 : Int32).toNatClampNeg) 2 → ∃ r279, (sR s277 a0 1) = some r279 ∧ r279 < gBIG ∧ sh s277 r279 = 101 ∧ vp_in (96 : Int32) (ln s277 r279) ∧ ∀ s284, s284 = putI s277 r279 ((96 : Int32).toNatClampNeg) 1 → Φ s284
theorem e_X4_init : plainFor yX4_init = true := plainFor_of_name (by decide +kernel)
theorem m_X4_init {θ : Th} {l : Launch} (hl0 : l.stackTraces = false) (h0 : L0 θ) {d : Nat} (hd : 0 ≤ d) (st : St) (a0 : Nat) (hs_a0 : sh st a0 = 5) (hb_a0 : a0 < gBIG) {Φ : St → Prop} (h : w_X4_init st a0 Φ) : Ct θ l yX4_init (ws_ yX4_init cX4_init 1 (none : Option Jvm.ClassFile.FieldType)) d [.ref (ad θ a0)] st (pV Φ, noX) := by
  refine Ct_entry hl0 e_X4_init (Nat.le_of_ble_eq_true rfl) (fun κ hκ _ C => ?_)
  have hn : ∀ st, Φ st → ((pV Φ, noX) : Ph).1 st none := fun st q => ⟨rfl, q⟩
  change X _ _ _ _ _ [(0, .ref (ad θ a0))] _
  unfold w_X4_init at h
  refine X_aload_n C dX4_init_0 rfl 0 rfl (isRV_r _) ?_
  refine X_objInit C ⟨_, rfl⟩ q1765 q168 q169 (Nat.le_of_ble_eq_true rfl) dX4_init_1 ?_
  refine X_aload_n C dX4_init_4 rfl 0 rfl (isRV_r _) ?_
  refine X_bipush (v := 9) C dX4_init_5 rfl ?_
  have g1 := h.1
  have h := h.2
  have g2 := h.1
  have h := h.2
  refine X_newarray (t := 101) (aty := .int) C 0 rfl (by decide) rfl q229 (fun _ _ h => h) (by decide) rfl (by decide) (by decide) g1 g2 dX4_init_7 (fun hE5 => ?_)
  refine X_nm (fun s3 e4 => ?_)
  have h := h s3 e4
  rw [← e4] at hE5
  have hs_a0 := Ext_sh hE5 hs_a0 (by decide)
  have hs6 : sh s3 (sN st) = 101 := by rw [e4]; exact sh_mk
  have hl8 : ln s3 (sN st) = 9 := by rw [e4]; exact ln_mk
  have hb7 := nb_N g1
  refine X_putFR0 (v := (some (sN st))) (ci := 4) (j := 0) (q := (RX4, TX4, 54)) C h0 rfl rfl (by decide) q1766 rfl rfl rfl dX4_init_9 hb_a0 hs_a0 (Or.inr ⟨_, rfl⟩) ?_
  refine X_nm (fun s9 e10 => ?_)
  have h := h s9 e10
  have hs_a0 : sh s9 a0 = 5 := by rw [e10]; exact hs_a0
  have hs6 : sh s9 (sN st) = 101 := by rw [e10]; exact hs6
  have hl8 : ln s9 (sN st) = 9 := by rw [e10]; exact hl8
  refine X_aload_n C dX4_init_12 rfl 0 rfl (isRV_r _) ?_
  refine X_bipush (v := 97) C dX4_init_13 rfl ?_
  have g11 := h.1
  have h := h.2
  have g12 := h.1
  have h := h.2
  refine X_newarray (t := 101) (aty := .int) C 0 rfl (by decide) rfl q229 (fun _ _ h => h) (by decide) rfl (by decide) (by decide) g11 g12 dX4_init_15 (fun hE15 => ?_)
  refine X_nm (fun s13 e14 => ?_)
  have h := h s13 e14
  rw [← e14] at hE15
  have hs_a0 := Ext_sh hE15 hs_a0 (by decide)
  have hl8 := Ext_ln hE15 (by rw [hs6]; decide) hl8
  have hs6 := Ext_sh hE15 hs6 (by decide)
  have hs16 : sh s13 (sN s9) = 101 := by rw [e14]; exact sh_mk
  have hl18 : ln s13 (sN s9) = 97 := by rw [e14]; exact ln_mk
  have hb17 := nb_N g11
  refine X_putFR0 (v := (some (sN s9))) (ci := 4) (j := 1) (q := (RX4, TX4, 54)) C h0 rfl rfl (by decide) q1767 rfl rfl rfl dX4_init_17 hb_a0 hs_a0 (Or.inr ⟨_, rfl⟩) ?_
  refine X_nm (fun s19 e20 => ?_)
  have h := h s19 e20
  have hs_a0 : sh s19 a0 = 5 := by rw [e20]; exact hs_a0
  have hs6 : sh s19 (sN st) = 101 := by rw [e20]; exact hs6
  have hl8 : ln s19 (sN st) = 9 := by rw [e20]; exact hl8
  have hs16 : sh s19 (sN s9) = 101 := by rw [e20]; exact hs16
  have hl18 : ln s19 (sN s9) = 97 := by rw [e20]; exact hl18
  refine X_aload_n C dX4_init_20 rfl 0 rfl (isRV_r _) ?_
  refine X_bipush (v := 97) C dX4_init_21 rfl ?_
  have g21 := h.1
  have h := h.2
  have g22 := h.1
  have h := h.2
  refine X_newarray (t := 101) (aty := .int) C 0 rfl (by decide) rfl q229 (fun _ _ h => h) (by decide) rfl (by decide) (by decide) g21 g22 dX4_init_23 (fun hE25 => ?_)
  refine X_nm (fun s23 e24 => ?_)
  have h := h s23 e24
  rw [← e24] at hE25
  have hs_a0 := Ext_sh hE25 hs_a0 (by decide)
  have hl8 := Ext_ln hE25 (by rw [hs6]; decide) hl8
  have hs6 := Ext_sh hE25 hs6 (by decide)
  have hl18 := Ext_ln hE25 (by rw [hs16]; decide) hl18
  have hs16 := Ext_sh hE25 hs16 (by decide)
  have hs26 : sh s23 (sN s19) = 101 := by rw [e24]; exact sh_mk
  have hl28 : ln s23 (sN s19) = 97 := by rw [e24]; exact ln_mk
  have hb27 := nb_N g21
  refine X_putFR0 (v := (some (sN s19))) (ci := 4) (j := 2) (q := (RX4, TX4, 54)) C h0 rfl rfl (by decide) q1768 rfl rfl rfl dX4_init_25 hb_a0 hs_a0 (Or.inr ⟨_, rfl⟩) ?_
  refine X_nm (fun s29 e30 => ?_)
  have h := h s29 e30
  have hs_a0 : sh s29 a0 = 5 := by rw [e30]; exact hs_a0
  have hs6 : sh s29 (sN st) = 101 := by rw [e30]; exact hs6
  have hl8 : ln s29 (sN st) = 9 := by rw [e30]; exact hl8
  have hs16 : sh s29 (sN s9) = 101 := by rw [e30]; exact hs16
  have hl18 : ln s29 (sN s9) = 97 := by rw [e30]; exact hl18
  have hs26 : sh s29 (sN s19) = 101 := by rw [e30]; exact hs26
  have hl28 : ln s29 (sN s19) = 97 := by rw [e30]; exact hl28
  refine X_aload_n C dX4_init_28 rfl 0 rfl (isRV_r _) ?_
  refine X_bipush (v := 97) C dX4_init_29 rfl ?_
  have g31 := h.1
  have h := h.2
  have g32 := h.1
  have h := h.2
  refine X_newarray (t := 101) (aty := .int) C 0 rfl (by decide) rfl q229 (fun _ _ h => h) (by decide) rfl (by decide) (by decide) g31 g32 dX4_init_31 (fun hE35 => ?_)
  refine X_nm (fun s33 e34 => ?_)
  have h := h s33 e34
  rw [← e34] at hE35
  have hs_a0 := Ext_sh hE35 hs_a0 (by decide)
  have hl8 := Ext_ln hE35 (by rw [hs6]; decide) hl8
  have hs6 := Ext_sh hE35 hs6 (by decide)
  have hl18 := Ext_ln hE35 (by rw [hs16]; decide) hl18
  have hs16 := Ext_sh hE35 hs16 (by decide)
  have hl28 := Ext_ln hE35 (by rw [hs26]; decide) hl28
  have hs26 := Ext_sh hE35 hs26 (by decide)
  have hs36 : sh s33 (sN s29) = 101 := by rw [e34]; exact sh_mk
  have hl38 : ln s33 (sN s29) = 97 := by rw [e34]; exact ln_mk
  have hb37 := nb_N g31
  refine X_putFR0 (v := (some (sN s29))) (ci := 4) (j := 3) (q := (RX4, TX4, 54)) C h0 rfl rfl (by decide) q1769 rfl rfl rfl dX4_init_33 hb_a0 hs_a0 (Or.inr ⟨_, rfl⟩) ?_
  refine X_nm (fun s39 e40 => ?_)
  have h := h s39 e40
  have hs_a0 : sh s39 a0 = 5 := by rw [e40]; exact hs_a0
  have hs6 : sh s39 (sN st) = 101 := by rw [e40]; exact hs6
  have hl8 : ln s39 (sN st) = 9 := by rw [e40]; exact hl8
  have hs16 : sh s39 (sN s9) = 101 := by rw [e40]; exact hs16
  have hl18 : ln s39 (sN s9) = 97 := by rw [e40]; exact hl18
  have hs26 : sh s39 (sN s19) = 101 := by rw [e40]; exact hs26
  have hl28 : ln s39 (sN s19) = 97 := by rw [e40]; exact hl28
  have hs36 : sh s39 (sN s29) = 101 := by rw [e40]; exact hs36
  have hl38 : ln s39 (sN s29) = 97 := by rw [e40]; exact hl38
  refine X_aload_n C dX4_init_36 rfl 0 rfl (isRV_r _) ?_
  refine X_iconst (v := 3) C dX4_init_37 rfl ?_
  have g41 := h.1
  have h := h.2
  have g42 := h.1
  have h := h.2
  refine X_newarray (t := 101) (aty := .int) C 0 rfl (by decide) rfl q229 (fun _ _ h => h) (by decide) rfl (by decide) (by decide) g41 g42 dX4_init_38 (fun hE45 => ?_)
  refine X_nm (fun s43 e44 => ?_)
  have h := h s43 e44
  rw [← e44] at hE45
  have hs_a0 := Ext_sh hE45 hs_a0 (by decide)
  have hl8 := Ext_ln hE45 (by rw [hs6]; decide) hl8
  have hs6 := Ext_sh hE45 hs6 (by decide)
  have hl18 := Ext_ln hE45 (by rw [hs16]; decide) hl18
  have hs16 := Ext_sh hE45 hs16 (by decide)
  have hl28 := Ext_ln hE45 (by rw [hs26]; decide) hl28
  have hs26 := Ext_sh hE45 hs26 (by decide)
  have hl38 := Ext_ln hE45 (by rw [hs36]; decide) hl38
  have hs36 := Ext_sh hE45 hs36 (by decide)
  have hs46 : sh s43 (sN s39) = 101 := by rw [e44]; exact sh_mk
  have hl48 : ln s43 (sN s39) = 3 := by rw [e44]; exact ln_mk
  have hb47 := nb_N g41
  refine X_putFR0 (v := (some (sN s39))) (ci := 4) (j := 7) (q := (RX4, TX4, 54)) C h0 rfl rfl (by decide) q1773 rfl rfl rfl dX4_init_40 hb_a0 hs_a0 (Or.inr ⟨_, rfl⟩) ?_
  refine X_nm (fun s49 e50 => ?_)
  have h := h s49 e50
  have hs_a0 : sh s49 a0 = 5 := by rw [e50]; exact hs_a0
  have hs6 : sh s49 (sN st) = 101 := by rw [e50]; exact hs6
  have hl8 : ln s49 (sN st) = 9 := by rw [e50]; exact hl8
  have hs16 : sh s49 (sN s9) = 101 := by rw [e50]; exact hs16
  have hl18 : ln s49 (sN s9) = 97 := by rw [e50]; exact hl18
  have hs26 : sh s49 (sN s19) = 101 := by rw [e50]; exact hs26
  have hl28 : ln s49 (sN s19) = 97 := by rw [e50]; exact hl28
  have hs36 : sh s49 (sN s29) = 101 := by rw [e50]; exact hs36
  have hl38 : ln s49 (sN s29) = 97 := by rw [e50]; exact hl38
  have hs46 : sh s49 (sN s39) = 101 := by rw [e50]; exact hs46
  have hl48 : ln s49 (sN s39) = 3 := by rw [e50]; exact hl48
  refine X_aload_n C dX4_init_43 rfl 0 rfl (isRV_r _) ?_
  refine X_sipush (v := 300) C dX4_init_44 rfl ?_
  have g51 := h.1
  have h := h.2
  have g52 := h.1
  have h := h.2
  refine X_newarray (t := 101) (aty := .int) C 0 rfl (by decide) rfl q229 (fun _ _ h => h) (by decide) rfl (by decide) (by decide) g51 g52 dX4_init_47 (fun hE55 => ?_)
  refine X_nm (fun s53 e54 => ?_)
  have h := h s53 e54
  rw [← e54] at hE55
  have hs_a0 := Ext_sh hE55 hs_a0 (by decide)
  have hl8 := Ext_ln hE55 (by rw [hs6]; decide) hl8
  have hs6 := Ext_sh hE55 hs6 (by decide)
  have hl18 := Ext_ln hE55 (by rw [hs16]; decide) hl18
  have hs16 := Ext_sh hE55 hs16 (by decide)
  have hl28 := Ext_ln hE55 (by rw [hs26]; decide) hl28
  have hs26 := Ext_sh hE55 hs26 (by decide)
  have hl38 := Ext_ln hE55 (by rw [hs36]; decide) hl38
  have hs36 := Ext_sh hE55 hs36 (by decide)
  have hl48 := Ext_ln hE55 (by rw [hs46]; decide) hl48
  have hs46 := Ext_sh hE55 hs46 (by decide)
  have hs56 : sh s53 (sN s49) = 101 := by rw [e54]; exact sh_mk
  have hl58 : ln s53 (sN s49) = 300 := by rw [e54]; exact ln_mk
  have hb57 := nb_N g51
  refine X_putFR0 (v := (some (sN s49))) (ci := 4) (j := 8) (q := (RX4, TX4, 54)) C h0 rfl rfl (by decide) q1774 rfl rfl rfl dX4_init_49 hb_a0 hs_a0 (Or.inr ⟨_, rfl⟩) ?_
  refine X_nm (fun s59 e60 => ?_)
  have h := h s59 e60
  have hs_a0 : sh s59 a0 = 5 := by rw [e60]; exact hs_a0
  have hs6 : sh s59 (sN st) = 101 := by rw [e60]; exact hs6
  have hl8 : ln s59 (sN st) = 9 := by rw [e60]; exact hl8
  have hs16 : sh s59 (sN s9) = 101 := by rw [e60]; exact hs16
  have hl18 : ln s59 (sN s9) = 97 := by rw [e60]; exact hl18
  have hs26 : sh s59 (sN s19) = 101 := by rw [e60]; exact hs26
  have hl28 : ln s59 (sN s19) = 97 := by rw [e60]; exact hl28
  have hs36 : sh s59 (sN s29) = 101 := by rw [e60]; exact hs36
  have hl38 : ln s59 (sN s29) = 97 := by rw [e60]; exact hl38
  have hs46 : sh s59 (sN s39) = 101 := by rw [e60]; exact hs46
  have hl48 : ln s59 (sN s39) = 3 := by rw [e60]; exact hl48
  have hs56 : sh s59 (sN s49) = 101 := by rw [e60]; exact hs56
  have hl58 : ln s59 (sN s49) = 300 := by rw [e60]; exact hl58
  refine X_aload_n C dX4_init_52 rfl 0 rfl (isRV_r _) ?_
  refine X_sipush (v := 200) C dX4_init_53 rfl ?_
  have g61 := h.1
  have h := h.2
  have g62 := h.1
  have h := h.2
  refine X_newarray (t := 101) (aty := .int) C 0 rfl (by decide) rfl q229 (fun _ _ h => h) (by decide) rfl (by decide) (by decide) g61 g62 dX4_init_56 (fun hE65 => ?_)
  refine X_nm (fun s63 e64 => ?_)
  have h := h s63 e64
  rw [← e64] at hE65
  have hs_a0 := Ext_sh hE65 hs_a0 (by decide)
  have hl8 := Ext_ln hE65 (by rw [hs6]; decide) hl8
  have hs6 := Ext_sh hE65 hs6 (by decide)
  have hl18 := Ext_ln hE65 (by rw [hs16]; decide) hl18
  have hs16 := Ext_sh hE65 hs16 (by decide)
  have hl28 := Ext_ln hE65 (by rw [hs26]; decide) hl28
  have hs26 := Ext_sh hE65 hs26 (by decide)
  have hl38 := Ext_ln hE65 (by rw [hs36]; decide) hl38
  have hs36 := Ext_sh hE65 hs36 (by decide)
  have hl48 := Ext_ln hE65 (by rw [hs46]; decide) hl48
  have hs46 := Ext_sh hE65 hs46 (by decide)
  have hl58 := Ext_ln hE65 (by rw [hs56]; decide) hl58
  have hs56 := Ext_sh hE65 hs56 (by decide)
  have hs66 : sh s63 (sN s59) = 101 := by rw [e64]; exact sh_mk
  have hl68 : ln s63 (sN s59) = 200 := by rw [e64]; exact ln_mk
  have hb67 := nb_N g61
  refine X_putFR0 (v := (some (sN s59))) (ci := 4) (j := 9) (q := (RX4, TX4, 54)) C h0 rfl rfl (by decide) q1775 rfl rfl rfl dX4_init_58 hb_a0 hs_a0 (Or.inr ⟨_, rfl⟩) ?_
  refine X_nm (fun s69 e70 => ?_)
  have h := h s69 e70
  have hs_a0 : sh s69 a0 = 5 := by rw [e70]; exact hs_a0
  have hs6 : sh s69 (sN st) = 101 := by rw [e70]; exact hs6
  have hl8 : ln s69 (sN st) = 9 := by rw [e70]; exact hl8
  have hs16 : sh s69 (sN s9) = 101 := by rw [e70]; exact hs16
  have hl18 : ln s69 (sN s9) = 97 := by rw [e70]; exact hl18
  have hs26 : sh s69 (sN s19) = 101 := by rw [e70]; exact hs26
  have hl28 : ln s69 (sN s19) = 97 := by rw [e70]; exact hl28
  have hs36 : sh s69 (sN s29) = 101 := by rw [e70]; exact hs36
  have hl38 : ln s69 (sN s29) = 97 := by rw [e70]; exact hl38
  have hs46 : sh s69 (sN s39) = 101 := by rw [e70]; exact hs46
  have hl48 : ln s69 (sN s39) = 3 := by rw [e70]; exact hl48
  have hs56 : sh s69 (sN s49) = 101 := by rw [e70]; exact hs56
  have hl58 : ln s69 (sN s49) = 300 := by rw [e70]; exact hl58
  have hs66 : sh s69 (sN s59) = 101 := by rw [e70]; exact hs66
  have hl68 : ln s69 (sN s59) = 200 := by rw [e70]; exact hl68
  refine X_aload_n C dX4_init_61 rfl 0 rfl (isRV_r _) ?_
  refine X_sipush (v := 600) C dX4_init_62 rfl ?_
  have g71 := h.1
  have h := h.2
  have g72 := h.1
  have h := h.2
  refine X_newarray (t := 101) (aty := .int) C 0 rfl (by decide) rfl q229 (fun _ _ h => h) (by decide) rfl (by decide) (by decide) g71 g72 dX4_init_65 (fun hE75 => ?_)
  refine X_nm (fun s73 e74 => ?_)
  have h := h s73 e74
  rw [← e74] at hE75
  have hs_a0 := Ext_sh hE75 hs_a0 (by decide)
  have hl8 := Ext_ln hE75 (by rw [hs6]; decide) hl8
  have hs6 := Ext_sh hE75 hs6 (by decide)
  have hl18 := Ext_ln hE75 (by rw [hs16]; decide) hl18
  have hs16 := Ext_sh hE75 hs16 (by decide)
  have hl28 := Ext_ln hE75 (by rw [hs26]; decide) hl28
  have hs26 := Ext_sh hE75 hs26 (by decide)
  have hl38 := Ext_ln hE75 (by rw [hs36]; decide) hl38
  have hs36 := Ext_sh hE75 hs36 (by decide)
  have hl48 := Ext_ln hE75 (by rw [hs46]; decide) hl48
  have hs46 := Ext_sh hE75 hs46 (by decide)
  have hl58 := Ext_ln hE75 (by rw [hs56]; decide) hl58
  have hs56 := Ext_sh hE75 hs56 (by decide)
  have hl68 := Ext_ln hE75 (by rw [hs66]; decide) hl68
  have hs66 := Ext_sh hE75 hs66 (by decide)
  have hs76 : sh s73 (sN s69) = 101 := by rw [e74]; exact sh_mk
  have hl78 : ln s73 (sN s69) = 600 := by rw [e74]; exact ln_mk
  have hb77 := nb_N g71
  refine X_putFR0 (v := (some (sN s69))) (ci := 4) (j := 11) (q := (RX4, TX4, 54)) C h0 rfl rfl (by decide) q1777 rfl rfl rfl dX4_init_67 hb_a0 hs_a0 (Or.inr ⟨_, rfl⟩) ?_
  refine X_nm (fun s79 e80 => ?_)
  have h := h s79 e80
  have hs_a0 : sh s79 a0 = 5 := by rw [e80]; exact hs_a0
  have hs6 : sh s79 (sN st) = 101 := by rw [e80]; exact hs6
  have hl8 : ln s79 (sN st) = 9 := by rw [e80]; exact hl8
  have hs16 : sh s79 (sN s9) = 101 := by rw [e80]; exact hs16
  have hl18 : ln s79 (sN s9) = 97 := by rw [e80]; exact hl18
  have hs26 : sh s79 (sN s19) = 101 := by rw [e80]; exact hs26
  have hl28 : ln s79 (sN s19) = 97 := by rw [e80]; exact hl28
  have hs36 : sh s79 (sN s29) = 101 := by rw [e80]; exact hs36
  have hl38 : ln s79 (sN s29) = 97 := by rw [e80]; exact hl38
  have hs46 : sh s79 (sN s39) = 101 := by rw [e80]; exact hs46
  have hl48 : ln s79 (sN s39) = 3 := by rw [e80]; exact hl48
  have hs56 : sh s79 (sN s49) = 101 := by rw [e80]; exact hs56
  have hl58 : ln s79 (sN s49) = 300 := by rw [e80]; exact hl58
  have hs66 : sh s79 (sN s59) = 101 := by rw [e80]; exact hs66
  have hl68 : ln s79 (sN s59) = 200 := by rw [e80]; exact hl68
  have hs76 : sh s79 (sN s69) = 101 := by rw [e80]; exact hs76
  have hl78 : ln s79 (sN s69) = 600 := by rw [e80]; exact hl78
  refine X_aload_n C dX4_init_70 rfl 0 rfl (isRV_r _) ?_
  refine X_sipush (v := 600) C dX4_init_71 rfl ?_
  have g81 := h.1
  have h := h.2
  have g82 := h.1
  have h := h.2
  refine X_newarray (t := 101) (aty := .int) C 0 rfl (by decide) rfl q229 (fun _ _ h => h) (by decide) rfl (by decide) (by decide) g81 g82 dX4_init_74 (fun hE85 => ?_)
  refine X_nm (fun s83 e84 => ?_)
  have h := h s83 e84
  rw [← e84] at hE85
  have hs_a0 := Ext_sh hE85 hs_a0 (by decide)
  have hl8 := Ext_ln hE85 (by rw [hs6]; decide) hl8
  have hs6 := Ext_sh hE85 hs6 (by decide)
  have hl18 := Ext_ln hE85 (by rw [hs16]; decide) hl18
  have hs16 := Ext_sh hE85 hs16 (by decide)
  have hl28 := Ext_ln hE85 (by rw [hs26]; decide) hl28
  have hs26 := Ext_sh hE85 hs26 (by decide)
  have hl38 := Ext_ln hE85 (by rw [hs36]; decide) hl38
  have hs36 := Ext_sh hE85 hs36 (by decide)
  have hl48 := Ext_ln hE85 (by rw [hs46]; decide) hl48
  have hs46 := Ext_sh hE85 hs46 (by decide)
  have hl58 := Ext_ln hE85 (by rw [hs56]; decide) hl58
  have hs56 := Ext_sh hE85 hs56 (by decide)
  have hl68 := Ext_ln hE85 (by rw [hs66]; decide) hl68
  have hs66 := Ext_sh hE85 hs66 (by decide)
  have hl78 := Ext_ln hE85 (by rw [hs76]; decide) hl78
  have hs76 := Ext_sh hE85 hs76 (by decide)
  have hs86 : sh s83 (sN s79) = 101 := by rw [e84]; exact sh_mk
  have hl88 : ln s83 (sN s79) = 600 := by rw [e84]; exact ln_mk
  have hb87 := nb_N g81
  refine X_putFR0 (v := (some (sN s79))) (ci := 4) (j := 12) (q := (RX4, TX4, 54)) C h0 rfl rfl (by decide) q1778 rfl rfl rfl dX4_init_76 hb_a0 hs_a0 (Or.inr ⟨_, rfl⟩) ?_
  refine X_nm (fun s89 e90 => ?_)
  have h := h s89 e90
  have hs_a0 : sh s89 a0 = 5 := by rw [e90]; exact hs_a0
  have hs6 : sh s89 (sN st) = 101 := by rw [e90]; exact hs6
  have hl8 : ln s89 (sN st) = 9 := by rw [e90]; exact hl8
  have hs16 : sh s89 (sN s9) = 101 := by rw [e90]; exact hs16
  have hl18 : ln s89 (sN s9) = 97 := by rw [e90]; exact hl18
  have hs26 : sh s89 (sN s19) = 101 := by rw [e90]; exact hs26
  have hl28 : ln s89 (sN s19) = 97 := by rw [e90]; exact hl28
  have hs36 : sh s89 (sN s29) = 101 := by rw [e90]; exact hs36
  have hl38 : ln s89 (sN s29) = 97 := by rw [e90]; exact hl38
  have hs46 : sh s89 (sN s39) = 101 := by rw [e90]; exact hs46
  have hl48 : ln s89 (sN s39) = 3 := by rw [e90]; exact hl48
  have hs56 : sh s89 (sN s49) = 101 := by rw [e90]; exact hs56
  have hl58 : ln s89 (sN s49) = 300 := by rw [e90]; exact hl58
  have hs66 : sh s89 (sN s59) = 101 := by rw [e90]; exact hs66
  have hl68 : ln s89 (sN s59) = 200 := by rw [e90]; exact hl68
  have hs76 : sh s89 (sN s69) = 101 := by rw [e90]; exact hs76
  have hl78 : ln s89 (sN s69) = 600 := by rw [e90]; exact hl78
  have hs86 : sh s89 (sN s79) = 101 := by rw [e90]; exact hs86
  have hl88 : ln s89 (sN s79) = 600 := by rw [e90]; exact hl88
  refine X_aload_n C dX4_init_79 rfl 0 rfl (isRV_r _) ?_
  refine X_sipush (v := 300) C dX4_init_80 rfl ?_
  have g91 := h.1
  have h := h.2
  have g92 := h.1
  have h := h.2
  refine X_newarray (t := 102) (aty := .long) C 1 rfl (by decide) rfl q246 (fun _ _ h => h) (by decide) rfl (by decide) (by decide) g91 g92 dX4_init_83 (fun hE95 => ?_)
  refine X_nm (fun s93 e94 => ?_)
  have h := h s93 e94
  rw [← e94] at hE95
  have hs_a0 := Ext_sh hE95 hs_a0 (by decide)
  have hl8 := Ext_ln hE95 (by rw [hs6]; decide) hl8
  have hs6 := Ext_sh hE95 hs6 (by decide)
  have hl18 := Ext_ln hE95 (by rw [hs16]; decide) hl18
  have hs16 := Ext_sh hE95 hs16 (by decide)
  have hl28 := Ext_ln hE95 (by rw [hs26]; decide) hl28
  have hs26 := Ext_sh hE95 hs26 (by decide)
  have hl38 := Ext_ln hE95 (by rw [hs36]; decide) hl38
  have hs36 := Ext_sh hE95 hs36 (by decide)
  have hl48 := Ext_ln hE95 (by rw [hs46]; decide) hl48
  have hs46 := Ext_sh hE95 hs46 (by decide)
  have hl58 := Ext_ln hE95 (by rw [hs56]; decide) hl58
  have hs56 := Ext_sh hE95 hs56 (by decide)
  have hl68 := Ext_ln hE95 (by rw [hs66]; decide) hl68
  have hs66 := Ext_sh hE95 hs66 (by decide)
  have hl78 := Ext_ln hE95 (by rw [hs76]; decide) hl78
  have hs76 := Ext_sh hE95 hs76 (by decide)
  have hl88 := Ext_ln hE95 (by rw [hs86]; decide) hl88
  have hs86 := Ext_sh hE95 hs86 (by decide)
  have hs96 : sh s93 (sN s89) = 102 := by rw [e94]; exact sh_mk
  have hl98 : ln s93 (sN s89) = 300 := by rw [e94]; exact ln_mk
  have hb97 := nb_N g91
  refine X_putFR0 (v := (some (sN s89))) (ci := 4) (j := 15) (q := (RX4, TX4, 54)) C h0 rfl rfl (by decide) q1781 rfl rfl rfl dX4_init_85 hb_a0 hs_a0 (Or.inr ⟨_, rfl⟩) ?_
  refine X_nm (fun s99 e100 => ?_)
  have h := h s99 e100
  have hs_a0 : sh s99 a0 = 5 := by rw [e100]; exact hs_a0
  have hs6 : sh s99 (sN st) = 101 := by rw [e100]; exact hs6
  have hl8 : ln s99 (sN st) = 9 := by rw [e100]; exact hl8
  have hs16 : sh s99 (sN s9) = 101 := by rw [e100]; exact hs16
  have hl18 : ln s99 (sN s9) = 97 := by rw [e100]; exact hl18
  have hs26 : sh s99 (sN s19) = 101 := by rw [e100]; exact hs26
  have hl28 : ln s99 (sN s19) = 97 := by rw [e100]; exact hl28
  have hs36 : sh s99 (sN s29) = 101 := by rw [e100]; exact hs36
  have hl38 : ln s99 (sN s29) = 97 := by rw [e100]; exact hl38
  have hs46 : sh s99 (sN s39) = 101 := by rw [e100]; exact hs46
  have hl48 : ln s99 (sN s39) = 3 := by rw [e100]; exact hl48
  have hs56 : sh s99 (sN s49) = 101 := by rw [e100]; exact hs56
  have hl58 : ln s99 (sN s49) = 300 := by rw [e100]; exact hl58
  have hs66 : sh s99 (sN s59) = 101 := by rw [e100]; exact hs66
  have hl68 : ln s99 (sN s59) = 200 := by rw [e100]; exact hl68
  have hs76 : sh s99 (sN s69) = 101 := by rw [e100]; exact hs76
  have hl78 : ln s99 (sN s69) = 600 := by rw [e100]; exact hl78
  have hs86 : sh s99 (sN s79) = 101 := by rw [e100]; exact hs86
  have hl88 : ln s99 (sN s79) = 600 := by rw [e100]; exact hl88
  have hs96 : sh s99 (sN s89) = 102 := by rw [e100]; exact hs96
  have hl98 : ln s99 (sN s89) = 300 := by rw [e100]; exact hl98
  refine X_aload_n C dX4_init_88 rfl 0 rfl (isRV_r _) ?_
  refine X_iconst (v := 5) C dX4_init_89 rfl ?_
  have g101 := h.1
  have h := h.2
  have g102 := h.1
  have h := h.2
  refine X_newarray (t := 101) (aty := .int) C 0 rfl (by decide) rfl q229 (fun _ _ h => h) (by decide) rfl (by decide) (by decide) g101 g102 dX4_init_90 (fun hE105 => ?_)
  refine X_nm (fun s103 e104 => ?_)
  have h := h s103 e104
  rw [← e104] at hE105
  have hs_a0 := Ext_sh hE105 hs_a0 (by decide)
  have hl8 := Ext_ln hE105 (by rw [hs6]; decide) hl8
  have hs6 := Ext_sh hE105 hs6 (by decide)
  have hl18 := Ext_ln hE105 (by rw [hs16]; decide) hl18
  have hs16 := Ext_sh hE105 hs16 (by decide)
  have hl28 := Ext_ln hE105 (by rw [hs26]; decide) hl28
  have hs26 := Ext_sh hE105 hs26 (by decide)
  have hl38 := Ext_ln hE105 (by rw [hs36]; decide) hl38
  have hs36 := Ext_sh hE105 hs36 (by decide)
  have hl48 := Ext_ln hE105 (by rw [hs46]; decide) hl48
  have hs46 := Ext_sh hE105 hs46 (by decide)
  have hl58 := Ext_ln hE105 (by rw [hs56]; decide) hl58
  have hs56 := Ext_sh hE105 hs56 (by decide)
  have hl68 := Ext_ln hE105 (by rw [hs66]; decide) hl68
  have hs66 := Ext_sh hE105 hs66 (by decide)
  have hl78 := Ext_ln hE105 (by rw [hs76]; decide) hl78
  have hs76 := Ext_sh hE105 hs76 (by decide)
  have hl88 := Ext_ln hE105 (by rw [hs86]; decide) hl88
  have hs86 := Ext_sh hE105 hs86 (by decide)
  have hl98 := Ext_ln hE105 (by rw [hs96]; decide) hl98
  have hs96 := Ext_sh hE105 hs96 (by decide)
  have hs106 : sh s103 (sN s99) = 101 := by rw [e104]; exact sh_mk
  have hl108 : ln s103 (sN s99) = 5 := by rw [e104]; exact ln_mk
  have hb107 := nb_N g101
  refine X_putFR0 (v := (some (sN s99))) (ci := 4) (j := 16) (q := (RX4, TX4, 54)) C h0 rfl rfl (by decide) q1782 rfl rfl rfl dX4_init_92 hb_a0 hs_a0 (Or.inr ⟨_, rfl⟩) ?_
  refine X_nm (fun s109 e110 => ?_)
  have h := h s109 e110
  have hs_a0 : sh s109 a0 = 5 := by rw [e110]; exact hs_a0
  have hs6 : sh s109 (sN st) = 101 := by rw [e110]; exact hs6
  have hl8 : ln s109 (sN st) = 9 := by rw [e110]; exact hl8
  have hs16 : sh s109 (sN s9) = 101 := by rw [e110]; exact hs16
  have hl18 : ln s109 (sN s9) = 97 := by rw [e110]; exact hl18
  have hs26 : sh s109 (sN s19) = 101 := by rw [e110]; exact hs26
  have hl28 : ln s109 (sN s19) = 97 := by rw [e110]; exact hl28
  have hs36 : sh s109 (sN s29) = 101 := by rw [e110]; exact hs36
  have hl38 : ln s109 (sN s29) = 97 := by rw [e110]; exact hl38
  have hs46 : sh s109 (sN s39) = 101 := by rw [e110]; exact hs46
  have hl48 : ln s109 (sN s39) = 3 := by rw [e110]; exact hl48
  have hs56 : sh s109 (sN s49) = 101 := by rw [e110]; exact hs56
  have hl58 : ln s109 (sN s49) = 300 := by rw [e110]; exact hl58
  have hs66 : sh s109 (sN s59) = 101 := by rw [e110]; exact hs66
  have hl68 : ln s109 (sN s59) = 200 := by rw [e110]; exact hl68
  have hs76 : sh s109 (sN s69) = 101 := by rw [e110]; exact hs76
  have hl78 : ln s109 (sN s69) = 600 := by rw [e110]; exact hl78
  have hs86 : sh s109 (sN s79) = 101 := by rw [e110]; exact hs86
  have hl88 : ln s109 (sN s79) = 600 := by rw [e110]; exact hl88
  have hs96 : sh s109 (sN s89) = 102 := by rw [e110]; exact hs96
  have hl98 : ln s109 (sN s89) = 300 := by rw [e110]; exact hl98
  have hs106 : sh s109 (sN s99) = 101 := by rw [e110]; exact hs106
  have hl108 : ln s109 (sN s99) = 5 := by rw [e110]; exact hl108
  refine X_aload_n C dX4_init_95 rfl 0 rfl (isRV_r _) ?_
  refine X_iconst (v := 5) C dX4_init_96 rfl ?_
  have g111 := h.1
  have h := h.2
  have g112 := h.1
  have h := h.2
  refine X_newarray (t := 101) (aty := .int) C 0 rfl (by decide) rfl q229 (fun _ _ h => h) (by decide) rfl (by decide) (by decide) g111 g112 dX4_init_97 (fun hE115 => ?_)
  refine X_nm (fun s113 e114 => ?_)
  have h := h s113 e114
  rw [← e114] at hE115
  have hs_a0 := Ext_sh hE115 hs_a0 (by decide)
  have hl8 := Ext_ln hE115 (by rw [hs6]; decide) hl8
  have hs6 := Ext_sh hE115 hs6 (by decide)
  have hl18 := Ext_ln hE115 (by rw [hs16]; decide) hl18
  have hs16 := Ext_sh hE115 hs16 (by decide)
  have hl28 := Ext_ln hE115 (by rw [hs26]; decide) hl28
  have hs26 := Ext_sh hE115 hs26 (by decide)
  have hl38 := Ext_ln hE115 (by rw [hs36]; decide) hl38
  have hs36 := Ext_sh hE115 hs36 (by decide)
  have hl48 := Ext_ln hE115 (by rw [hs46]; decide) hl48
  have hs46 := Ext_sh hE115 hs46 (by decide)
  have hl58 := Ext_ln hE115 (by rw [hs56]; decide) hl58
  have hs56 := Ext_sh hE115 hs56 (by decide)
  have hl68 := Ext_ln hE115 (by rw [hs66]; decide) hl68
  have hs66 := Ext_sh hE115 hs66 (by decide)
  have hl78 := Ext_ln hE115 (by rw [hs76]; decide) hl78
  have hs76 := Ext_sh hE115 hs76 (by decide)
  have hl88 := Ext_ln hE115 (by rw [hs86]; decide) hl88
  have hs86 := Ext_sh hE115 hs86 (by decide)
  have hl98 := Ext_ln hE115 (by rw [hs96]; decide) hl98
  have hs96 := Ext_sh hE115 hs96 (by decide)
  have hl108 := Ext_ln hE115 (by rw [hs106]; decide) hl108
  have hs106 := Ext_sh hE115 hs106 (by decide)
  have hs116 : sh s113 (sN s109) = 101 := by rw [e114]; exact sh_mk
  have hl118 : ln s113 (sN s109) = 5 := by rw [e114]; exact ln_mk
  have hb117 := nb_N g111
  refine X_putFR0 (v := (some (sN s109))) (ci := 4) (j := 17) (q := (RX4, TX4, 54)) C h0 rfl rfl (by decide) q1783 rfl rfl rfl dX4_init_99 hb_a0 hs_a0 (Or.inr ⟨_, rfl⟩) ?_
  refine X_nm (fun s119 e120 => ?_)
  have h := h s119 e120
  have hs_a0 : sh s119 a0 = 5 := by rw [e120]; exact hs_a0
  have hs6 : sh s119 (sN st) = 101 := by rw [e120]; exact hs6
  have hl8 : ln s119 (sN st) = 9 := by rw [e120]; exact hl8
  have hs16 : sh s119 (sN s9) = 101 := by rw [e120]; exact hs16
  have hl18 : ln s119 (sN s9) = 97 := by rw [e120]; exact hl18
  have hs26 : sh s119 (sN s19) = 101 := by rw [e120]; exact hs26
  have hl28 : ln s119 (sN s19) = 97 := by rw [e120]; exact hl28
  have hs36 : sh s119 (sN s29) = 101 := by rw [e120]; exact hs36
  have hl38 : ln s119 (sN s29) = 97 := by rw [e120]; exact hl38
  have hs46 : sh s119 (sN s39) = 101 := by rw [e120]; exact hs46
  have hl48 : ln s119 (sN s39) = 3 := by rw [e120]; exact hl48
  have hs56 : sh s119 (sN s49) = 101 := by rw [e120]; exact hs56
  have hl58 : ln s119 (sN s49) = 300 := by rw [e120]; exact hl58
  have hs66 : sh s119 (sN s59) = 101 := by rw [e120]; exact hs66
  have hl68 : ln s119 (sN s59) = 200 := by rw [e120]; exact hl68
  have hs76 : sh s119 (sN s69) = 101 := by rw [e120]; exact hs76
  have hl78 : ln s119 (sN s69) = 600 := by rw [e120]; exact hl78
  have hs86 : sh s119 (sN s79) = 101 := by rw [e120]; exact hs86
  have hl88 : ln s119 (sN s79) = 600 := by rw [e120]; exact hl88
  have hs96 : sh s119 (sN s89) = 102 := by rw [e120]; exact hs96
  have hl98 : ln s119 (sN s89) = 300 := by rw [e120]; exact hl98
  have hs106 : sh s119 (sN s99) = 101 := by rw [e120]; exact hs106
  have hl108 : ln s119 (sN s99) = 5 := by rw [e120]; exact hl108
  have hs116 : sh s119 (sN s109) = 101 := by rw [e120]; exact hs116
  have hl118 : ln s119 (sN s109) = 5 := by rw [e120]; exact hl118
  refine X_aload_n C dX4_init_102 rfl 0 rfl (isRV_r _) ?_
  refine X_bipush (v := 81) C dX4_init_103 rfl ?_
  have g121 := h.1
  have h := h.2
  have g122 := h.1
  have h := h.2
  refine X_newarray (t := 102) (aty := .long) C 1 rfl (by decide) rfl q246 (fun _ _ h => h) (by decide) rfl (by decide) (by decide) g121 g122 dX4_init_105 (fun hE125 => ?_)
  refine X_nm (fun s123 e124 => ?_)
  have h := h s123 e124
  rw [← e124] at hE125
  have hs_a0 := Ext_sh hE125 hs_a0 (by decide)
  have hl8 := Ext_ln hE125 (by rw [hs6]; decide) hl8
  have hs6 := Ext_sh hE125 hs6 (by decide)
  have hl18 := Ext_ln hE125 (by rw [hs16]; decide) hl18
  have hs16 := Ext_sh hE125 hs16 (by decide)
  have hl28 := Ext_ln hE125 (by rw [hs26]; decide) hl28
  have hs26 := Ext_sh hE125 hs26 (by decide)
  have hl38 := Ext_ln hE125 (by rw [hs36]; decide) hl38
  have hs36 := Ext_sh hE125 hs36 (by decide)
  have hl48 := Ext_ln hE125 (by rw [hs46]; decide) hl48
  have hs46 := Ext_sh hE125 hs46 (by decide)
  have hl58 := Ext_ln hE125 (by rw [hs56]; decide) hl58
  have hs56 := Ext_sh hE125 hs56 (by decide)
  have hl68 := Ext_ln hE125 (by rw [hs66]; decide) hl68
  have hs66 := Ext_sh hE125 hs66 (by decide)
  have hl78 := Ext_ln hE125 (by rw [hs76]; decide) hl78
  have hs76 := Ext_sh hE125 hs76 (by decide)
  have hl88 := Ext_ln hE125 (by rw [hs86]; decide) hl88
  have hs86 := Ext_sh hE125 hs86 (by decide)
  have hl98 := Ext_ln hE125 (by rw [hs96]; decide) hl98
  have hs96 := Ext_sh hE125 hs96 (by decide)
  have hl108 := Ext_ln hE125 (by rw [hs106]; decide) hl108
  have hs106 := Ext_sh hE125 hs106 (by decide)
  have hl118 := Ext_ln hE125 (by rw [hs116]; decide) hl118
  have hs116 := Ext_sh hE125 hs116 (by decide)
  have hs126 : sh s123 (sN s119) = 102 := by rw [e124]; exact sh_mk
  have hl128 : ln s123 (sN s119) = 81 := by rw [e124]; exact ln_mk
  have hb127 := nb_N g121
  refine X_putFR0 (v := (some (sN s119))) (ci := 4) (j := 21) (q := (RX4, TX4, 54)) C h0 rfl rfl (by decide) q1787 rfl rfl rfl dX4_init_107 hb_a0 hs_a0 (Or.inr ⟨_, rfl⟩) ?_
  refine X_nm (fun s129 e130 => ?_)
  have h := h s129 e130
  have hs_a0 : sh s129 a0 = 5 := by rw [e130]; exact hs_a0
  have hs6 : sh s129 (sN st) = 101 := by rw [e130]; exact hs6
  have hl8 : ln s129 (sN st) = 9 := by rw [e130]; exact hl8
  have hs16 : sh s129 (sN s9) = 101 := by rw [e130]; exact hs16
  have hl18 : ln s129 (sN s9) = 97 := by rw [e130]; exact hl18
  have hs26 : sh s129 (sN s19) = 101 := by rw [e130]; exact hs26
  have hl28 : ln s129 (sN s19) = 97 := by rw [e130]; exact hl28
  have hs36 : sh s129 (sN s29) = 101 := by rw [e130]; exact hs36
  have hl38 : ln s129 (sN s29) = 97 := by rw [e130]; exact hl38
  have hs46 : sh s129 (sN s39) = 101 := by rw [e130]; exact hs46
  have hl48 : ln s129 (sN s39) = 3 := by rw [e130]; exact hl48
  have hs56 : sh s129 (sN s49) = 101 := by rw [e130]; exact hs56
  have hl58 : ln s129 (sN s49) = 300 := by rw [e130]; exact hl58
  have hs66 : sh s129 (sN s59) = 101 := by rw [e130]; exact hs66
  have hl68 : ln s129 (sN s59) = 200 := by rw [e130]; exact hl68
  have hs76 : sh s129 (sN s69) = 101 := by rw [e130]; exact hs76
  have hl78 : ln s129 (sN s69) = 600 := by rw [e130]; exact hl78
  have hs86 : sh s129 (sN s79) = 101 := by rw [e130]; exact hs86
  have hl88 : ln s129 (sN s79) = 600 := by rw [e130]; exact hl88
  have hs96 : sh s129 (sN s89) = 102 := by rw [e130]; exact hs96
  have hl98 : ln s129 (sN s89) = 300 := by rw [e130]; exact hl98
  have hs106 : sh s129 (sN s99) = 101 := by rw [e130]; exact hs106
  have hl108 : ln s129 (sN s99) = 5 := by rw [e130]; exact hl108
  have hs116 : sh s129 (sN s109) = 101 := by rw [e130]; exact hs116
  have hl118 : ln s129 (sN s109) = 5 := by rw [e130]; exact hl118
  have hs126 : sh s129 (sN s119) = 102 := by rw [e130]; exact hs126
  have hl128 : ln s129 (sN s119) = 81 := by rw [e130]; exact hl128
  refine X_aload_n C dX4_init_110 rfl 0 rfl (isRV_r _) ?_
  refine X_iconst (v := 3) C dX4_init_111 rfl ?_
  have g131 := h.1
  have h := h.2
  have g132 := h.1
  have h := h.2
  refine X_newarray (t := 101) (aty := .int) C 0 rfl (by decide) rfl q229 (fun _ _ h => h) (by decide) rfl (by decide) (by decide) g131 g132 dX4_init_112 (fun hE135 => ?_)
  refine X_nm (fun s133 e134 => ?_)
  have h := h s133 e134
  rw [← e134] at hE135
  have hs_a0 := Ext_sh hE135 hs_a0 (by decide)
  have hl8 := Ext_ln hE135 (by rw [hs6]; decide) hl8
  have hs6 := Ext_sh hE135 hs6 (by decide)
  have hl18 := Ext_ln hE135 (by rw [hs16]; decide) hl18
  have hs16 := Ext_sh hE135 hs16 (by decide)
  have hl28 := Ext_ln hE135 (by rw [hs26]; decide) hl28
  have hs26 := Ext_sh hE135 hs26 (by decide)
  have hl38 := Ext_ln hE135 (by rw [hs36]; decide) hl38
  have hs36 := Ext_sh hE135 hs36 (by decide)
  have hl48 := Ext_ln hE135 (by rw [hs46]; decide) hl48
  have hs46 := Ext_sh hE135 hs46 (by decide)
  have hl58 := Ext_ln hE135 (by rw [hs56]; decide) hl58
  have hs56 := Ext_sh hE135 hs56 (by decide)
  have hl68 := Ext_ln hE135 (by rw [hs66]; decide) hl68
  have hs66 := Ext_sh hE135 hs66 (by decide)
  have hl78 := Ext_ln hE135 (by rw [hs76]; decide) hl78
  have hs76 := Ext_sh hE135 hs76 (by decide)
  have hl88 := Ext_ln hE135 (by rw [hs86]; decide) hl88
  have hs86 := Ext_sh hE135 hs86 (by decide)
  have hl98 := Ext_ln hE135 (by rw [hs96]; decide) hl98
  have hs96 := Ext_sh hE135 hs96 (by decide)
  have hl108 := Ext_ln hE135 (by rw [hs106]; decide) hl108
  have hs106 := Ext_sh hE135 hs106 (by decide)
  have hl118 := Ext_ln hE135 (by rw [hs116]; decide) hl118
  have hs116 := Ext_sh hE135 hs116 (by decide)
  have hl128 := Ext_ln hE135 (by rw [hs126]; decide) hl128
  have hs126 := Ext_sh hE135 hs126 (by decide)
  have hs136 : sh s133 (sN s129) = 101 := by rw [e134]; exact sh_mk
  have hl138 : ln s133 (sN s129) = 3 := by rw [e134]; exact ln_mk
  have hb137 := nb_N g131
  refine X_putFR0 (v := (some (sN s129))) (ci := 4) (j := 25) (q := (RX4, TX4, 54)) C h0 rfl rfl (by decide) q1791 rfl rfl rfl dX4_init_114 hb_a0 hs_a0 (Or.inr ⟨_, rfl⟩) ?_
  refine X_nm (fun s139 e140 => ?_)
  have h := h s139 e140
  have hs_a0 : sh s139 a0 = 5 := by rw [e140]; exact hs_a0
  have hs6 : sh s139 (sN st) = 101 := by rw [e140]; exact hs6
  have hl8 : ln s139 (sN st) = 9 := by rw [e140]; exact hl8
  have hs16 : sh s139 (sN s9) = 101 := by rw [e140]; exact hs16
  have hl18 : ln s139 (sN s9) = 97 := by rw [e140]; exact hl18
  have hs26 : sh s139 (sN s19) = 101 := by rw [e140]; exact hs26
  have hl28 : ln s139 (sN s19) = 97 := by rw [e140]; exact hl28
  have hs36 : sh s139 (sN s29) = 101 := by rw [e140]; exact hs36
  have hl38 : ln s139 (sN s29) = 97 := by rw [e140]; exact hl38
  have hs46 : sh s139 (sN s39) = 101 := by rw [e140]; exact hs46
  have hl48 : ln s139 (sN s39) = 3 := by rw [e140]; exact hl48
  have hs56 : sh s139 (sN s49) = 101 := by rw [e140]; exact hs56
  have hl58 : ln s139 (sN s49) = 300 := by rw [e140]; exact hl58
  have hs66 : sh s139 (sN s59) = 101 := by rw [e140]; exact hs66
  have hl68 : ln s139 (sN s59) = 200 := by rw [e140]; exact hl68
  have hs76 : sh s139 (sN s69) = 101 := by rw [e140]; exact hs76
  have hl78 : ln s139 (sN s69) = 600 := by rw [e140]; exact hl78
  have hs86 : sh s139 (sN s79) = 101 := by rw [e140]; exact hs86
  have hl88 : ln s139 (sN s79) = 600 := by rw [e140]; exact hl88
  have hs96 : sh s139 (sN s89) = 102 := by rw [e140]; exact hs96
  have hl98 : ln s139 (sN s89) = 300 := by rw [e140]; exact hl98
  have hs106 : sh s139 (sN s99) = 101 := by rw [e140]; exact hs106
  have hl108 : ln s139 (sN s99) = 5 := by rw [e140]; exact hl108
  have hs116 : sh s139 (sN s109) = 101 := by rw [e140]; exact hs116
  have hl118 : ln s139 (sN s109) = 5 := by rw [e140]; exact hl118
  have hs126 : sh s139 (sN s119) = 102 := by rw [e140]; exact hs126
  have hl128 : ln s139 (sN s119) = 81 := by rw [e140]; exact hl128
  have hs136 : sh s139 (sN s129) = 101 := by rw [e140]; exact hs136
  have hl138 : ln s139 (sN s129) = 3 := by rw [e140]; exact hl138
  refine X_aload_n C dX4_init_117 rfl 0 rfl (isRV_r _) ?_
  refine X_iconst (v := 3) C dX4_init_118 rfl ?_
  have g141 := h.1
  have h := h.2
  have g142 := h.1
  have h := h.2
  refine X_newarray (t := 101) (aty := .int) C 0 rfl (by decide) rfl q229 (fun _ _ h => h) (by decide) rfl (by decide) (by decide) g141 g142 dX4_init_119 (fun hE145 => ?_)
  refine X_nm (fun s143 e144 => ?_)
  have h := h s143 e144
  rw [← e144] at hE145
  have hs_a0 := Ext_sh hE145 hs_a0 (by decide)
  have hl8 := Ext_ln hE145 (by rw [hs6]; decide) hl8
  have hs6 := Ext_sh hE145 hs6 (by decide)
  have hl18 := Ext_ln hE145 (by rw [hs16]; decide) hl18
  have hs16 := Ext_sh hE145 hs16 (by decide)
  have hl28 := Ext_ln hE145 (by rw [hs26]; decide) hl28
  have hs26 := Ext_sh hE145 hs26 (by decide)
  have hl38 := Ext_ln hE145 (by rw [hs36]; decide) hl38
  have hs36 := Ext_sh hE145 hs36 (by decide)
  have hl48 := Ext_ln hE145 (by rw [hs46]; decide) hl48
  have hs46 := Ext_sh hE145 hs46 (by decide)
  have hl58 := Ext_ln hE145 (by rw [hs56]; decide) hl58
  have hs56 := Ext_sh hE145 hs56 (by decide)
  have hl68 := Ext_ln hE145 (by rw [hs66]; decide) hl68
  have hs66 := Ext_sh hE145 hs66 (by decide)
  have hl78 := Ext_ln hE145 (by rw [hs76]; decide) hl78
  have hs76 := Ext_sh hE145 hs76 (by decide)
  have hl88 := Ext_ln hE145 (by rw [hs86]; decide) hl88
  have hs86 := Ext_sh hE145 hs86 (by decide)
  have hl98 := Ext_ln hE145 (by rw [hs96]; decide) hl98
  have hs96 := Ext_sh hE145 hs96 (by decide)
  have hl108 := Ext_ln hE145 (by rw [hs106]; decide) hl108
  have hs106 := Ext_sh hE145 hs106 (by decide)
  have hl118 := Ext_ln hE145 (by rw [hs116]; decide) hl118
  have hs116 := Ext_sh hE145 hs116 (by decide)
  have hl128 := Ext_ln hE145 (by rw [hs126]; decide) hl128
  have hs126 := Ext_sh hE145 hs126 (by decide)
  have hl138 := Ext_ln hE145 (by rw [hs136]; decide) hl138
  have hs136 := Ext_sh hE145 hs136 (by decide)
  have hs146 : sh s143 (sN s139) = 101 := by rw [e144]; exact sh_mk
  have hl148 : ln s143 (sN s139) = 3 := by rw [e144]; exact ln_mk
  have hb147 := nb_N g141
  refine X_putFR0 (v := (some (sN s139))) (ci := 4) (j := 26) (q := (RX4, TX4, 54)) C h0 rfl rfl (by decide) q1792 rfl rfl rfl dX4_init_121 hb_a0 hs_a0 (Or.inr ⟨_, rfl⟩) ?_
  refine X_nm (fun s149 e150 => ?_)
  have h := h s149 e150
  have hs_a0 : sh s149 a0 = 5 := by rw [e150]; exact hs_a0
  have hs6 : sh s149 (sN st) = 101 := by rw [e150]; exact hs6
  have hl8 : ln s149 (sN st) = 9 := by rw [e150]; exact hl8
  have hs16 : sh s149 (sN s9) = 101 := by rw [e150]; exact hs16
  have hl18 : ln s149 (sN s9) = 97 := by rw [e150]; exact hl18
  have hs26 : sh s149 (sN s19) = 101 := by rw [e150]; exact hs26
  have hl28 : ln s149 (sN s19) = 97 := by rw [e150]; exact hl28
  have hs36 : sh s149 (sN s29) = 101 := by rw [e150]; exact hs36
  have hl38 : ln s149 (sN s29) = 97 := by rw [e150]; exact hl38
  have hs46 : sh s149 (sN s39) = 101 := by rw [e150]; exact hs46
  have hl48 : ln s149 (sN s39) = 3 := by rw [e150]; exact hl48
  have hs56 : sh s149 (sN s49) = 101 := by rw [e150]; exact hs56
  have hl58 : ln s149 (sN s49) = 300 := by rw [e150]; exact hl58
  have hs66 : sh s149 (sN s59) = 101 := by rw [e150]; exact hs66
  have hl68 : ln s149 (sN s59) = 200 := by rw [e150]; exact hl68
  have hs76 : sh s149 (sN s69) = 101 := by rw [e150]; exact hs76
  have hl78 : ln s149 (sN s69) = 600 := by rw [e150]; exact hl78
  have hs86 : sh s149 (sN s79) = 101 := by rw [e150]; exact hs86
  have hl88 : ln s149 (sN s79) = 600 := by rw [e150]; exact hl88
  have hs96 : sh s149 (sN s89) = 102 := by rw [e150]; exact hs96
  have hl98 : ln s149 (sN s89) = 300 := by rw [e150]; exact hl98
  have hs106 : sh s149 (sN s99) = 101 := by rw [e150]; exact hs106
  have hl108 : ln s149 (sN s99) = 5 := by rw [e150]; exact hl108
  have hs116 : sh s149 (sN s109) = 101 := by rw [e150]; exact hs116
  have hl118 : ln s149 (sN s109) = 5 := by rw [e150]; exact hl118
  have hs126 : sh s149 (sN s119) = 102 := by rw [e150]; exact hs126
  have hl128 : ln s149 (sN s119) = 81 := by rw [e150]; exact hl128
  have hs136 : sh s149 (sN s129) = 101 := by rw [e150]; exact hs136
  have hl138 : ln s149 (sN s129) = 3 := by rw [e150]; exact hl138
  have hs146 : sh s149 (sN s139) = 101 := by rw [e150]; exact hs146
  have hl148 : ln s149 (sN s139) = 3 := by rw [e150]; exact hl148
  refine X_aload_n C dX4_init_124 rfl 0 rfl (isRV_r _) ?_
  refine X_bipush (v := 27) C dX4_init_125 rfl ?_
  have g151 := h.1
  have h := h.2
  have g152 := h.1
  have h := h.2
  refine X_newarray (t := 102) (aty := .long) C 1 rfl (by decide) rfl q246 (fun _ _ h => h) (by decide) rfl (by decide) (by decide) g151 g152 dX4_init_127 (fun hE155 => ?_)
  refine X_nm (fun s153 e154 => ?_)
  have h := h s153 e154
  rw [← e154] at hE155
  have hs_a0 := Ext_sh hE155 hs_a0 (by decide)
  have hl8 := Ext_ln hE155 (by rw [hs6]; decide) hl8
  have hs6 := Ext_sh hE155 hs6 (by decide)
  have hl18 := Ext_ln hE155 (by rw [hs16]; decide) hl18
  have hs16 := Ext_sh hE155 hs16 (by decide)
  have hl28 := Ext_ln hE155 (by rw [hs26]; decide) hl28
  have hs26 := Ext_sh hE155 hs26 (by decide)
  have hl38 := Ext_ln hE155 (by rw [hs36]; decide) hl38
  have hs36 := Ext_sh hE155 hs36 (by decide)
  have hl48 := Ext_ln hE155 (by rw [hs46]; decide) hl48
  have hs46 := Ext_sh hE155 hs46 (by decide)
  have hl58 := Ext_ln hE155 (by rw [hs56]; decide) hl58
  have hs56 := Ext_sh hE155 hs56 (by decide)
  have hl68 := Ext_ln hE155 (by rw [hs66]; decide) hl68
  have hs66 := Ext_sh hE155 hs66 (by decide)
  have hl78 := Ext_ln hE155 (by rw [hs76]; decide) hl78
  have hs76 := Ext_sh hE155 hs76 (by decide)
  have hl88 := Ext_ln hE155 (by rw [hs86]; decide) hl88
  have hs86 := Ext_sh hE155 hs86 (by decide)
  have hl98 := Ext_ln hE155 (by rw [hs96]; decide) hl98
  have hs96 := Ext_sh hE155 hs96 (by decide)
  have hl108 := Ext_ln hE155 (by rw [hs106]; decide) hl108
  have hs106 := Ext_sh hE155 hs106 (by decide)
  have hl118 := Ext_ln hE155 (by rw [hs116]; decide) hl118
  have hs116 := Ext_sh hE155 hs116 (by decide)
  have hl128 := Ext_ln hE155 (by rw [hs126]; decide) hl128
  have hs126 := Ext_sh hE155 hs126 (by decide)
  have hl138 := Ext_ln hE155 (by rw [hs136]; decide) hl138
  have hs136 := Ext_sh hE155 hs136 (by decide)
  have hl148 := Ext_ln hE155 (by rw [hs146]; decide) hl148
  have hs146 := Ext_sh hE155 hs146 (by decide)
  have hs156 : sh s153 (sN s149) = 102 := by rw [e154]; exact sh_mk
  have hl158 : ln s153 (sN s149) = 27 := by rw [e154]; exact ln_mk
  have hb157 := nb_N g151
  refine X_putFR0 (v := (some (sN s149))) (ci := 4) (j := 27) (q := (RX4, TX4, 54)) C h0 rfl rfl (by decide) q1793 rfl rfl rfl dX4_init_129 hb_a0 hs_a0 (Or.inr ⟨_, rfl⟩) ?_
  refine X_nm (fun s159 e160 => ?_)
  have h := h s159 e160
  have hs_a0 : sh s159 a0 = 5 := by rw [e160]; exact hs_a0
  have hs6 : sh s159 (sN st) = 101 := by rw [e160]; exact hs6
  have hl8 : ln s159 (sN st) = 9 := by rw [e160]; exact hl8
  have hs16 : sh s159 (sN s9) = 101 := by rw [e160]; exact hs16
  have hl18 : ln s159 (sN s9) = 97 := by rw [e160]; exact hl18
  have hs26 : sh s159 (sN s19) = 101 := by rw [e160]; exact hs26
  have hl28 : ln s159 (sN s19) = 97 := by rw [e160]; exact hl28
  have hs36 : sh s159 (sN s29) = 101 := by rw [e160]; exact hs36
  have hl38 : ln s159 (sN s29) = 97 := by rw [e160]; exact hl38
  have hs46 : sh s159 (sN s39) = 101 := by rw [e160]; exact hs46
  have hl48 : ln s159 (sN s39) = 3 := by rw [e160]; exact hl48
  have hs56 : sh s159 (sN s49) = 101 := by rw [e160]; exact hs56
  have hl58 : ln s159 (sN s49) = 300 := by rw [e160]; exact hl58
  have hs66 : sh s159 (sN s59) = 101 := by rw [e160]; exact hs66
  have hl68 : ln s159 (sN s59) = 200 := by rw [e160]; exact hl68
  have hs76 : sh s159 (sN s69) = 101 := by rw [e160]; exact hs76
  have hl78 : ln s159 (sN s69) = 600 := by rw [e160]; exact hl78
  have hs86 : sh s159 (sN s79) = 101 := by rw [e160]; exact hs86
  have hl88 : ln s159 (sN s79) = 600 := by rw [e160]; exact hl88
  have hs96 : sh s159 (sN s89) = 102 := by rw [e160]; exact hs96
  have hl98 : ln s159 (sN s89) = 300 := by rw [e160]; exact hl98
  have hs106 : sh s159 (sN s99) = 101 := by rw [e160]; exact hs106
  have hl108 : ln s159 (sN s99) = 5 := by rw [e160]; exact hl108
  have hs116 : sh s159 (sN s109) = 101 := by rw [e160]; exact hs116
  have hl118 : ln s159 (sN s109) = 5 := by rw [e160]; exact hl118
  have hs126 : sh s159 (sN s119) = 102 := by rw [e160]; exact hs126
  have hl128 : ln s159 (sN s119) = 81 := by rw [e160]; exact hl128
  have hs136 : sh s159 (sN s129) = 101 := by rw [e160]; exact hs136
  have hl138 : ln s159 (sN s129) = 3 := by rw [e160]; exact hl138
  have hs146 : sh s159 (sN s139) = 101 := by rw [e160]; exact hs146
  have hl148 : ln s159 (sN s139) = 3 := by rw [e160]; exact hl148
  have hs156 : sh s159 (sN s149) = 102 := by rw [e160]; exact hs156
  have hl158 : ln s159 (sN s149) = 27 := by rw [e160]; exact hl158
  refine X_aload_n C dX4_init_132 rfl 0 rfl (isRV_r _) ?_
  refine X_iconst (v := 3) C dX4_init_133 rfl ?_
  have g161 := h.1
  have h := h.2
  have g162 := h.1
  have h := h.2
  refine X_newarray (t := 102) (aty := .long) C 1 rfl (by decide) rfl q246 (fun _ _ h => h) (by decide) rfl (by decide) (by decide) g161 g162 dX4_init_134 (fun hE165 => ?_)
  refine X_nm (fun s163 e164 => ?_)
  have h := h s163 e164
  rw [← e164] at hE165
  have hs_a0 := Ext_sh hE165 hs_a0 (by decide)
  have hl8 := Ext_ln hE165 (by rw [hs6]; decide) hl8
  have hs6 := Ext_sh hE165 hs6 (by decide)
  have hl18 := Ext_ln hE165 (by rw [hs16]; decide) hl18
  have hs16 := Ext_sh hE165 hs16 (by decide)
  have hl28 := Ext_ln hE165 (by rw [hs26]; decide) hl28
  have hs26 := Ext_sh hE165 hs26 (by decide)
  have hl38 := Ext_ln hE165 (by rw [hs36]; decide) hl38
  have hs36 := Ext_sh hE165 hs36 (by decide)
  have hl48 := Ext_ln hE165 (by rw [hs46]; decide) hl48
  have hs46 := Ext_sh hE165 hs46 (by decide)
  have hl58 := Ext_ln hE165 (by rw [hs56]; decide) hl58
  have hs56 := Ext_sh hE165 hs56 (by decide)
  have hl68 := Ext_ln hE165 (by rw [hs66]; decide) hl68
  have hs66 := Ext_sh hE165 hs66 (by decide)
  have hl78 := Ext_ln hE165 (by rw [hs76]; decide) hl78
  have hs76 := Ext_sh hE165 hs76 (by decide)
  have hl88 := Ext_ln hE165 (by rw [hs86]; decide) hl88
  have hs86 := Ext_sh hE165 hs86 (by decide)
  have hl98 := Ext_ln hE165 (by rw [hs96]; decide) hl98
  have hs96 := Ext_sh hE165 hs96 (by decide)
  have hl108 := Ext_ln hE165 (by rw [hs106]; decide) hl108
  have hs106 := Ext_sh hE165 hs106 (by decide)
  have hl118 := Ext_ln hE165 (by rw [hs116]; decide) hl118
  have hs116 := Ext_sh hE165 hs116 (by decide)
  have hl128 := Ext_ln hE165 (by rw [hs126]; decide) hl128
  have hs126 := Ext_sh hE165 hs126 (by decide)
  have hl138 := Ext_ln hE165 (by rw [hs136]; decide) hl138
  have hs136 := Ext_sh hE165 hs136 (by decide)
  have hl148 := Ext_ln hE165 (by rw [hs146]; decide) hl148
  have hs146 := Ext_sh hE165 hs146 (by decide)
  have hl158 := Ext_ln hE165 (by rw [hs156]; decide) hl158
  have hs156 := Ext_sh hE165 hs156 (by decide)
  have hs166 : sh s163 (sN s159) = 102 := by rw [e164]; exact sh_mk
  have hl168 : ln s163 (sN s159) = 3 := by rw [e164]; exact ln_mk
  have hb167 := nb_N g161
  refine X_putFR0 (v := (some (sN s159))) (ci := 4) (j := 28) (q := (RX4, TX4, 54)) C h0 rfl rfl (by decide) q1794 rfl rfl rfl dX4_init_136 hb_a0 hs_a0 (Or.inr ⟨_, rfl⟩) ?_
  refine X_nm (fun s169 e170 => ?_)
  have h := h s169 e170
  have hs_a0 : sh s169 a0 = 5 := by rw [e170]; exact hs_a0
  have hs6 : sh s169 (sN st) = 101 := by rw [e170]; exact hs6
  have hl8 : ln s169 (sN st) = 9 := by rw [e170]; exact hl8
  have hs16 : sh s169 (sN s9) = 101 := by rw [e170]; exact hs16
  have hl18 : ln s169 (sN s9) = 97 := by rw [e170]; exact hl18
  have hs26 : sh s169 (sN s19) = 101 := by rw [e170]; exact hs26
  have hl28 : ln s169 (sN s19) = 97 := by rw [e170]; exact hl28
  have hs36 : sh s169 (sN s29) = 101 := by rw [e170]; exact hs36
  have hl38 : ln s169 (sN s29) = 97 := by rw [e170]; exact hl38
  have hs46 : sh s169 (sN s39) = 101 := by rw [e170]; exact hs46
  have hl48 : ln s169 (sN s39) = 3 := by rw [e170]; exact hl48
  have hs56 : sh s169 (sN s49) = 101 := by rw [e170]; exact hs56
  have hl58 : ln s169 (sN s49) = 300 := by rw [e170]; exact hl58
  have hs66 : sh s169 (sN s59) = 101 := by rw [e170]; exact hs66
  have hl68 : ln s169 (sN s59) = 200 := by rw [e170]; exact hl68
  have hs76 : sh s169 (sN s69) = 101 := by rw [e170]; exact hs76
  have hl78 : ln s169 (sN s69) = 600 := by rw [e170]; exact hl78
  have hs86 : sh s169 (sN s79) = 101 := by rw [e170]; exact hs86
  have hl88 : ln s169 (sN s79) = 600 := by rw [e170]; exact hl88
  have hs96 : sh s169 (sN s89) = 102 := by rw [e170]; exact hs96
  have hl98 : ln s169 (sN s89) = 300 := by rw [e170]; exact hl98
  have hs106 : sh s169 (sN s99) = 101 := by rw [e170]; exact hs106
  have hl108 : ln s169 (sN s99) = 5 := by rw [e170]; exact hl108
  have hs116 : sh s169 (sN s109) = 101 := by rw [e170]; exact hs116
  have hl118 : ln s169 (sN s109) = 5 := by rw [e170]; exact hl118
  have hs126 : sh s169 (sN s119) = 102 := by rw [e170]; exact hs126
  have hl128 : ln s169 (sN s119) = 81 := by rw [e170]; exact hl128
  have hs136 : sh s169 (sN s129) = 101 := by rw [e170]; exact hs136
  have hl138 : ln s169 (sN s129) = 3 := by rw [e170]; exact hl138
  have hs146 : sh s169 (sN s139) = 101 := by rw [e170]; exact hs146
  have hl148 : ln s169 (sN s139) = 3 := by rw [e170]; exact hl148
  have hs156 : sh s169 (sN s149) = 102 := by rw [e170]; exact hs156
  have hl158 : ln s169 (sN s149) = 27 := by rw [e170]; exact hl158
  have hs166 : sh s169 (sN s159) = 102 := by rw [e170]; exact hs166
  have hl168 : ln s169 (sN s159) = 3 := by rw [e170]; exact hl168
  refine X_aload_n C dX4_init_139 rfl 0 rfl (isRV_r _) ?_
  refine X_bipush (v := 16) C dX4_init_140 rfl ?_
  have g171 := h.1
  have h := h.2
  have g172 := h.1
  have h := h.2
  refine X_newarray (t := 102) (aty := .long) C 1 rfl (by decide) rfl q246 (fun _ _ h => h) (by decide) rfl (by decide) (by decide) g171 g172 dX4_init_142 (fun hE175 => ?_)
  refine X_nm (fun s173 e174 => ?_)
  have h := h s173 e174
  rw [← e174] at hE175
  have hs_a0 := Ext_sh hE175 hs_a0 (by decide)
  have hl8 := Ext_ln hE175 (by rw [hs6]; decide) hl8
  have hs6 := Ext_sh hE175 hs6 (by decide)
  have hl18 := Ext_ln hE175 (by rw [hs16]; decide) hl18
  have hs16 := Ext_sh hE175 hs16 (by decide)
  have hl28 := Ext_ln hE175 (by rw [hs26]; decide) hl28
  have hs26 := Ext_sh hE175 hs26 (by decide)
  have hl38 := Ext_ln hE175 (by rw [hs36]; decide) hl38
  have hs36 := Ext_sh hE175 hs36 (by decide)
  have hl48 := Ext_ln hE175 (by rw [hs46]; decide) hl48
  have hs46 := Ext_sh hE175 hs46 (by decide)
  have hl58 := Ext_ln hE175 (by rw [hs56]; decide) hl58
  have hs56 := Ext_sh hE175 hs56 (by decide)
  have hl68 := Ext_ln hE175 (by rw [hs66]; decide) hl68
  have hs66 := Ext_sh hE175 hs66 (by decide)
  have hl78 := Ext_ln hE175 (by rw [hs76]; decide) hl78
  have hs76 := Ext_sh hE175 hs76 (by decide)
  have hl88 := Ext_ln hE175 (by rw [hs86]; decide) hl88
  have hs86 := Ext_sh hE175 hs86 (by decide)
  have hl98 := Ext_ln hE175 (by rw [hs96]; decide) hl98
  have hs96 := Ext_sh hE175 hs96 (by decide)
  have hl108 := Ext_ln hE175 (by rw [hs106]; decide) hl108
  have hs106 := Ext_sh hE175 hs106 (by decide)
  have hl118 := Ext_ln hE175 (by rw [hs116]; decide) hl118
  have hs116 := Ext_sh hE175 hs116 (by decide)
  have hl128 := Ext_ln hE175 (by rw [hs126]; decide) hl128
  have hs126 := Ext_sh hE175 hs126 (by decide)
  have hl138 := Ext_ln hE175 (by rw [hs136]; decide) hl138
  have hs136 := Ext_sh hE175 hs136 (by decide)
  have hl148 := Ext_ln hE175 (by rw [hs146]; decide) hl148
  have hs146 := Ext_sh hE175 hs146 (by decide)
  have hl158 := Ext_ln hE175 (by rw [hs156]; decide) hl158
  have hs156 := Ext_sh hE175 hs156 (by decide)
  have hl168 := Ext_ln hE175 (by rw [hs166]; decide) hl168
  have hs166 := Ext_sh hE175 hs166 (by decide)
  have hs176 : sh s173 (sN s169) = 102 := by rw [e174]; exact sh_mk
  have hl178 : ln s173 (sN s169) = 16 := by rw [e174]; exact ln_mk
  have hb177 := nb_N g171
  refine X_putFR0 (v := (some (sN s169))) (ci := 4) (j := 31) (q := (RX4, TX4, 54)) C h0 rfl rfl (by decide) q1797 rfl rfl rfl dX4_init_144 hb_a0 hs_a0 (Or.inr ⟨_, rfl⟩) ?_
  refine X_nm (fun s179 e180 => ?_)
  have h := h s179 e180
  have hs_a0 : sh s179 a0 = 5 := by rw [e180]; exact hs_a0
  have hs6 : sh s179 (sN st) = 101 := by rw [e180]; exact hs6
  have hl8 : ln s179 (sN st) = 9 := by rw [e180]; exact hl8
  have hs16 : sh s179 (sN s9) = 101 := by rw [e180]; exact hs16
  have hl18 : ln s179 (sN s9) = 97 := by rw [e180]; exact hl18
  have hs26 : sh s179 (sN s19) = 101 := by rw [e180]; exact hs26
  have hl28 : ln s179 (sN s19) = 97 := by rw [e180]; exact hl28
  have hs36 : sh s179 (sN s29) = 101 := by rw [e180]; exact hs36
  have hl38 : ln s179 (sN s29) = 97 := by rw [e180]; exact hl38
  have hs46 : sh s179 (sN s39) = 101 := by rw [e180]; exact hs46
  have hl48 : ln s179 (sN s39) = 3 := by rw [e180]; exact hl48
  have hs56 : sh s179 (sN s49) = 101 := by rw [e180]; exact hs56
  have hl58 : ln s179 (sN s49) = 300 := by rw [e180]; exact hl58
  have hs66 : sh s179 (sN s59) = 101 := by rw [e180]; exact hs66
  have hl68 : ln s179 (sN s59) = 200 := by rw [e180]; exact hl68
  have hs76 : sh s179 (sN s69) = 101 := by rw [e180]; exact hs76
  have hl78 : ln s179 (sN s69) = 600 := by rw [e180]; exact hl78
  have hs86 : sh s179 (sN s79) = 101 := by rw [e180]; exact hs86
  have hl88 : ln s179 (sN s79) = 600 := by rw [e180]; exact hl88
  have hs96 : sh s179 (sN s89) = 102 := by rw [e180]; exact hs96
  have hl98 : ln s179 (sN s89) = 300 := by rw [e180]; exact hl98
  have hs106 : sh s179 (sN s99) = 101 := by rw [e180]; exact hs106
  have hl108 : ln s179 (sN s99) = 5 := by rw [e180]; exact hl108
  have hs116 : sh s179 (sN s109) = 101 := by rw [e180]; exact hs116
  have hl118 : ln s179 (sN s109) = 5 := by rw [e180]; exact hl118
  have hs126 : sh s179 (sN s119) = 102 := by rw [e180]; exact hs126
  have hl128 : ln s179 (sN s119) = 81 := by rw [e180]; exact hl128
  have hs136 : sh s179 (sN s129) = 101 := by rw [e180]; exact hs136
  have hl138 : ln s179 (sN s129) = 3 := by rw [e180]; exact hl138
  have hs146 : sh s179 (sN s139) = 101 := by rw [e180]; exact hs146
  have hl148 : ln s179 (sN s139) = 3 := by rw [e180]; exact hl148
  have hs156 : sh s179 (sN s149) = 102 := by rw [e180]; exact hs156
  have hl158 : ln s179 (sN s149) = 27 := by rw [e180]; exact hl158
  have hs166 : sh s179 (sN s159) = 102 := by rw [e180]; exact hs166
  have hl168 : ln s179 (sN s159) = 3 := by rw [e180]; exact hl168
  have hs176 : sh s179 (sN s169) = 102 := by rw [e180]; exact hs176
  have hl178 : ln s179 (sN s169) = 16 := by rw [e180]; exact hl178
  refine X_aload_n C dX4_init_147 rfl 0 rfl (isRV_r _) ?_
  refine X_bipush (v := 15) C dX4_init_148 rfl ?_
  have g181 := h.1
  have h := h.2
  have g182 := h.1
  have h := h.2
  refine X_newarray (t := 102) (aty := .long) C 1 rfl (by decide) rfl q246 (fun _ _ h => h) (by decide) rfl (by decide) (by decide) g181 g182 dX4_init_150 (fun hE185 => ?_)
  refine X_nm (fun s183 e184 => ?_)
  have h := h s183 e184
  rw [← e184] at hE185
  have hs_a0 := Ext_sh hE185 hs_a0 (by decide)
  have hl8 := Ext_ln hE185 (by rw [hs6]; decide) hl8
  have hs6 := Ext_sh hE185 hs6 (by decide)
  have hl18 := Ext_ln hE185 (by rw [hs16]; decide) hl18
  have hs16 := Ext_sh hE185 hs16 (by decide)
  have hl28 := Ext_ln hE185 (by rw [hs26]; decide) hl28
  have hs26 := Ext_sh hE185 hs26 (by decide)
  have hl38 := Ext_ln hE185 (by rw [hs36]; decide) hl38
  have hs36 := Ext_sh hE185 hs36 (by decide)
  have hl48 := Ext_ln hE185 (by rw [hs46]; decide) hl48
  have hs46 := Ext_sh hE185 hs46 (by decide)
  have hl58 := Ext_ln hE185 (by rw [hs56]; decide) hl58
  have hs56 := Ext_sh hE185 hs56 (by decide)
  have hl68 := Ext_ln hE185 (by rw [hs66]; decide) hl68
  have hs66 := Ext_sh hE185 hs66 (by decide)
  have hl78 := Ext_ln hE185 (by rw [hs76]; decide) hl78
  have hs76 := Ext_sh hE185 hs76 (by decide)
  have hl88 := Ext_ln hE185 (by rw [hs86]; decide) hl88
  have hs86 := Ext_sh hE185 hs86 (by decide)
  have hl98 := Ext_ln hE185 (by rw [hs96]; decide) hl98
  have hs96 := Ext_sh hE185 hs96 (by decide)
  have hl108 := Ext_ln hE185 (by rw [hs106]; decide) hl108
  have hs106 := Ext_sh hE185 hs106 (by decide)
  have hl118 := Ext_ln hE185 (by rw [hs116]; decide) hl118
  have hs116 := Ext_sh hE185 hs116 (by decide)
  have hl128 := Ext_ln hE185 (by rw [hs126]; decide) hl128
  have hs126 := Ext_sh hE185 hs126 (by decide)
  have hl138 := Ext_ln hE185 (by rw [hs136]; decide) hl138
  have hs136 := Ext_sh hE185 hs136 (by decide)
  have hl148 := Ext_ln hE185 (by rw [hs146]; decide) hl148
  have hs146 := Ext_sh hE185 hs146 (by decide)
  have hl158 := Ext_ln hE185 (by rw [hs156]; decide) hl158
  have hs156 := Ext_sh hE185 hs156 (by decide)
  have hl168 := Ext_ln hE185 (by rw [hs166]; decide) hl168
  have hs166 := Ext_sh hE185 hs166 (by decide)
  have hl178 := Ext_ln hE185 (by rw [hs176]; decide) hl178
  have hs176 := Ext_sh hE185 hs176 (by decide)
  have hs186 : sh s183 (sN s179) = 102 := by rw [e184]; exact sh_mk
  have hl188 : ln s183 (sN s179) = 15 := by rw [e184]; exact ln_mk
  have hb187 := nb_N g181
  refine X_putFR0 (v := (some (sN s179))) (ci := 4) (j := 32) (q := (RX4, TX4, 54)) C h0 rfl rfl (by decide) q1798 rfl rfl rfl dX4_init_152 hb_a0 hs_a0 (Or.inr ⟨_, rfl⟩) ?_
  refine X_nm (fun s189 e190 => ?_)
  have h := h s189 e190
  have hs_a0 : sh s189 a0 = 5 := by rw [e190]; exact hs_a0
  have hs6 : sh s189 (sN st) = 101 := by rw [e190]; exact hs6
  have hl8 : ln s189 (sN st) = 9 := by rw [e190]; exact hl8
  have hs16 : sh s189 (sN s9) = 101 := by rw [e190]; exact hs16
  have hl18 : ln s189 (sN s9) = 97 := by rw [e190]; exact hl18
  have hs26 : sh s189 (sN s19) = 101 := by rw [e190]; exact hs26
  have hl28 : ln s189 (sN s19) = 97 := by rw [e190]; exact hl28
  have hs36 : sh s189 (sN s29) = 101 := by rw [e190]; exact hs36
  have hl38 : ln s189 (sN s29) = 97 := by rw [e190]; exact hl38
  have hs46 : sh s189 (sN s39) = 101 := by rw [e190]; exact hs46
  have hl48 : ln s189 (sN s39) = 3 := by rw [e190]; exact hl48
  have hs56 : sh s189 (sN s49) = 101 := by rw [e190]; exact hs56
  have hl58 : ln s189 (sN s49) = 300 := by rw [e190]; exact hl58
  have hs66 : sh s189 (sN s59) = 101 := by rw [e190]; exact hs66
  have hl68 : ln s189 (sN s59) = 200 := by rw [e190]; exact hl68
  have hs76 : sh s189 (sN s69) = 101 := by rw [e190]; exact hs76
  have hl78 : ln s189 (sN s69) = 600 := by rw [e190]; exact hl78
  have hs86 : sh s189 (sN s79) = 101 := by rw [e190]; exact hs86
  have hl88 : ln s189 (sN s79) = 600 := by rw [e190]; exact hl88
  have hs96 : sh s189 (sN s89) = 102 := by rw [e190]; exact hs96
  have hl98 : ln s189 (sN s89) = 300 := by rw [e190]; exact hl98
  have hs106 : sh s189 (sN s99) = 101 := by rw [e190]; exact hs106
  have hl108 : ln s189 (sN s99) = 5 := by rw [e190]; exact hl108
  have hs116 : sh s189 (sN s109) = 101 := by rw [e190]; exact hs116
  have hl118 : ln s189 (sN s109) = 5 := by rw [e190]; exact hl118
  have hs126 : sh s189 (sN s119) = 102 := by rw [e190]; exact hs126
  have hl128 : ln s189 (sN s119) = 81 := by rw [e190]; exact hl128
  have hs136 : sh s189 (sN s129) = 101 := by rw [e190]; exact hs136
  have hl138 : ln s189 (sN s129) = 3 := by rw [e190]; exact hl138
  have hs146 : sh s189 (sN s139) = 101 := by rw [e190]; exact hs146
  have hl148 : ln s189 (sN s139) = 3 := by rw [e190]; exact hl148
  have hs156 : sh s189 (sN s149) = 102 := by rw [e190]; exact hs156
  have hl158 : ln s189 (sN s149) = 27 := by rw [e190]; exact hl158
  have hs166 : sh s189 (sN s159) = 102 := by rw [e190]; exact hs166
  have hl168 : ln s189 (sN s159) = 3 := by rw [e190]; exact hl168
  have hs176 : sh s189 (sN s169) = 102 := by rw [e190]; exact hs176
  have hl178 : ln s189 (sN s169) = 16 := by rw [e190]; exact hl178
  have hs186 : sh s189 (sN s179) = 102 := by rw [e190]; exact hs186
  have hl188 : ln s189 (sN s179) = 15 := by rw [e190]; exact hl188
  refine X_aload_n C dX4_init_155 rfl 0 rfl (isRV_r _) ?_
  refine X_bipush (v := 15) C dX4_init_156 rfl ?_
  have g191 := h.1
  have h := h.2
  have g192 := h.1
  have h := h.2
  refine X_newarray (t := 102) (aty := .long) C 1 rfl (by decide) rfl q246 (fun _ _ h => h) (by decide) rfl (by decide) (by decide) g191 g192 dX4_init_158 (fun hE195 => ?_)
  refine X_nm (fun s193 e194 => ?_)
  have h := h s193 e194
  rw [← e194] at hE195
  have hs_a0 := Ext_sh hE195 hs_a0 (by decide)
  have hl8 := Ext_ln hE195 (by rw [hs6]; decide) hl8
  have hs6 := Ext_sh hE195 hs6 (by decide)
  have hl18 := Ext_ln hE195 (by rw [hs16]; decide) hl18
  have hs16 := Ext_sh hE195 hs16 (by decide)
  have hl28 := Ext_ln hE195 (by rw [hs26]; decide) hl28
  have hs26 := Ext_sh hE195 hs26 (by decide)
  have hl38 := Ext_ln hE195 (by rw [hs36]; decide) hl38
  have hs36 := Ext_sh hE195 hs36 (by decide)
  have hl48 := Ext_ln hE195 (by rw [hs46]; decide) hl48
  have hs46 := Ext_sh hE195 hs46 (by decide)
  have hl58 := Ext_ln hE195 (by rw [hs56]; decide) hl58
  have hs56 := Ext_sh hE195 hs56 (by decide)
  have hl68 := Ext_ln hE195 (by rw [hs66]; decide) hl68
  have hs66 := Ext_sh hE195 hs66 (by decide)
  have hl78 := Ext_ln hE195 (by rw [hs76]; decide) hl78
  have hs76 := Ext_sh hE195 hs76 (by decide)
  have hl88 := Ext_ln hE195 (by rw [hs86]; decide) hl88
  have hs86 := Ext_sh hE195 hs86 (by decide)
  have hl98 := Ext_ln hE195 (by rw [hs96]; decide) hl98
  have hs96 := Ext_sh hE195 hs96 (by decide)
  have hl108 := Ext_ln hE195 (by rw [hs106]; decide) hl108
  have hs106 := Ext_sh hE195 hs106 (by decide)
  have hl118 := Ext_ln hE195 (by rw [hs116]; decide) hl118
  have hs116 := Ext_sh hE195 hs116 (by decide)
  have hl128 := Ext_ln hE195 (by rw [hs126]; decide) hl128
  have hs126 := Ext_sh hE195 hs126 (by decide)
  have hl138 := Ext_ln hE195 (by rw [hs136]; decide) hl138
  have hs136 := Ext_sh hE195 hs136 (by decide)
  have hl148 := Ext_ln hE195 (by rw [hs146]; decide) hl148
  have hs146 := Ext_sh hE195 hs146 (by decide)
  have hl158 := Ext_ln hE195 (by rw [hs156]; decide) hl158
  have hs156 := Ext_sh hE195 hs156 (by decide)
  have hl168 := Ext_ln hE195 (by rw [hs166]; decide) hl168
  have hs166 := Ext_sh hE195 hs166 (by decide)
  have hl178 := Ext_ln hE195 (by rw [hs176]; decide) hl178
  have hs176 := Ext_sh hE195 hs176 (by decide)
  have hl188 := Ext_ln hE195 (by rw [hs186]; decide) hl188
  have hs186 := Ext_sh hE195 hs186 (by decide)
  have hs196 : sh s193 (sN s189) = 102 := by rw [e194]; exact sh_mk
  have hl198 : ln s193 (sN s189) = 15 := by rw [e194]; exact ln_mk
  have hb197 := nb_N g191
  refine X_putFR0 (v := (some (sN s189))) (ci := 4) (j := 33) (q := (RX4, TX4, 54)) C h0 rfl rfl (by decide) q1799 rfl rfl rfl dX4_init_160 hb_a0 hs_a0 (Or.inr ⟨_, rfl⟩) ?_
  refine X_nm (fun s199 e200 => ?_)
  have h := h s199 e200
  have hs_a0 : sh s199 a0 = 5 := by rw [e200]; exact hs_a0
  have hs6 : sh s199 (sN st) = 101 := by rw [e200]; exact hs6
  have hl8 : ln s199 (sN st) = 9 := by rw [e200]; exact hl8
  have hs16 : sh s199 (sN s9) = 101 := by rw [e200]; exact hs16
  have hl18 : ln s199 (sN s9) = 97 := by rw [e200]; exact hl18
  have hs26 : sh s199 (sN s19) = 101 := by rw [e200]; exact hs26
  have hl28 : ln s199 (sN s19) = 97 := by rw [e200]; exact hl28
  have hs36 : sh s199 (sN s29) = 101 := by rw [e200]; exact hs36
  have hl38 : ln s199 (sN s29) = 97 := by rw [e200]; exact hl38
  have hs46 : sh s199 (sN s39) = 101 := by rw [e200]; exact hs46
  have hl48 : ln s199 (sN s39) = 3 := by rw [e200]; exact hl48
  have hs56 : sh s199 (sN s49) = 101 := by rw [e200]; exact hs56
  have hl58 : ln s199 (sN s49) = 300 := by rw [e200]; exact hl58
  have hs66 : sh s199 (sN s59) = 101 := by rw [e200]; exact hs66
  have hl68 : ln s199 (sN s59) = 200 := by rw [e200]; exact hl68
  have hs76 : sh s199 (sN s69) = 101 := by rw [e200]; exact hs76
  have hl78 : ln s199 (sN s69) = 600 := by rw [e200]; exact hl78
  have hs86 : sh s199 (sN s79) = 101 := by rw [e200]; exact hs86
  have hl88 : ln s199 (sN s79) = 600 := by rw [e200]; exact hl88
  have hs96 : sh s199 (sN s89) = 102 := by rw [e200]; exact hs96
  have hl98 : ln s199 (sN s89) = 300 := by rw [e200]; exact hl98
  have hs106 : sh s199 (sN s99) = 101 := by rw [e200]; exact hs106
  have hl108 : ln s199 (sN s99) = 5 := by rw [e200]; exact hl108
  have hs116 : sh s199 (sN s109) = 101 := by rw [e200]; exact hs116
  have hl118 : ln s199 (sN s109) = 5 := by rw [e200]; exact hl118
  have hs126 : sh s199 (sN s119) = 102 := by rw [e200]; exact hs126
  have hl128 : ln s199 (sN s119) = 81 := by rw [e200]; exact hl128
  have hs136 : sh s199 (sN s129) = 101 := by rw [e200]; exact hs136
  have hl138 : ln s199 (sN s129) = 3 := by rw [e200]; exact hl138
  have hs146 : sh s199 (sN s139) = 101 := by rw [e200]; exact hs146
  have hl148 : ln s199 (sN s139) = 3 := by rw [e200]; exact hl148
  have hs156 : sh s199 (sN s149) = 102 := by rw [e200]; exact hs156
  have hl158 : ln s199 (sN s149) = 27 := by rw [e200]; exact hl158
  have hs166 : sh s199 (sN s159) = 102 := by rw [e200]; exact hs166
  have hl168 : ln s199 (sN s159) = 3 := by rw [e200]; exact hl168
  have hs176 : sh s199 (sN s169) = 102 := by rw [e200]; exact hs176
  have hl178 : ln s199 (sN s169) = 16 := by rw [e200]; exact hl178
  have hs186 : sh s199 (sN s179) = 102 := by rw [e200]; exact hs186
  have hl188 : ln s199 (sN s179) = 15 := by rw [e200]; exact hl188
  have hs196 : sh s199 (sN s189) = 102 := by rw [e200]; exact hs196
  have hl198 : ln s199 (sN s189) = 15 := by rw [e200]; exact hl198
  refine X_aload_n C dX4_init_163 rfl 0 rfl (isRV_r _) ?_
  refine X_bipush (v := 15) C dX4_init_164 rfl ?_
  have g201 := h.1
  have h := h.2
  have g202 := h.1
  have h := h.2
  refine X_newarray (t := 104) (aty := .boolean) C 3 rfl (by decide) rfl q1929 (fun _ _ h => h) (by decide) rfl (by decide) (by decide) g201 g202 dX4_init_166 (fun hE205 => ?_)
  refine X_nm (fun s203 e204 => ?_)
  have h := h s203 e204
  rw [← e204] at hE205
  have hs_a0 := Ext_sh hE205 hs_a0 (by decide)
  have hl8 := Ext_ln hE205 (by rw [hs6]; decide) hl8
  have hs6 := Ext_sh hE205 hs6 (by decide)
  have hl18 := Ext_ln hE205 (by rw [hs16]; decide) hl18
  have hs16 := Ext_sh hE205 hs16 (by decide)
  have hl28 := Ext_ln hE205 (by rw [hs26]; decide) hl28
  have hs26 := Ext_sh hE205 hs26 (by decide)
  have hl38 := Ext_ln hE205 (by rw [hs36]; decide) hl38
  have hs36 := Ext_sh hE205 hs36 (by decide)
  have hl48 := Ext_ln hE205 (by rw [hs46]; decide) hl48
  have hs46 := Ext_sh hE205 hs46 (by decide)
  have hl58 := Ext_ln hE205 (by rw [hs56]; decide) hl58
  have hs56 := Ext_sh hE205 hs56 (by decide)
  have hl68 := Ext_ln hE205 (by rw [hs66]; decide) hl68
  have hs66 := Ext_sh hE205 hs66 (by decide)
  have hl78 := Ext_ln hE205 (by rw [hs76]; decide) hl78
  have hs76 := Ext_sh hE205 hs76 (by decide)
  have hl88 := Ext_ln hE205 (by rw [hs86]; decide) hl88
  have hs86 := Ext_sh hE205 hs86 (by decide)
  have hl98 := Ext_ln hE205 (by rw [hs96]; decide) hl98
  have hs96 := Ext_sh hE205 hs96 (by decide)
  have hl108 := Ext_ln hE205 (by rw [hs106]; decide) hl108
  have hs106 := Ext_sh hE205 hs106 (by decide)
  have hl118 := Ext_ln hE205 (by rw [hs116]; decide) hl118
  have hs116 := Ext_sh hE205 hs116 (by decide)
  have hl128 := Ext_ln hE205 (by rw [hs126]; decide) hl128
  have hs126 := Ext_sh hE205 hs126 (by decide)
  have hl138 := Ext_ln hE205 (by rw [hs136]; decide) hl138
  have hs136 := Ext_sh hE205 hs136 (by decide)
  have hl148 := Ext_ln hE205 (by rw [hs146]; decide) hl148
  have hs146 := Ext_sh hE205 hs146 (by decide)
  have hl158 := Ext_ln hE205 (by rw [hs156]; decide) hl158
  have hs156 := Ext_sh hE205 hs156 (by decide)
  have hl168 := Ext_ln hE205 (by rw [hs166]; decide) hl168
  have hs166 := Ext_sh hE205 hs166 (by decide)
  have hl178 := Ext_ln hE205 (by rw [hs176]; decide) hl178
  have hs176 := Ext_sh hE205 hs176 (by decide)
  have hl188 := Ext_ln hE205 (by rw [hs186]; decide) hl188
  have hs186 := Ext_sh hE205 hs186 (by decide)
  have hl198 := Ext_ln hE205 (by rw [hs196]; decide) hl198
  have hs196 := Ext_sh hE205 hs196 (by decide)
  have hs206 : sh s203 (sN s199) = 104 := by rw [e204]; exact sh_mk
  have hl208 : ln s203 (sN s199) = 15 := by rw [e204]; exact ln_mk
  have hb207 := nb_N g201
  refine X_putFR0 (v := (some (sN s199))) (ci := 4) (j := 34) (q := (RX4, TX4, 54)) C h0 rfl rfl (by decide) q1800 rfl rfl rfl dX4_init_168 hb_a0 hs_a0 (Or.inr ⟨_, rfl⟩) ?_
  refine X_nm (fun s209 e210 => ?_)
  have h := h s209 e210
  have hs_a0 : sh s209 a0 = 5 := by rw [e210]; exact hs_a0
  have hs6 : sh s209 (sN st) = 101 := by rw [e210]; exact hs6
  have hl8 : ln s209 (sN st) = 9 := by rw [e210]; exact hl8
  have hs16 : sh s209 (sN s9) = 101 := by rw [e210]; exact hs16
  have hl18 : ln s209 (sN s9) = 97 := by rw [e210]; exact hl18
  have hs26 : sh s209 (sN s19) = 101 := by rw [e210]; exact hs26
  have hl28 : ln s209 (sN s19) = 97 := by rw [e210]; exact hl28
  have hs36 : sh s209 (sN s29) = 101 := by rw [e210]; exact hs36
  have hl38 : ln s209 (sN s29) = 97 := by rw [e210]; exact hl38
  have hs46 : sh s209 (sN s39) = 101 := by rw [e210]; exact hs46
  have hl48 : ln s209 (sN s39) = 3 := by rw [e210]; exact hl48
  have hs56 : sh s209 (sN s49) = 101 := by rw [e210]; exact hs56
  have hl58 : ln s209 (sN s49) = 300 := by rw [e210]; exact hl58
  have hs66 : sh s209 (sN s59) = 101 := by rw [e210]; exact hs66
  have hl68 : ln s209 (sN s59) = 200 := by rw [e210]; exact hl68
  have hs76 : sh s209 (sN s69) = 101 := by rw [e210]; exact hs76
  have hl78 : ln s209 (sN s69) = 600 := by rw [e210]; exact hl78
  have hs86 : sh s209 (sN s79) = 101 := by rw [e210]; exact hs86
  have hl88 : ln s209 (sN s79) = 600 := by rw [e210]; exact hl88
  have hs96 : sh s209 (sN s89) = 102 := by rw [e210]; exact hs96
  have hl98 : ln s209 (sN s89) = 300 := by rw [e210]; exact hl98
  have hs106 : sh s209 (sN s99) = 101 := by rw [e210]; exact hs106
  have hl108 : ln s209 (sN s99) = 5 := by rw [e210]; exact hl108
  have hs116 : sh s209 (sN s109) = 101 := by rw [e210]; exact hs116
  have hl118 : ln s209 (sN s109) = 5 := by rw [e210]; exact hl118
  have hs126 : sh s209 (sN s119) = 102 := by rw [e210]; exact hs126
  have hl128 : ln s209 (sN s119) = 81 := by rw [e210]; exact hl128
  have hs136 : sh s209 (sN s129) = 101 := by rw [e210]; exact hs136
  have hl138 : ln s209 (sN s129) = 3 := by rw [e210]; exact hl138
  have hs146 : sh s209 (sN s139) = 101 := by rw [e210]; exact hs146
  have hl148 : ln s209 (sN s139) = 3 := by rw [e210]; exact hl148
  have hs156 : sh s209 (sN s149) = 102 := by rw [e210]; exact hs156
  have hl158 : ln s209 (sN s149) = 27 := by rw [e210]; exact hl158
  have hs166 : sh s209 (sN s159) = 102 := by rw [e210]; exact hs166
  have hl168 : ln s209 (sN s159) = 3 := by rw [e210]; exact hl168
  have hs176 : sh s209 (sN s169) = 102 := by rw [e210]; exact hs176
  have hl178 : ln s209 (sN s169) = 16 := by rw [e210]; exact hl178
  have hs186 : sh s209 (sN s179) = 102 := by rw [e210]; exact hs186
  have hl188 : ln s209 (sN s179) = 15 := by rw [e210]; exact hl188
  have hs196 : sh s209 (sN s189) = 102 := by rw [e210]; exact hs196
  have hl198 : ln s209 (sN s189) = 15 := by rw [e210]; exact hl198
  have hs206 : sh s209 (sN s199) = 104 := by rw [e210]; exact hs206
  have hl208 : ln s209 (sN s199) = 15 := by rw [e210]; exact hl208
  refine X_aload_n C dX4_init_171 rfl 0 rfl (isRV_r _) ?_
  refine X_iconst (v := 3) C dX4_init_172 rfl ?_
  have g211 := h.1
  have h := h.2
  have g212 := h.1
  have h := h.2
  refine X_newarray (t := 101) (aty := .int) C 0 rfl (by decide) rfl q229 (fun _ _ h => h) (by decide) rfl (by decide) (by decide) g211 g212 dX4_init_173 (fun hE215 => ?_)
  refine X_nm (fun s213 e214 => ?_)
  have h := h s213 e214
  rw [← e214] at hE215
  have hs_a0 := Ext_sh hE215 hs_a0 (by decide)
  have hl8 := Ext_ln hE215 (by rw [hs6]; decide) hl8
  have hs6 := Ext_sh hE215 hs6 (by decide)
  have hl18 := Ext_ln hE215 (by rw [hs16]; decide) hl18
  have hs16 := Ext_sh hE215 hs16 (by decide)
  have hl28 := Ext_ln hE215 (by rw [hs26]; decide) hl28
  have hs26 := Ext_sh hE215 hs26 (by decide)
  have hl38 := Ext_ln hE215 (by rw [hs36]; decide) hl38
  have hs36 := Ext_sh hE215 hs36 (by decide)
  have hl48 := Ext_ln hE215 (by rw [hs46]; decide) hl48
  have hs46 := Ext_sh hE215 hs46 (by decide)
  have hl58 := Ext_ln hE215 (by rw [hs56]; decide) hl58
  have hs56 := Ext_sh hE215 hs56 (by decide)
  have hl68 := Ext_ln hE215 (by rw [hs66]; decide) hl68
  have hs66 := Ext_sh hE215 hs66 (by decide)
  have hl78 := Ext_ln hE215 (by rw [hs76]; decide) hl78
  have hs76 := Ext_sh hE215 hs76 (by decide)
  have hl88 := Ext_ln hE215 (by rw [hs86]; decide) hl88
  have hs86 := Ext_sh hE215 hs86 (by decide)
  have hl98 := Ext_ln hE215 (by rw [hs96]; decide) hl98
  have hs96 := Ext_sh hE215 hs96 (by decide)
  have hl108 := Ext_ln hE215 (by rw [hs106]; decide) hl108
  have hs106 := Ext_sh hE215 hs106 (by decide)
  have hl118 := Ext_ln hE215 (by rw [hs116]; decide) hl118
  have hs116 := Ext_sh hE215 hs116 (by decide)
  have hl128 := Ext_ln hE215 (by rw [hs126]; decide) hl128
  have hs126 := Ext_sh hE215 hs126 (by decide)
  have hl138 := Ext_ln hE215 (by rw [hs136]; decide) hl138
  have hs136 := Ext_sh hE215 hs136 (by decide)
  have hl148 := Ext_ln hE215 (by rw [hs146]; decide) hl148
  have hs146 := Ext_sh hE215 hs146 (by decide)
  have hl158 := Ext_ln hE215 (by rw [hs156]; decide) hl158
  have hs156 := Ext_sh hE215 hs156 (by decide)
  have hl168 := Ext_ln hE215 (by rw [hs166]; decide) hl168
  have hs166 := Ext_sh hE215 hs166 (by decide)
  have hl178 := Ext_ln hE215 (by rw [hs176]; decide) hl178
  have hs176 := Ext_sh hE215 hs176 (by decide)
  have hl188 := Ext_ln hE215 (by rw [hs186]; decide) hl188
  have hs186 := Ext_sh hE215 hs186 (by decide)
  have hl198 := Ext_ln hE215 (by rw [hs196]; decide) hl198
  have hs196 := Ext_sh hE215 hs196 (by decide)
  have hl208 := Ext_ln hE215 (by rw [hs206]; decide) hl208
  have hs206 := Ext_sh hE215 hs206 (by decide)
  have hs216 : sh s213 (sN s209) = 101 := by rw [e214]; exact sh_mk
  have hl218 : ln s213 (sN s209) = 3 := by rw [e214]; exact ln_mk
  have hb217 := nb_N g211
  refine X_putFR0 (v := (some (sN s209))) (ci := 4) (j := 35) (q := (RX4, TX4, 54)) C h0 rfl rfl (by decide) q1801 rfl rfl rfl dX4_init_175 hb_a0 hs_a0 (Or.inr ⟨_, rfl⟩) ?_
  refine X_nm (fun s219 e220 => ?_)
  have h := h s219 e220
  have hs_a0 : sh s219 a0 = 5 := by rw [e220]; exact hs_a0
  have hs6 : sh s219 (sN st) = 101 := by rw [e220]; exact hs6
  have hl8 : ln s219 (sN st) = 9 := by rw [e220]; exact hl8
  have hs16 : sh s219 (sN s9) = 101 := by rw [e220]; exact hs16
  have hl18 : ln s219 (sN s9) = 97 := by rw [e220]; exact hl18
  have hs26 : sh s219 (sN s19) = 101 := by rw [e220]; exact hs26
  have hl28 : ln s219 (sN s19) = 97 := by rw [e220]; exact hl28
  have hs36 : sh s219 (sN s29) = 101 := by rw [e220]; exact hs36
  have hl38 : ln s219 (sN s29) = 97 := by rw [e220]; exact hl38
  have hs46 : sh s219 (sN s39) = 101 := by rw [e220]; exact hs46
  have hl48 : ln s219 (sN s39) = 3 := by rw [e220]; exact hl48
  have hs56 : sh s219 (sN s49) = 101 := by rw [e220]; exact hs56
  have hl58 : ln s219 (sN s49) = 300 := by rw [e220]; exact hl58
  have hs66 : sh s219 (sN s59) = 101 := by rw [e220]; exact hs66
  have hl68 : ln s219 (sN s59) = 200 := by rw [e220]; exact hl68
  have hs76 : sh s219 (sN s69) = 101 := by rw [e220]; exact hs76
  have hl78 : ln s219 (sN s69) = 600 := by rw [e220]; exact hl78
  have hs86 : sh s219 (sN s79) = 101 := by rw [e220]; exact hs86
  have hl88 : ln s219 (sN s79) = 600 := by rw [e220]; exact hl88
  have hs96 : sh s219 (sN s89) = 102 := by rw [e220]; exact hs96
  have hl98 : ln s219 (sN s89) = 300 := by rw [e220]; exact hl98
  have hs106 : sh s219 (sN s99) = 101 := by rw [e220]; exact hs106
  have hl108 : ln s219 (sN s99) = 5 := by rw [e220]; exact hl108
  have hs116 : sh s219 (sN s109) = 101 := by rw [e220]; exact hs116
  have hl118 : ln s219 (sN s109) = 5 := by rw [e220]; exact hl118
  have hs126 : sh s219 (sN s119) = 102 := by rw [e220]; exact hs126
  have hl128 : ln s219 (sN s119) = 81 := by rw [e220]; exact hl128
  have hs136 : sh s219 (sN s129) = 101 := by rw [e220]; exact hs136
  have hl138 : ln s219 (sN s129) = 3 := by rw [e220]; exact hl138
  have hs146 : sh s219 (sN s139) = 101 := by rw [e220]; exact hs146
  have hl148 : ln s219 (sN s139) = 3 := by rw [e220]; exact hl148
  have hs156 : sh s219 (sN s149) = 102 := by rw [e220]; exact hs156
  have hl158 : ln s219 (sN s149) = 27 := by rw [e220]; exact hl158
  have hs166 : sh s219 (sN s159) = 102 := by rw [e220]; exact hs166
  have hl168 : ln s219 (sN s159) = 3 := by rw [e220]; exact hl168
  have hs176 : sh s219 (sN s169) = 102 := by rw [e220]; exact hs176
  have hl178 : ln s219 (sN s169) = 16 := by rw [e220]; exact hl178
  have hs186 : sh s219 (sN s179) = 102 := by rw [e220]; exact hs186
  have hl188 : ln s219 (sN s179) = 15 := by rw [e220]; exact hl188
  have hs196 : sh s219 (sN s189) = 102 := by rw [e220]; exact hs196
  have hl198 : ln s219 (sN s189) = 15 := by rw [e220]; exact hl198
  have hs206 : sh s219 (sN s199) = 104 := by rw [e220]; exact hs206
  have hl208 : ln s219 (sN s199) = 15 := by rw [e220]; exact hl208
  have hs216 : sh s219 (sN s209) = 101 := by rw [e220]; exact hs216
  have hl218 : ln s219 (sN s209) = 3 := by rw [e220]; exact hl218
  refine X_aload_n C dX4_init_178 rfl 0 rfl (isRV_r _) ?_
  refine X_iconst (v := 3) C dX4_init_179 rfl ?_
  have g221 := h.1
  have h := h.2
  have g222 := h.1
  have h := h.2
  refine X_newarray (t := 102) (aty := .long) C 1 rfl (by decide) rfl q246 (fun _ _ h => h) (by decide) rfl (by decide) (by decide) g221 g222 dX4_init_180 (fun hE225 => ?_)
  refine X_nm (fun s223 e224 => ?_)
  have h := h s223 e224
  rw [← e224] at hE225
  have hs_a0 := Ext_sh hE225 hs_a0 (by decide)
  have hl8 := Ext_ln hE225 (by rw [hs6]; decide) hl8
  have hs6 := Ext_sh hE225 hs6 (by decide)
  have hl18 := Ext_ln hE225 (by rw [hs16]; decide) hl18
  have hs16 := Ext_sh hE225 hs16 (by decide)
  have hl28 := Ext_ln hE225 (by rw [hs26]; decide) hl28
  have hs26 := Ext_sh hE225 hs26 (by decide)
  have hl38 := Ext_ln hE225 (by rw [hs36]; decide) hl38
  have hs36 := Ext_sh hE225 hs36 (by decide)
  have hl48 := Ext_ln hE225 (by rw [hs46]; decide) hl48
  have hs46 := Ext_sh hE225 hs46 (by decide)
  have hl58 := Ext_ln hE225 (by rw [hs56]; decide) hl58
  have hs56 := Ext_sh hE225 hs56 (by decide)
  have hl68 := Ext_ln hE225 (by rw [hs66]; decide) hl68
  have hs66 := Ext_sh hE225 hs66 (by decide)
  have hl78 := Ext_ln hE225 (by rw [hs76]; decide) hl78
  have hs76 := Ext_sh hE225 hs76 (by decide)
  have hl88 := Ext_ln hE225 (by rw [hs86]; decide) hl88
  have hs86 := Ext_sh hE225 hs86 (by decide)
  have hl98 := Ext_ln hE225 (by rw [hs96]; decide) hl98
  have hs96 := Ext_sh hE225 hs96 (by decide)
  have hl108 := Ext_ln hE225 (by rw [hs106]; decide) hl108
  have hs106 := Ext_sh hE225 hs106 (by decide)
  have hl118 := Ext_ln hE225 (by rw [hs116]; decide) hl118
  have hs116 := Ext_sh hE225 hs116 (by decide)
  have hl128 := Ext_ln hE225 (by rw [hs126]; decide) hl128
  have hs126 := Ext_sh hE225 hs126 (by decide)
  have hl138 := Ext_ln hE225 (by rw [hs136]; decide) hl138
  have hs136 := Ext_sh hE225 hs136 (by decide)
  have hl148 := Ext_ln hE225 (by rw [hs146]; decide) hl148
  have hs146 := Ext_sh hE225 hs146 (by decide)
  have hl158 := Ext_ln hE225 (by rw [hs156]; decide) hl158
  have hs156 := Ext_sh hE225 hs156 (by decide)
  have hl168 := Ext_ln hE225 (by rw [hs166]; decide) hl168
  have hs166 := Ext_sh hE225 hs166 (by decide)
  have hl178 := Ext_ln hE225 (by rw [hs176]; decide) hl178
  have hs176 := Ext_sh hE225 hs176 (by decide)
  have hl188 := Ext_ln hE225 (by rw [hs186]; decide) hl188
  have hs186 := Ext_sh hE225 hs186 (by decide)
  have hl198 := Ext_ln hE225 (by rw [hs196]; decide) hl198
  have hs196 := Ext_sh hE225 hs196 (by decide)
  have hl208 := Ext_ln hE225 (by rw [hs206]; decide) hl208
  have hs206 := Ext_sh hE225 hs206 (by decide)
  have hl218 := Ext_ln hE225 (by rw [hs216]; decide) hl218
  have hs216 := Ext_sh hE225 hs216 (by decide)
  have hs226 : sh s223 (sN s219) = 102 := by rw [e224]; exact sh_mk
  have hl228 : ln s223 (sN s219) = 3 := by rw [e224]; exact ln_mk
  have hb227 := nb_N g221
  refine X_putFR0 (v := (some (sN s219))) (ci := 4) (j := 37) (q := (RX4, TX4, 54)) C h0 rfl rfl (by decide) q1803 rfl rfl rfl dX4_init_182 hb_a0 hs_a0 (Or.inr ⟨_, rfl⟩) ?_
  refine X_nm (fun s229 e230 => ?_)
  have h := h s229 e230
  have hs_a0 : sh s229 a0 = 5 := by rw [e230]; exact hs_a0
  have hs6 : sh s229 (sN st) = 101 := by rw [e230]; exact hs6
  have hl8 : ln s229 (sN st) = 9 := by rw [e230]; exact hl8
  have hs16 : sh s229 (sN s9) = 101 := by rw [e230]; exact hs16
  have hl18 : ln s229 (sN s9) = 97 := by rw [e230]; exact hl18
  have hs26 : sh s229 (sN s19) = 101 := by rw [e230]; exact hs26
  have hl28 : ln s229 (sN s19) = 97 := by rw [e230]; exact hl28
  have hs36 : sh s229 (sN s29) = 101 := by rw [e230]; exact hs36
  have hl38 : ln s229 (sN s29) = 97 := by rw [e230]; exact hl38
  have hs46 : sh s229 (sN s39) = 101 := by rw [e230]; exact hs46
  have hl48 : ln s229 (sN s39) = 3 := by rw [e230]; exact hl48
  have hs56 : sh s229 (sN s49) = 101 := by rw [e230]; exact hs56
  have hl58 : ln s229 (sN s49) = 300 := by rw [e230]; exact hl58
  have hs66 : sh s229 (sN s59) = 101 := by rw [e230]; exact hs66
  have hl68 : ln s229 (sN s59) = 200 := by rw [e230]; exact hl68
  have hs76 : sh s229 (sN s69) = 101 := by rw [e230]; exact hs76
  have hl78 : ln s229 (sN s69) = 600 := by rw [e230]; exact hl78
  have hs86 : sh s229 (sN s79) = 101 := by rw [e230]; exact hs86
  have hl88 : ln s229 (sN s79) = 600 := by rw [e230]; exact hl88
  have hs96 : sh s229 (sN s89) = 102 := by rw [e230]; exact hs96
  have hl98 : ln s229 (sN s89) = 300 := by rw [e230]; exact hl98
  have hs106 : sh s229 (sN s99) = 101 := by rw [e230]; exact hs106
  have hl108 : ln s229 (sN s99) = 5 := by rw [e230]; exact hl108
  have hs116 : sh s229 (sN s109) = 101 := by rw [e230]; exact hs116
  have hl118 : ln s229 (sN s109) = 5 := by rw [e230]; exact hl118
  have hs126 : sh s229 (sN s119) = 102 := by rw [e230]; exact hs126
  have hl128 : ln s229 (sN s119) = 81 := by rw [e230]; exact hl128
  have hs136 : sh s229 (sN s129) = 101 := by rw [e230]; exact hs136
  have hl138 : ln s229 (sN s129) = 3 := by rw [e230]; exact hl138
  have hs146 : sh s229 (sN s139) = 101 := by rw [e230]; exact hs146
  have hl148 : ln s229 (sN s139) = 3 := by rw [e230]; exact hl148
  have hs156 : sh s229 (sN s149) = 102 := by rw [e230]; exact hs156
  have hl158 : ln s229 (sN s149) = 27 := by rw [e230]; exact hl158
  have hs166 : sh s229 (sN s159) = 102 := by rw [e230]; exact hs166
  have hl168 : ln s229 (sN s159) = 3 := by rw [e230]; exact hl168
  have hs176 : sh s229 (sN s169) = 102 := by rw [e230]; exact hs176
  have hl178 : ln s229 (sN s169) = 16 := by rw [e230]; exact hl178
  have hs186 : sh s229 (sN s179) = 102 := by rw [e230]; exact hs186
  have hl188 : ln s229 (sN s179) = 15 := by rw [e230]; exact hl188
  have hs196 : sh s229 (sN s189) = 102 := by rw [e230]; exact hs196
  have hl198 : ln s229 (sN s189) = 15 := by rw [e230]; exact hl198
  have hs206 : sh s229 (sN s199) = 104 := by rw [e230]; exact hs206
  have hl208 : ln s229 (sN s199) = 15 := by rw [e230]; exact hl208
  have hs216 : sh s229 (sN s209) = 101 := by rw [e230]; exact hs216
  have hl218 : ln s229 (sN s209) = 3 := by rw [e230]; exact hl218
  have hs226 : sh s229 (sN s219) = 102 := by rw [e230]; exact hs226
  have hl228 : ln s229 (sN s219) = 3 := by rw [e230]; exact hl228
  refine X_aload_n C dX4_init_185 rfl 0 rfl (isRV_r _) ?_
  refine X_iconst (v := 3) C dX4_init_186 rfl ?_
  have g231 := h.1
  have h := h.2
  have g232 := h.1
  have h := h.2
  refine X_newarray (t := 101) (aty := .int) C 0 rfl (by decide) rfl q229 (fun _ _ h => h) (by decide) rfl (by decide) (by decide) g231 g232 dX4_init_187 (fun hE235 => ?_)
  refine X_nm (fun s233 e234 => ?_)
  have h := h s233 e234
  rw [← e234] at hE235
  have hs_a0 := Ext_sh hE235 hs_a0 (by decide)
  have hl8 := Ext_ln hE235 (by rw [hs6]; decide) hl8
  have hs6 := Ext_sh hE235 hs6 (by decide)
  have hl18 := Ext_ln hE235 (by rw [hs16]; decide) hl18
  have hs16 := Ext_sh hE235 hs16 (by decide)
  have hl28 := Ext_ln hE235 (by rw [hs26]; decide) hl28
  have hs26 := Ext_sh hE235 hs26 (by decide)
  have hl38 := Ext_ln hE235 (by rw [hs36]; decide) hl38
  have hs36 := Ext_sh hE235 hs36 (by decide)
  have hl48 := Ext_ln hE235 (by rw [hs46]; decide) hl48
  have hs46 := Ext_sh hE235 hs46 (by decide)
  have hl58 := Ext_ln hE235 (by rw [hs56]; decide) hl58
  have hs56 := Ext_sh hE235 hs56 (by decide)
  have hl68 := Ext_ln hE235 (by rw [hs66]; decide) hl68
  have hs66 := Ext_sh hE235 hs66 (by decide)
  have hl78 := Ext_ln hE235 (by rw [hs76]; decide) hl78
  have hs76 := Ext_sh hE235 hs76 (by decide)
  have hl88 := Ext_ln hE235 (by rw [hs86]; decide) hl88
  have hs86 := Ext_sh hE235 hs86 (by decide)
  have hl98 := Ext_ln hE235 (by rw [hs96]; decide) hl98
  have hs96 := Ext_sh hE235 hs96 (by decide)
  have hl108 := Ext_ln hE235 (by rw [hs106]; decide) hl108
  have hs106 := Ext_sh hE235 hs106 (by decide)
  have hl118 := Ext_ln hE235 (by rw [hs116]; decide) hl118
  have hs116 := Ext_sh hE235 hs116 (by decide)
  have hl128 := Ext_ln hE235 (by rw [hs126]; decide) hl128
  have hs126 := Ext_sh hE235 hs126 (by decide)
  have hl138 := Ext_ln hE235 (by rw [hs136]; decide) hl138
  have hs136 := Ext_sh hE235 hs136 (by decide)
  have hl148 := Ext_ln hE235 (by rw [hs146]; decide) hl148
  have hs146 := Ext_sh hE235 hs146 (by decide)
  have hl158 := Ext_ln hE235 (by rw [hs156]; decide) hl158
  have hs156 := Ext_sh hE235 hs156 (by decide)
  have hl168 := Ext_ln hE235 (by rw [hs166]; decide) hl168
  have hs166 := Ext_sh hE235 hs166 (by decide)
  have hl178 := Ext_ln hE235 (by rw [hs176]; decide) hl178
  have hs176 := Ext_sh hE235 hs176 (by decide)
  have hl188 := Ext_ln hE235 (by rw [hs186]; decide) hl188
  have hs186 := Ext_sh hE235 hs186 (by decide)
  have hl198 := Ext_ln hE235 (by rw [hs196]; decide) hl198
  have hs196 := Ext_sh hE235 hs196 (by decide)
  have hl208 := Ext_ln hE235 (by rw [hs206]; decide) hl208
  have hs206 := Ext_sh hE235 hs206 (by decide)
  have hl218 := Ext_ln hE235 (by rw [hs216]; decide) hl218
  have hs216 := Ext_sh hE235 hs216 (by decide)
  have hl228 := Ext_ln hE235 (by rw [hs226]; decide) hl228
  have hs226 := Ext_sh hE235 hs226 (by decide)
  have hs236 : sh s233 (sN s229) = 101 := by rw [e234]; exact sh_mk
  have hl238 : ln s233 (sN s229) = 3 := by rw [e234]; exact ln_mk
  have hb237 := nb_N g231
  refine X_putFR0 (v := (some (sN s229))) (ci := 4) (j := 39) (q := (RX4, TX4, 54)) C h0 rfl rfl (by decide) q1805 rfl rfl rfl dX4_init_189 hb_a0 hs_a0 (Or.inr ⟨_, rfl⟩) ?_
  refine X_nm (fun s239 e240 => ?_)
  have h := h s239 e240
  have hs_a0 : sh s239 a0 = 5 := by rw [e240]; exact hs_a0
  have hs6 : sh s239 (sN st) = 101 := by rw [e240]; exact hs6
  have hl8 : ln s239 (sN st) = 9 := by rw [e240]; exact hl8
  have hs16 : sh s239 (sN s9) = 101 := by rw [e240]; exact hs16
  have hl18 : ln s239 (sN s9) = 97 := by rw [e240]; exact hl18
  have hs26 : sh s239 (sN s19) = 101 := by rw [e240]; exact hs26
  have hl28 : ln s239 (sN s19) = 97 := by rw [e240]; exact hl28
  have hs36 : sh s239 (sN s29) = 101 := by rw [e240]; exact hs36
  have hl38 : ln s239 (sN s29) = 97 := by rw [e240]; exact hl38
  have hs46 : sh s239 (sN s39) = 101 := by rw [e240]; exact hs46
  have hl48 : ln s239 (sN s39) = 3 := by rw [e240]; exact hl48
  have hs56 : sh s239 (sN s49) = 101 := by rw [e240]; exact hs56
  have hl58 : ln s239 (sN s49) = 300 := by rw [e240]; exact hl58
  have hs66 : sh s239 (sN s59) = 101 := by rw [e240]; exact hs66
  have hl68 : ln s239 (sN s59) = 200 := by rw [e240]; exact hl68
  have hs76 : sh s239 (sN s69) = 101 := by rw [e240]; exact hs76
  have hl78 : ln s239 (sN s69) = 600 := by rw [e240]; exact hl78
  have hs86 : sh s239 (sN s79) = 101 := by rw [e240]; exact hs86
  have hl88 : ln s239 (sN s79) = 600 := by rw [e240]; exact hl88
  have hs96 : sh s239 (sN s89) = 102 := by rw [e240]; exact hs96
  have hl98 : ln s239 (sN s89) = 300 := by rw [e240]; exact hl98
  have hs106 : sh s239 (sN s99) = 101 := by rw [e240]; exact hs106
  have hl108 : ln s239 (sN s99) = 5 := by rw [e240]; exact hl108
  have hs116 : sh s239 (sN s109) = 101 := by rw [e240]; exact hs116
  have hl118 : ln s239 (sN s109) = 5 := by rw [e240]; exact hl118
  have hs126 : sh s239 (sN s119) = 102 := by rw [e240]; exact hs126
  have hl128 : ln s239 (sN s119) = 81 := by rw [e240]; exact hl128
  have hs136 : sh s239 (sN s129) = 101 := by rw [e240]; exact hs136
  have hl138 : ln s239 (sN s129) = 3 := by rw [e240]; exact hl138
  have hs146 : sh s239 (sN s139) = 101 := by rw [e240]; exact hs146
  have hl148 : ln s239 (sN s139) = 3 := by rw [e240]; exact hl148
  have hs156 : sh s239 (sN s149) = 102 := by rw [e240]; exact hs156
  have hl158 : ln s239 (sN s149) = 27 := by rw [e240]; exact hl158
  have hs166 : sh s239 (sN s159) = 102 := by rw [e240]; exact hs166
  have hl168 : ln s239 (sN s159) = 3 := by rw [e240]; exact hl168
  have hs176 : sh s239 (sN s169) = 102 := by rw [e240]; exact hs176
  have hl178 : ln s239 (sN s169) = 16 := by rw [e240]; exact hl178
  have hs186 : sh s239 (sN s179) = 102 := by rw [e240]; exact hs186
  have hl188 : ln s239 (sN s179) = 15 := by rw [e240]; exact hl188
  have hs196 : sh s239 (sN s189) = 102 := by rw [e240]; exact hs196
  have hl198 : ln s239 (sN s189) = 15 := by rw [e240]; exact hl198
  have hs206 : sh s239 (sN s199) = 104 := by rw [e240]; exact hs206
  have hl208 : ln s239 (sN s199) = 15 := by rw [e240]; exact hl208
  have hs216 : sh s239 (sN s209) = 101 := by rw [e240]; exact hs216
  have hl218 : ln s239 (sN s209) = 3 := by rw [e240]; exact hl218
  have hs226 : sh s239 (sN s219) = 102 := by rw [e240]; exact hs226
  have hl228 : ln s239 (sN s219) = 3 := by rw [e240]; exact hl228
  have hs236 : sh s239 (sN s229) = 101 := by rw [e240]; exact hs236
  have hl238 : ln s239 (sN s229) = 3 := by rw [e240]; exact hl238
  refine X_aload_n C dX4_init_192 rfl 0 rfl (isRV_r _) ?_
  refine X_iconst (v := 3) C dX4_init_193 rfl ?_
  have g241 := h.1
  have h := h.2
  have g242 := h.1
  have h := h.2
  refine X_newarray (t := 102) (aty := .long) C 1 rfl (by decide) rfl q246 (fun _ _ h => h) (by decide) rfl (by decide) (by decide) g241 g242 dX4_init_194 (fun hE245 => ?_)
  refine X_nm (fun s243 e244 => ?_)
  have h := h s243 e244
  rw [← e244] at hE245
  have hs_a0 := Ext_sh hE245 hs_a0 (by decide)
  have hl8 := Ext_ln hE245 (by rw [hs6]; decide) hl8
  have hs6 := Ext_sh hE245 hs6 (by decide)
  have hl18 := Ext_ln hE245 (by rw [hs16]; decide) hl18
  have hs16 := Ext_sh hE245 hs16 (by decide)
  have hl28 := Ext_ln hE245 (by rw [hs26]; decide) hl28
  have hs26 := Ext_sh hE245 hs26 (by decide)
  have hl38 := Ext_ln hE245 (by rw [hs36]; decide) hl38
  have hs36 := Ext_sh hE245 hs36 (by decide)
  have hl48 := Ext_ln hE245 (by rw [hs46]; decide) hl48
  have hs46 := Ext_sh hE245 hs46 (by decide)
  have hl58 := Ext_ln hE245 (by rw [hs56]; decide) hl58
  have hs56 := Ext_sh hE245 hs56 (by decide)
  have hl68 := Ext_ln hE245 (by rw [hs66]; decide) hl68
  have hs66 := Ext_sh hE245 hs66 (by decide)
  have hl78 := Ext_ln hE245 (by rw [hs76]; decide) hl78
  have hs76 := Ext_sh hE245 hs76 (by decide)
  have hl88 := Ext_ln hE245 (by rw [hs86]; decide) hl88
  have hs86 := Ext_sh hE245 hs86 (by decide)
  have hl98 := Ext_ln hE245 (by rw [hs96]; decide) hl98
  have hs96 := Ext_sh hE245 hs96 (by decide)
  have hl108 := Ext_ln hE245 (by rw [hs106]; decide) hl108
  have hs106 := Ext_sh hE245 hs106 (by decide)
  have hl118 := Ext_ln hE245 (by rw [hs116]; decide) hl118
  have hs116 := Ext_sh hE245 hs116 (by decide)
  have hl128 := Ext_ln hE245 (by rw [hs126]; decide) hl128
  have hs126 := Ext_sh hE245 hs126 (by decide)
  have hl138 := Ext_ln hE245 (by rw [hs136]; decide) hl138
  have hs136 := Ext_sh hE245 hs136 (by decide)
  have hl148 := Ext_ln hE245 (by rw [hs146]; decide) hl148
  have hs146 := Ext_sh hE245 hs146 (by decide)
  have hl158 := Ext_ln hE245 (by rw [hs156]; decide) hl158
  have hs156 := Ext_sh hE245 hs156 (by decide)
  have hl168 := Ext_ln hE245 (by rw [hs166]; decide) hl168
  have hs166 := Ext_sh hE245 hs166 (by decide)
  have hl178 := Ext_ln hE245 (by rw [hs176]; decide) hl178
  have hs176 := Ext_sh hE245 hs176 (by decide)
  have hl188 := Ext_ln hE245 (by rw [hs186]; decide) hl188
  have hs186 := Ext_sh hE245 hs186 (by decide)
  have hl198 := Ext_ln hE245 (by rw [hs196]; decide) hl198
  have hs196 := Ext_sh hE245 hs196 (by decide)
  have hl208 := Ext_ln hE245 (by rw [hs206]; decide) hl208
  have hs206 := Ext_sh hE245 hs206 (by decide)
  have hl218 := Ext_ln hE245 (by rw [hs216]; decide) hl218
  have hs216 := Ext_sh hE245 hs216 (by decide)
  have hl228 := Ext_ln hE245 (by rw [hs226]; decide) hl228
  have hs226 := Ext_sh hE245 hs226 (by decide)
  have hl238 := Ext_ln hE245 (by rw [hs236]; decide) hl238
  have hs236 := Ext_sh hE245 hs236 (by decide)
  have hs246 : sh s243 (sN s239) = 102 := by rw [e244]; exact sh_mk
  have hl248 : ln s243 (sN s239) = 3 := by rw [e244]; exact ln_mk
  have hb247 := nb_N g241
  refine X_putFR0 (v := (some (sN s239))) (ci := 4) (j := 40) (q := (RX4, TX4, 54)) C h0 rfl rfl (by decide) q1806 rfl rfl rfl dX4_init_196 hb_a0 hs_a0 (Or.inr ⟨_, rfl⟩) ?_
  refine X_nm (fun s249 e250 => ?_)
  have h := h s249 e250
  have hs_a0 : sh s249 a0 = 5 := by rw [e250]; exact hs_a0
  have hs6 : sh s249 (sN st) = 101 := by rw [e250]; exact hs6
  have hl8 : ln s249 (sN st) = 9 := by rw [e250]; exact hl8
  have hs16 : sh s249 (sN s9) = 101 := by rw [e250]; exact hs16
  have hl18 : ln s249 (sN s9) = 97 := by rw [e250]; exact hl18
  have hs26 : sh s249 (sN s19) = 101 := by rw [e250]; exact hs26
  have hl28 : ln s249 (sN s19) = 97 := by rw [e250]; exact hl28
  have hs36 : sh s249 (sN s29) = 101 := by rw [e250]; exact hs36
  have hl38 : ln s249 (sN s29) = 97 := by rw [e250]; exact hl38
  have hs46 : sh s249 (sN s39) = 101 := by rw [e250]; exact hs46
  have hl48 : ln s249 (sN s39) = 3 := by rw [e250]; exact hl48
  have hs56 : sh s249 (sN s49) = 101 := by rw [e250]; exact hs56
  have hl58 : ln s249 (sN s49) = 300 := by rw [e250]; exact hl58
  have hs66 : sh s249 (sN s59) = 101 := by rw [e250]; exact hs66
  have hl68 : ln s249 (sN s59) = 200 := by rw [e250]; exact hl68
  have hs76 : sh s249 (sN s69) = 101 := by rw [e250]; exact hs76
  have hl78 : ln s249 (sN s69) = 600 := by rw [e250]; exact hl78
  have hs86 : sh s249 (sN s79) = 101 := by rw [e250]; exact hs86
  have hl88 : ln s249 (sN s79) = 600 := by rw [e250]; exact hl88
  have hs96 : sh s249 (sN s89) = 102 := by rw [e250]; exact hs96
  have hl98 : ln s249 (sN s89) = 300 := by rw [e250]; exact hl98
  have hs106 : sh s249 (sN s99) = 101 := by rw [e250]; exact hs106
  have hl108 : ln s249 (sN s99) = 5 := by rw [e250]; exact hl108
  have hs116 : sh s249 (sN s109) = 101 := by rw [e250]; exact hs116
  have hl118 : ln s249 (sN s109) = 5 := by rw [e250]; exact hl118
  have hs126 : sh s249 (sN s119) = 102 := by rw [e250]; exact hs126
  have hl128 : ln s249 (sN s119) = 81 := by rw [e250]; exact hl128
  have hs136 : sh s249 (sN s129) = 101 := by rw [e250]; exact hs136
  have hl138 : ln s249 (sN s129) = 3 := by rw [e250]; exact hl138
  have hs146 : sh s249 (sN s139) = 101 := by rw [e250]; exact hs146
  have hl148 : ln s249 (sN s139) = 3 := by rw [e250]; exact hl148
  have hs156 : sh s249 (sN s149) = 102 := by rw [e250]; exact hs156
  have hl158 : ln s249 (sN s149) = 27 := by rw [e250]; exact hl158
  have hs166 : sh s249 (sN s159) = 102 := by rw [e250]; exact hs166
  have hl168 : ln s249 (sN s159) = 3 := by rw [e250]; exact hl168
  have hs176 : sh s249 (sN s169) = 102 := by rw [e250]; exact hs176
  have hl178 : ln s249 (sN s169) = 16 := by rw [e250]; exact hl178
  have hs186 : sh s249 (sN s179) = 102 := by rw [e250]; exact hs186
  have hl188 : ln s249 (sN s179) = 15 := by rw [e250]; exact hl188
  have hs196 : sh s249 (sN s189) = 102 := by rw [e250]; exact hs196
  have hl198 : ln s249 (sN s189) = 15 := by rw [e250]; exact hl198
  have hs206 : sh s249 (sN s199) = 104 := by rw [e250]; exact hs206
  have hl208 : ln s249 (sN s199) = 15 := by rw [e250]; exact hl208
  have hs216 : sh s249 (sN s209) = 101 := by rw [e250]; exact hs216
  have hl218 : ln s249 (sN s209) = 3 := by rw [e250]; exact hl218
  have hs226 : sh s249 (sN s219) = 102 := by rw [e250]; exact hs226
  have hl228 : ln s249 (sN s219) = 3 := by rw [e250]; exact hl228
  have hs236 : sh s249 (sN s229) = 101 := by rw [e250]; exact hs236
  have hl238 : ln s249 (sN s229) = 3 := by rw [e250]; exact hl238
  have hs246 : sh s249 (sN s239) = 102 := by rw [e250]; exact hs246
  have hl248 : ln s249 (sN s239) = 3 := by rw [e250]; exact hl248
  refine X_aload_n C dX4_init_199 rfl 0 rfl (isRV_r _) ?_
  refine X_get (ci := 4) (j := 1) (q := (RX4, TX4, 54)) C rfl (by decide) q1767 rfl dX4_init_200 hs_a0 (v := rv θ (sR s249 a0 1)) rfl ?_
  obtain ⟨r251, q252, hb254, hs253, h⟩ := h
  rw [q252]
  refine X_tor ?_
  refine X_iconst (v := 0) C dX4_init_203 rfl ?_
  refine X_iconst (v := 2) C dX4_init_204 rfl ?_
  have g255 := h.1
  have h := h.2
  refine X_iastD C hb254 hs253 rfl g255 rfl dX4_init_205 ?_
  refine X_nm (fun s256 e257 => ?_)
  have h := h s256 e257
  have hs_a0 : sh s256 a0 = 5 := by rw [e257]; exact hs_a0
  have hs6 : sh s256 (sN st) = 101 := by rw [e257]; exact hs6
  have hl8 : ln s256 (sN st) = 9 := by rw [e257]; exact hl8
  have hs16 : sh s256 (sN s9) = 101 := by rw [e257]; exact hs16
  have hl18 : ln s256 (sN s9) = 97 := by rw [e257]; exact hl18
  have hs26 : sh s256 (sN s19) = 101 := by rw [e257]; exact hs26
  have hl28 : ln s256 (sN s19) = 97 := by rw [e257]; exact hl28
  have hs36 : sh s256 (sN s29) = 101 := by rw [e257]; exact hs36
  have hl38 : ln s256 (sN s29) = 97 := by rw [e257]; exact hl38
  have hs46 : sh s256 (sN s39) = 101 := by rw [e257]; exact hs46
  have hl48 : ln s256 (sN s39) = 3 := by rw [e257]; exact hl48
  have hs56 : sh s256 (sN s49) = 101 := by rw [e257]; exact hs56
  have hl58 : ln s256 (sN s49) = 300 := by rw [e257]; exact hl58
  have hs66 : sh s256 (sN s59) = 101 := by rw [e257]; exact hs66
  have hl68 : ln s256 (sN s59) = 200 := by rw [e257]; exact hl68
  have hs76 : sh s256 (sN s69) = 101 := by rw [e257]; exact hs76
  have hl78 : ln s256 (sN s69) = 600 := by rw [e257]; exact hl78
  have hs86 : sh s256 (sN s79) = 101 := by rw [e257]; exact hs86
  have hl88 : ln s256 (sN s79) = 600 := by rw [e257]; exact hl88
  have hs96 : sh s256 (sN s89) = 102 := by rw [e257]; exact hs96
  have hl98 : ln s256 (sN s89) = 300 := by rw [e257]; exact hl98
  have hs106 : sh s256 (sN s99) = 101 := by rw [e257]; exact hs106
  have hl108 : ln s256 (sN s99) = 5 := by rw [e257]; exact hl108
  have hs116 : sh s256 (sN s109) = 101 := by rw [e257]; exact hs116
  have hl118 : ln s256 (sN s109) = 5 := by rw [e257]; exact hl118
  have hs126 : sh s256 (sN s119) = 102 := by rw [e257]; exact hs126
  have hl128 : ln s256 (sN s119) = 81 := by rw [e257]; exact hl128
  have hs136 : sh s256 (sN s129) = 101 := by rw [e257]; exact hs136
  have hl138 : ln s256 (sN s129) = 3 := by rw [e257]; exact hl138
  have hs146 : sh s256 (sN s139) = 101 := by rw [e257]; exact hs146
  have hl148 : ln s256 (sN s139) = 3 := by rw [e257]; exact hl148
  have hs156 : sh s256 (sN s149) = 102 := by rw [e257]; exact hs156
  have hl158 : ln s256 (sN s149) = 27 := by rw [e257]; exact hl158
  have hs166 : sh s256 (sN s159) = 102 := by rw [e257]; exact hs166
  have hl168 : ln s256 (sN s159) = 3 := by rw [e257]; exact hl168
  have hs176 : sh s256 (sN s169) = 102 := by rw [e257]; exact hs176
  have hl178 : ln s256 (sN s169) = 16 := by rw [e257]; exact hl178
  have hs186 : sh s256 (sN s179) = 102 := by rw [e257]; exact hs186
  have hl188 : ln s256 (sN s179) = 15 := by rw [e257]; exact hl188
  have hs196 : sh s256 (sN s189) = 102 := by rw [e257]; exact hs196
  have hl198 : ln s256 (sN s189) = 15 := by rw [e257]; exact hl198
  have hs206 : sh s256 (sN s199) = 104 := by rw [e257]; exact hs206
  have hl208 : ln s256 (sN s199) = 15 := by rw [e257]; exact hl208
  have hs216 : sh s256 (sN s209) = 101 := by rw [e257]; exact hs216
  have hl218 : ln s256 (sN s209) = 3 := by rw [e257]; exact hl218
  have hs226 : sh s256 (sN s219) = 102 := by rw [e257]; exact hs226
  have hl228 : ln s256 (sN s219) = 3 := by rw [e257]; exact hl228
  have hs236 : sh s256 (sN s229) = 101 := by rw [e257]; exact hs236
  have hl238 : ln s256 (sN s229) = 3 := by rw [e257]; exact hl238
  have hs246 : sh s256 (sN s239) = 102 := by rw [e257]; exact hs246
  have hl248 : ln s256 (sN s239) = 3 := by rw [e257]; exact hl248
  have hs253 : sh s256 r251 = 101 := by rw [e257]; exact hs253
  refine X_aload_n C dX4_init_206 rfl 0 rfl (isRV_r _) ?_
  refine X_get (ci := 4) (j := 1) (q := (RX4, TX4, 54)) C rfl (by decide) q1767 rfl dX4_init_207 hs_a0 (v := rv θ (sR s256 a0 1)) rfl ?_
  obtain ⟨r258, q259, hb261, hs260, h⟩ := h
  rw [q259]
  refine X_tor ?_
  refine X_iconst (v := 1) C dX4_init_210 rfl ?_
  refine X_iconst (v := 4) C dX4_init_211 rfl ?_
  have g262 := h.1
  have h := h.2
  refine X_iastD C hb261 hs260 rfl g262 rfl dX4_init_212 ?_
  refine X_nm (fun s263 e264 => ?_)
  have h := h s263 e264
  have hs_a0 : sh s263 a0 = 5 := by rw [e264]; exact hs_a0
  have hs6 : sh s263 (sN st) = 101 := by rw [e264]; exact hs6
  have hl8 : ln s263 (sN st) = 9 := by rw [e264]; exact hl8
  have hs16 : sh s263 (sN s9) = 101 := by rw [e264]; exact hs16
  have hl18 : ln s263 (sN s9) = 97 := by rw [e264]; exact hl18
  have hs26 : sh s263 (sN s19) = 101 := by rw [e264]; exact hs26
  have hl28 : ln s263 (sN s19) = 97 := by rw [e264]; exact hl28
  have hs36 : sh s263 (sN s29) = 101 := by rw [e264]; exact hs36
  have hl38 : ln s263 (sN s29) = 97 := by rw [e264]; exact hl38
  have hs46 : sh s263 (sN s39) = 101 := by rw [e264]; exact hs46
  have hl48 : ln s263 (sN s39) = 3 := by rw [e264]; exact hl48
  have hs56 : sh s263 (sN s49) = 101 := by rw [e264]; exact hs56
  have hl58 : ln s263 (sN s49) = 300 := by rw [e264]; exact hl58
  have hs66 : sh s263 (sN s59) = 101 := by rw [e264]; exact hs66
  have hl68 : ln s263 (sN s59) = 200 := by rw [e264]; exact hl68
  have hs76 : sh s263 (sN s69) = 101 := by rw [e264]; exact hs76
  have hl78 : ln s263 (sN s69) = 600 := by rw [e264]; exact hl78
  have hs86 : sh s263 (sN s79) = 101 := by rw [e264]; exact hs86
  have hl88 : ln s263 (sN s79) = 600 := by rw [e264]; exact hl88
  have hs96 : sh s263 (sN s89) = 102 := by rw [e264]; exact hs96
  have hl98 : ln s263 (sN s89) = 300 := by rw [e264]; exact hl98
  have hs106 : sh s263 (sN s99) = 101 := by rw [e264]; exact hs106
  have hl108 : ln s263 (sN s99) = 5 := by rw [e264]; exact hl108
  have hs116 : sh s263 (sN s109) = 101 := by rw [e264]; exact hs116
  have hl118 : ln s263 (sN s109) = 5 := by rw [e264]; exact hl118
  have hs126 : sh s263 (sN s119) = 102 := by rw [e264]; exact hs126
  have hl128 : ln s263 (sN s119) = 81 := by rw [e264]; exact hl128
  have hs136 : sh s263 (sN s129) = 101 := by rw [e264]; exact hs136
  have hl138 : ln s263 (sN s129) = 3 := by rw [e264]; exact hl138
  have hs146 : sh s263 (sN s139) = 101 := by rw [e264]; exact hs146
  have hl148 : ln s263 (sN s139) = 3 := by rw [e264]; exact hl148
  have hs156 : sh s263 (sN s149) = 102 := by rw [e264]; exact hs156
  have hl158 : ln s263 (sN s149) = 27 := by rw [e264]; exact hl158
  have hs166 : sh s263 (sN s159) = 102 := by rw [e264]; exact hs166
  have hl168 : ln s263 (sN s159) = 3 := by rw [e264]; exact hl168
  have hs176 : sh s263 (sN s169) = 102 := by rw [e264]; exact hs176
  have hl178 : ln s263 (sN s169) = 16 := by rw [e264]; exact hl178
  have hs186 : sh s263 (sN s179) = 102 := by rw [e264]; exact hs186
  have hl188 : ln s263 (sN s179) = 15 := by rw [e264]; exact hl188
  have hs196 : sh s263 (sN s189) = 102 := by rw [e264]; exact hs196
  have hl198 : ln s263 (sN s189) = 15 := by rw [e264]; exact hl198
  have hs206 : sh s263 (sN s199) = 104 := by rw [e264]; exact hs206
  have hl208 : ln s263 (sN s199) = 15 := by rw [e264]; exact hl208
  have hs216 : sh s263 (sN s209) = 101 := by rw [e264]; exact hs216
  have hl218 : ln s263 (sN s209) = 3 := by rw [e264]; exact hl218
  have hs226 : sh s263 (sN s219) = 102 := by rw [e264]; exact hs226
  have hl228 : ln s263 (sN s219) = 3 := by rw [e264]; exact hl228
  have hs236 : sh s263 (sN s229) = 101 := by rw [e264]; exact hs236
  have hl238 : ln s263 (sN s229) = 3 := by rw [e264]; exact hl238
  have hs246 : sh s263 (sN s239) = 102 := by rw [e264]; exact hs246
  have hl248 : ln s263 (sN s239) = 3 := by rw [e264]; exact hl248
  have hs253 : sh s263 r251 = 101 := by rw [e264]; exact hs253
  have hs260 : sh s263 r258 = 101 := by rw [e264]; exact hs260
  refine X_aload_n C dX4_init_213 rfl 0 rfl (isRV_r _) ?_
  refine X_get (ci := 4) (j := 1) (q := (RX4, TX4, 54)) C rfl (by decide) q1767 rfl dX4_init_214 hs_a0 (v := rv θ (sR s263 a0 1)) rfl ?_
  obtain ⟨r265, q266, hb268, hs267, h⟩ := h
  rw [q266]
  refine X_tor ?_
  refine X_iconst (v := 2) C dX4_init_217 rfl ?_
  refine X_iconst (v := 2) C dX4_init_218 rfl ?_
  have g269 := h.1
  have h := h.2
  refine X_iastD C hb268 hs267 rfl g269 rfl dX4_init_219 ?_
  refine X_nm (fun s270 e271 => ?_)
  have h := h s270 e271
  have hs_a0 : sh s270 a0 = 5 := by rw [e271]; exact hs_a0
  have hs6 : sh s270 (sN st) = 101 := by rw [e271]; exact hs6
  have hl8 : ln s270 (sN st) = 9 := by rw [e271]; exact hl8
  have hs16 : sh s270 (sN s9) = 101 := by rw [e271]; exact hs16
  have hl18 : ln s270 (sN s9) = 97 := by rw [e271]; exact hl18
  have hs26 : sh s270 (sN s19) = 101 := by rw [e271]; exact hs26
  have hl28 : ln s270 (sN s19) = 97 := by rw [e271]; exact hl28
  have hs36 : sh s270 (sN s29) = 101 := by rw [e271]; exact hs36
  have hl38 : ln s270 (sN s29) = 97 := by rw [e271]; exact hl38
  have hs46 : sh s270 (sN s39) = 101 := by rw [e271]; exact hs46
  have hl48 : ln s270 (sN s39) = 3 := by rw [e271]; exact hl48
  have hs56 : sh s270 (sN s49) = 101 := by rw [e271]; exact hs56
  have hl58 : ln s270 (sN s49) = 300 := by rw [e271]; exact hl58
  have hs66 : sh s270 (sN s59) = 101 := by rw [e271]; exact hs66
  have hl68 : ln s270 (sN s59) = 200 := by rw [e271]; exact hl68
  have hs76 : sh s270 (sN s69) = 101 := by rw [e271]; exact hs76
  have hl78 : ln s270 (sN s69) = 600 := by rw [e271]; exact hl78
  have hs86 : sh s270 (sN s79) = 101 := by rw [e271]; exact hs86
  have hl88 : ln s270 (sN s79) = 600 := by rw [e271]; exact hl88
  have hs96 : sh s270 (sN s89) = 102 := by rw [e271]; exact hs96
  have hl98 : ln s270 (sN s89) = 300 := by rw [e271]; exact hl98
  have hs106 : sh s270 (sN s99) = 101 := by rw [e271]; exact hs106
  have hl108 : ln s270 (sN s99) = 5 := by rw [e271]; exact hl108
  have hs116 : sh s270 (sN s109) = 101 := by rw [e271]; exact hs116
  have hl118 : ln s270 (sN s109) = 5 := by rw [e271]; exact hl118
  have hs126 : sh s270 (sN s119) = 102 := by rw [e271]; exact hs126
  have hl128 : ln s270 (sN s119) = 81 := by rw [e271]; exact hl128
  have hs136 : sh s270 (sN s129) = 101 := by rw [e271]; exact hs136
  have hl138 : ln s270 (sN s129) = 3 := by rw [e271]; exact hl138
  have hs146 : sh s270 (sN s139) = 101 := by rw [e271]; exact hs146
  have hl148 : ln s270 (sN s139) = 3 := by rw [e271]; exact hl148
  have hs156 : sh s270 (sN s149) = 102 := by rw [e271]; exact hs156
  have hl158 : ln s270 (sN s149) = 27 := by rw [e271]; exact hl158
  have hs166 : sh s270 (sN s159) = 102 := by rw [e271]; exact hs166
  have hl168 : ln s270 (sN s159) = 3 := by rw [e271]; exact hl168
  have hs176 : sh s270 (sN s169) = 102 := by rw [e271]; exact hs176
  have hl178 : ln s270 (sN s169) = 16 := by rw [e271]; exact hl178
  have hs186 : sh s270 (sN s179) = 102 := by rw [e271]; exact hs186
  have hl188 : ln s270 (sN s179) = 15 := by rw [e271]; exact hl188
  have hs196 : sh s270 (sN s189) = 102 := by rw [e271]; exact hs196
  have hl198 : ln s270 (sN s189) = 15 := by rw [e271]; exact hl198
  have hs206 : sh s270 (sN s199) = 104 := by rw [e271]; exact hs206
  have hl208 : ln s270 (sN s199) = 15 := by rw [e271]; exact hl208
  have hs216 : sh s270 (sN s209) = 101 := by rw [e271]; exact hs216
  have hl218 : ln s270 (sN s209) = 3 := by rw [e271]; exact hl218
  have hs226 : sh s270 (sN s219) = 102 := by rw [e271]; exact hs226
  have hl228 : ln s270 (sN s219) = 3 := by rw [e271]; exact hl228
  have hs236 : sh s270 (sN s229) = 101 := by rw [e271]; exact hs236
  have hl238 : ln s270 (sN s229) = 3 := by rw [e271]; exact hl238
  have hs246 : sh s270 (sN s239) = 102 := by rw [e271]; exact hs246
  have hl248 : ln s270 (sN s239) = 3 := by rw [e271]; exact hl248
  have hs253 : sh s270 r251 = 101 := by rw [e271]; exact hs253
  have hs260 : sh s270 r258 = 101 := by rw [e271]; exact hs260
  have hs267 : sh s270 r265 = 101 := by rw [e271]; exact hs267
  refine X_aload_n C dX4_init_220 rfl 0 rfl (isRV_r _) ?_
  refine X_get (ci := 4) (j := 1) (q := (RX4, TX4, 54)) C rfl (by decide) q1767 rfl dX4_init_221 hs_a0 (v := rv θ (sR s270 a0 1)) rfl ?_
  obtain ⟨r272, q273, hb275, hs274, h⟩ := h
  rw [q273]
  refine X_tor ?_
  refine X_iconst (v := 3) C dX4_init_224 rfl ?_
  refine X_iconst (v := 2) C dX4_init_225 rfl ?_
  have g276 := h.1
  have h := h.2
  refine X_iastD C hb275 hs274 rfl g276 rfl dX4_init_226 ?_
  refine X_nm (fun s277 e278 => ?_)
  have h := h s277 e278
  have hs_a0 : sh s277 a0 = 5 := by rw [e278]; exact hs_a0
  have hs6 : sh s277 (sN st) = 101 := by rw [e278]; exact hs6
  have hl8 : ln s277 (sN st) = 9 := by rw [e278]; exact hl8
  have hs16 : sh s277 (sN s9) = 101 := by rw [e278]; exact hs16
  have hl18 : ln s277 (sN s9) = 97 := by rw [e278]; exact hl18
  have hs26 : sh s277 (sN s19) = 101 := by rw [e278]; exact hs26
  have hl28 : ln s277 (sN s19) = 97 := by rw [e278]; exact hl28
  have hs36 : sh s277 (sN s29) = 101 := by rw [e278]; exact hs36
  have hl38 : ln s277 (sN s29) = 97 := by rw [e278]; exact hl38
  have hs46 : sh s277 (sN s39) = 101 := by rw [e278]; exact hs46
  have hl48 : ln s277 (sN s39) = 3 := by rw [e278]; exact hl48
  have hs56 : sh s277 (sN s49) = 101 := by rw [e278]; exact hs56
  have hl58 : ln s277 (sN s49) = 300 := by rw [e278]; exact hl58
  have hs66 : sh s277 (sN s59) = 101 := by rw [e278]; exact hs66
  have hl68 : ln s277 (sN s59) = 200 := by rw [e278]; exact hl68
  have hs76 : sh s277 (sN s69) = 101 := by rw [e278]; exact hs76
  have hl78 : ln s277 (sN s69) = 600 := by rw [e278]; exact hl78
  have hs86 : sh s277 (sN s79) = 101 := by rw [e278]; exact hs86
  have hl88 : ln s277 (sN s79) = 600 := by rw [e278]; exact hl88
  have hs96 : sh s277 (sN s89) = 102 := by rw [e278]; exact hs96
  have hl98 : ln s277 (sN s89) = 300 := by rw [e278]; exact hl98
  have hs106 : sh s277 (sN s99) = 101 := by rw [e278]; exact hs106
  have hl108 : ln s277 (sN s99) = 5 := by rw [e278]; exact hl108
  have hs116 : sh s277 (sN s109) = 101 := by rw [e278]; exact hs116
  have hl118 : ln s277 (sN s109) = 5 := by rw [e278]; exact hl118
  have hs126 : sh s277 (sN s119) = 102 := by rw [e278]; exact hs126
  have hl128 : ln s277 (sN s119) = 81 := by rw [e278]; exact hl128
  have hs136 : sh s277 (sN s129) = 101 := by rw [e278]; exact hs136
  have hl138 : ln s277 (sN s129) = 3 := by rw [e278]; exact hl138
  have hs146 : sh s277 (sN s139) = 101 := by rw [e278]; exact hs146
  have hl148 : ln s277 (sN s139) = 3 := by rw [e278]; exact hl148
  have hs156 : sh s277 (sN s149) = 102 := by rw [e278]; exact hs156
  have hl158 : ln s277 (sN s149) = 27 := by rw [e278]; exact hl158
  have hs166 : sh s277 (sN s159) = 102 := by rw [e278]; exact hs166
  have hl168 : ln s277 (sN s159) = 3 := by rw [e278]; exact hl168
  have hs176 : sh s277 (sN s169) = 102 := by rw [e278]; exact hs176
  have hl178 : ln s277 (sN s169) = 16 := by rw [e278]; exact hl178
  have hs186 : sh s277 (sN s179) = 102 := by rw [e278]; exact hs186
  have hl188 : ln s277 (sN s179) = 15 := by rw [e278]; exact hl188
  have hs196 : sh s277 (sN s189) = 102 := by rw [e278]; exact hs196
  have hl198 : ln s277 (sN s189) = 15 := by rw [e278]; exact hl198
  have hs206 : sh s277 (sN s199) = 104 := by rw [e278]; exact hs206
  have hl208 : ln s277 (sN s199) = 15 := by rw [e278]; exact hl208
  have hs216 : sh s277 (sN s209) = 101 := by rw [e278]; exact hs216
  have hl218 : ln s277 (sN s209) = 3 := by rw [e278]; exact hl218
  have hs226 : sh s277 (sN s219) = 102 := by rw [e278]; exact hs226
  have hl228 : ln s277 (sN s219) = 3 := by rw [e278]; exact hl228
  have hs236 : sh s277 (sN s229) = 101 := by rw [e278]; exact hs236
  have hl238 : ln s277 (sN s229) = 3 := by rw [e278]; exact hl238
  have hs246 : sh s277 (sN s239) = 102 := by rw [e278]; exact hs246
  have hl248 : ln s277 (sN s239) = 3 := by rw [e278]; exact hl248
  have hs253 : sh s277 r251 = 101 := by rw [e278]; exact hs253
  have hs260 : sh s277 r258 = 101 := by rw [e278]; exact hs260
  have hs267 : sh s277 r265 = 101 := by rw [e278]; exact hs267
  have hs274 : sh s277 r272 = 101 := by rw [e278]; exact hs274
  refine X_aload_n C dX4_init_227 rfl 0 rfl (isRV_r _) ?_
  refine X_get (ci := 4) (j := 1) (q := (RX4, TX4, 54)) C rfl (by decide) q1767 rfl dX4_init_228 hs_a0 (v := rv θ (sR s277 a0 1)) rfl ?_
  obtain ⟨r279, q280, hb282, hs281, h⟩ := h
  rw [q280]
  refine X_tor ?_
  refine X_bipush (v := 96) C dX4_init_231 rfl ?_
  refine X_iconst (v := 1) C dX4_init_233 rfl ?_
  have g283 := h.1
  have h := h.2
  refine X_iastD C hb282 hs281 rfl g283 rfl dX4_init_234 ?_
  refine X_nm (fun s284 e285 => ?_)
  have h := h s284 e285
  have hs_a0 : sh s284 a0 = 5 := by rw [e285]; exact hs_a0
  have hs6 : sh s284 (sN st) = 101 := by rw [e285]; exact hs6
  have hl8 : ln s284 (sN st) = 9 := by rw [e285]; exact hl8
  have hs16 : sh s284 (sN s9) = 101 := by rw [e285]; exact hs16
  have hl18 : ln s284 (sN s9) = 97 := by rw [e285]; exact hl18
  have hs26 : sh s284 (sN s19) = 101 := by rw [e285]; exact hs26
  have hl28 : ln s284 (sN s19) = 97 := by rw [e285]; exact hl28
  have hs36 : sh s284 (sN s29) = 101 := by rw [e285]; exact hs36
  have hl38 : ln s284 (sN s29) = 97 := by rw [e285]; exact hl38
  have hs46 : sh s284 (sN s39) = 101 := by rw [e285]; exact hs46
  have hl48 : ln s284 (sN s39) = 3 := by rw [e285]; exact hl48
  have hs56 : sh s284 (sN s49) = 101 := by rw [e285]; exact hs56
  have hl58 : ln s284 (sN s49) = 300 := by rw [e285]; exact hl58
  have hs66 : sh s284 (sN s59) = 101 := by rw [e285]; exact hs66
  have hl68 : ln s284 (sN s59) = 200 := by rw [e285]; exact hl68
  have hs76 : sh s284 (sN s69) = 101 := by rw [e285]; exact hs76
  have hl78 : ln s284 (sN s69) = 600 := by rw [e285]; exact hl78
  have hs86 : sh s284 (sN s79) = 101 := by rw [e285]; exact hs86
  have hl88 : ln s284 (sN s79) = 600 := by rw [e285]; exact hl88
  have hs96 : sh s284 (sN s89) = 102 := by rw [e285]; exact hs96
  have hl98 : ln s284 (sN s89) = 300 := by rw [e285]; exact hl98
  have hs106 : sh s284 (sN s99) = 101 := by rw [e285]; exact hs106
  have hl108 : ln s284 (sN s99) = 5 := by rw [e285]; exact hl108
  have hs116 : sh s284 (sN s109) = 101 := by rw [e285]; exact hs116
  have hl118 : ln s284 (sN s109) = 5 := by rw [e285]; exact hl118
  have hs126 : sh s284 (sN s119) = 102 := by rw [e285]; exact hs126
  have hl128 : ln s284 (sN s119) = 81 := by rw [e285]; exact hl128
  have hs136 : sh s284 (sN s129) = 101 := by rw [e285]; exact hs136
  have hl138 : ln s284 (sN s129) = 3 := by rw [e285]; exact hl138
  have hs146 : sh s284 (sN s139) = 101 := by rw [e285]; exact hs146
  have hl148 : ln s284 (sN s139) = 3 := by rw [e285]; exact hl148
  have hs156 : sh s284 (sN s149) = 102 := by rw [e285]; exact hs156
  have hl158 : ln s284 (sN s149) = 27 := by rw [e285]; exact hl158
  have hs166 : sh s284 (sN s159) = 102 := by rw [e285]; exact hs166
  have hl168 : ln s284 (sN s159) = 3 := by rw [e285]; exact hl168
  have hs176 : sh s284 (sN s169) = 102 := by rw [e285]; exact hs176
  have hl178 : ln s284 (sN s169) = 16 := by rw [e285]; exact hl178
  have hs186 : sh s284 (sN s179) = 102 := by rw [e285]; exact hs186
  have hl188 : ln s284 (sN s179) = 15 := by rw [e285]; exact hl188
  have hs196 : sh s284 (sN s189) = 102 := by rw [e285]; exact hs196
  have hl198 : ln s284 (sN s189) = 15 := by rw [e285]; exact hl198
  have hs206 : sh s284 (sN s199) = 104 := by rw [e285]; exact hs206
  have hl208 : ln s284 (sN s199) = 15 := by rw [e285]; exact hl208
  have hs216 : sh s284 (sN s209) = 101 := by rw [e285]; exact hs216
  have hl218 : ln s284 (sN s209) = 3 := by rw [e285]; exact hl218
  have hs226 : sh s284 (sN s219) = 102 := by rw [e285]; exact hs226
  have hl228 : ln s284 (sN s219) = 3 := by rw [e285]; exact hl228
  have hs236 : sh s284 (sN s229) = 101 := by rw [e285]; exact hs236
  have hl238 : ln s284 (sN s229) = 3 := by rw [e285]; exact hl238
  have hs246 : sh s284 (sN s239) = 102 := by rw [e285]; exact hs246
  have hl248 : ln s284 (sN s239) = 3 := by rw [e285]; exact hl248
  have hs253 : sh s284 r251 = 101 := by rw [e285]; exact hs253
  have hs260 : sh s284 r258 = 101 := by rw [e285]; exact hs260
  have hs267 : sh s284 r265 = 101 := by rw [e285]; exact hs267
  have hs274 : sh s284 r272 = 101 := by rw [e285]; exact hs274
  have hs281 : sh s284 r279 = 101 := by rw [e285]; exact hs281
  exact X_vret C rfl dX4_init_235 (hn s284 h)
