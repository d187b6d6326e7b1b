set_option maxRecDepth 100000
def w_X0_hullOf_b83 (Φ : St → Nat → Prop) (Φa : St → Prop) (E93 : St → Int32 → Int32 → Prop) (K24 : St → Int32 → Int32 → Int32 → Prop) (st : St) (x1 : Int32) (x2 : Int32) : Prop := w_X0_nextPoints st x2 (fun (s26 : St) (r25 : Int32) => ((r25 ≠ 0) → K24 s26 x1 x2 r25) ∧ ((r25 = 0) → E93 s26 x1 x2))
theorem t_X0_hullOf_b83 {θ : Th} {κ : Kx} {Ph : Ph} (hX : LX θ) {d : Nat} (hd : 5 ≤ d) (C : Cx θ κ yX0_hullOf cX0_hullOf 5 (some (Jvm.ClassFile.FieldType.object "SecretsWorth$Ratio")) [] d) {Φ : St → Nat → Prop} {Φa : St → Prop} (hn : ∀ st r, r < gBIG → sh st r = 3 → Φ st r → Ph.1 st (some (.ref (ad θ r)))) (ha : ∀ st q, Φa st → Ph.2 st "java/lang/ArithmeticException" q) {E93 : St → Int32 → Int32 → Prop} {K24 : St → Int32 → Int32 → Int32 → Prop} (hE93 : ∀ (st : St) (x1 : Int32) (x2 : Int32), E93 st x1 x2 → X θ κ Ph st 93 [(0, .ref (ad θ 0)), (1, .int x1), (2, .int x2)] []) (hK24 : ∀ (st : St) (x1 : Int32) (x2 : Int32) (x3 : Int32), K24 st x1 x2 x3 → X θ κ Ph st 24 [(0, .ref (ad θ 0)), (1, .int x1), (2, .int x2), (3, .int x3)] []) (st : St) (x1 : Int32) (x2 : Int32) (h : w_X0_hullOf_b83 Φ Φa E93 K24 st x1 x2) : X θ κ Ph st 83 [(0, .ref (ad θ 0)), (1, .int x1), (2, .int x2)] [] := by
  unfold w_X0_hullOf_b83 at h
  refine X_aload_n C dX0_hullOf_83 rfl 0 rfl (isRV_r _) ?_
  refine X_iload_n C dX0_hullOf_84 rfl 2 rfl ?_
  refine X_callVS (ci := 0) (q := (RX0, TX0, 49)) (As := [_]) (rest := []) C rfl (LX_S hX (k := 0) rfl) q852 q854 qs28 q132 q855 ⟨rfl, nm_X0_nextPoints⟩ rfl dX0_hullOf_85 (m_X0_nextPoints (Cx_l C) hX (d := d - 1) (by omega) st x2 h) (by omega) (by decide) (Nat.le_of_ble_eq_true rfl) (fun s26 w27 hE28 hP29 => ?_) (fun s32 E30 q31 hE28 hP29 => ?_)
  rotate_left
  · exact False.elim hP29
  obtain ⟨r25, rfl, h⟩ := hP29
  refine X_tls ?_
  refine X_istore_n C dX0_hullOf_88 rfl (lo2 := [(3, _), (0, _), (1, _), (2, _)]) (by decide) rfl ?_
  refine X_iload_n C dX0_hullOf_89 rfl 0 rfl ?_
  refine X_if_ne (tgt := 24) C dX0_hullOf_90 (by decide) (fun c33 => ?_) (fun c33 => ?_)
  · have h := h.1 c33
    refine X_sub [1, 2, 3, 0] (lo2 := [(0, _), (1, _), (2, _), (3, _)]) rfl ?_
    exact hK24 s26 x1 x2 r25 h
  · have h := h.2 c33
    refine X_sub [1, 2, 3] (lo2 := [(0, _), (1, _), (2, _)]) rfl ?_
    exact hE93 s26 x1 x2 h
def w_X0_hullOf_b78 (Φ : St → Nat → Prop) (Φa : St → Prop) (E93 : St → Int32 → Int32 → Prop) (K24 : St → Int32 → Int32 → Int32 → Prop) (st : St) (x1 : Int32) (x2 : Int32) : Prop := w_X0_keepsBest st x2 (fun (s49 : St) => w_X0_hullOf_b83 Φ Φa E93 K24 s49 x1 x2)
theorem t_X0_hullOf_b78 {θ : Th} {κ : Kx} {Ph : Ph} (hX : LX θ) {d : Nat} (hd : 5 ≤ d) (C : Cx θ κ yX0_hullOf cX0_hullOf 5 (some (Jvm.ClassFile.FieldType.object "SecretsWorth$Ratio")) [] d) {Φ : St → Nat → Prop} {Φa : St → Prop} (hn : ∀ st r, r < gBIG → sh st r = 3 → Φ st r → Ph.1 st (some (.ref (ad θ r)))) (ha : ∀ st q, Φa st → Ph.2 st "java/lang/ArithmeticException" q) {E93 : St → Int32 → Int32 → Prop} {K24 : St → Int32 → Int32 → Int32 → Prop} (hE93 : ∀ (st : St) (x1 : Int32) (x2 : Int32), E93 st x1 x2 → X θ κ Ph st 93 [(0, .ref (ad θ 0)), (1, .int x1), (2, .int x2)] []) (hK24 : ∀ (st : St) (x1 : Int32) (x2 : Int32) (x3 : Int32), K24 st x1 x2 x3 → X θ κ Ph st 24 [(0, .ref (ad θ 0)), (1, .int x1), (2, .int x2), (3, .int x3)] []) (st : St) (x1 : Int32) (x2 : Int32) (h : w_X0_hullOf_b78 Φ Φa E93 K24 st x1 x2) : X θ κ Ph st 78 [(0, .ref (ad θ 0)), (1, .int x1), (2, .int x2)] [] := by
  unfold w_X0_hullOf_b78 at h
  refine X_aload_n C dX0_hullOf_78 rfl 0 rfl (isRV_r _) ?_
  refine X_iload_n C dX0_hullOf_79 rfl 2 rfl ?_
  refine X_callVS (ci := 0) (q := (RX0, TX0, 49)) (As := [_]) (rest := []) C rfl (LX_S hX (k := 0) rfl) q848 q850 qs27 q132 q851 ⟨rfl, nm_X0_keepsBest⟩ rfl dX0_hullOf_80 (m_X0_keepsBest (Cx_l C) hX (d := d - 1) (by omega) st x2 h) (by omega) (by decide) (Nat.le_of_ble_eq_true rfl) (fun s49 w50 hE51 hP52 => ?_) (fun s55 E53 q54 hE51 hP52 => ?_)
  rotate_left
  · exact False.elim hP52
  obtain ⟨rfl, h⟩ := hP52
  refine X_tln ?_
  exact t_X0_hullOf_b83 hX hd C hn ha hE93 hK24 s49 x1 x2 h
def w_X0_hullOf_l24 (Φ : St → Nat → Prop) (Φa : St → Prop) (E93 : St → Int32 → Int32 → Prop) (E96 : St → Int32 → Int32 → Prop) : Nat → St → Int32 → Int32 → Int32 → Prop
  | 0, _, _, _, _ => False
  | n + 1, st, x1, x2, x3 => ((x3 = 0) → E96 st x1 x2) ∧ ((¬ x3 = 0) → w_X0_splits st x1 136 x2 (fun (s17 : St) (r16 : Int32) => ((r16 = 0) → w_X0_hullOf_b83 Φ Φa E93 (w_X0_hullOf_l24 Φ Φa E93 E96 n) s17 x1 x2) ∧ ((¬ r16 = 0) → w_X0_mixes s17 136 x2 (fun (s38 : St) (r37 : Nat) => (((sI s38 0 23) = 0) → w_X0_hullOf_b78 Φ Φa E93 (w_X0_hullOf_l24 Φ Φa E93 E96 n) s38 x1 x2) ∧ ((¬ (sI s38 0 23) = 0) → w_X2_less s38 143 r37 140 (fun (s61 : St) (r60 : Nat) => w_X2_isAbove s61 r60 (fun (r70 : Int32) => ((r70 = 0) → w_X0_hullOf_b83 Φ Φa E93 (w_X0_hullOf_l24 Φ Φa E93 E96 n) s61 x1 x2) ∧ ((¬ r70 = 0) → w_X0_hullOf_b78 Φ Φa E93 (w_X0_hullOf_l24 Φ Φa E93 E96 n) s61 x1 x2))) Φa)) Φa)) Φa)
theorem t_X0_hullOf_l24 {θ : Th} {κ : Kx} {Ph : Ph} (hX : LX θ) {d : Nat} (hd : 5 ≤ d) (C : Cx θ κ yX0_hullOf cX0_hullOf 5 (some (Jvm.ClassFile.FieldType.object "SecretsWorth$Ratio")) [] d) {Φ : St → Nat → Prop} {Φa : St → Prop} (hn : ∀ st r, r < gBIG → sh st r = 3 → Φ st r → Ph.1 st (some (.ref (ad θ r)))) (ha : ∀ st q, Φa st → Ph.2 st "java/lang/ArithmeticException" q) {E93 : St → Int32 → Int32 → Prop} {E96 : St → Int32 → Int32 → Prop} (hE93 : ∀ (st : St) (x1 : Int32) (x2 : Int32), E93 st x1 x2 → X θ κ Ph st 93 [(0, .ref (ad θ 0)), (1, .int x1), (2, .int x2)] []) (hE96 : ∀ (st : St) (x1 : Int32) (x2 : Int32), E96 st x1 x2 → X θ κ Ph st 96 [(0, .ref (ad θ 0)), (1, .int x1), (2, .int x2)] []) : ∀ (n : Nat) (st : St) (x1 : Int32) (x2 : Int32) (x3 : Int32), w_X0_hullOf_l24 Φ Φa E93 E96 n st x1 x2 x3 → X θ κ Ph st 24 [(0, .ref (ad θ 0)), (1, .int x1), (2, .int x2), (3, .int x3)] [] := by
  intro n
  induction n with
  | zero => intro st x1 x2 x3 h; exact h.elim
  | succ n hK24 =>
    intro st x1 x2 x3 h
    rw [w_X0_hullOf_l24] at h
    refine X_iload_n C dX0_hullOf_24 rfl 3 rfl ?_
    refine X_if_eq (tgt := 96) C dX0_hullOf_25 (by decide) (fun c12 => ?_) (fun c12 => ?_)
    · have h := h.1 c12
      refine X_sub [0, 1, 2] (lo2 := [(0, _), (1, _), (2, _)]) rfl ?_
      exact hE96 st x1 x2 h
    · have h := h.2 c12
      refine X_aload_n C dX0_hullOf_28 rfl 0 rfl (isRV_r _) ?_
      refine X_iload_n C dX0_hullOf_29 rfl 1 rfl ?_
      refine X_aload_n C dX0_hullOf_30 rfl 0 rfl (isRV_r _) ?_
      refine X_getF (ci := 0) (j := 21) (q := (RX0, TX0, 49)) C rfl (by decide) q281 rfl dX0_hullOf_31 (b := 136) (LX_S hX (k := 0) rfl) (LX_F hX (k := 0) (j := 21) rfl) rfl ?_
      refine X_iload_n C dX0_hullOf_34 rfl 2 rfl ?_
      refine X_shl (LX_S hX (k := 136) rfl) (by decide) (LX_L hX (k := 136) rfl) (fun hs13 hl15 hb14 => ?_)
      refine X_callVS (ci := 0) (q := (RX0, TX0, 49)) (As := [_, _, _]) (rest := []) C rfl (LX_S hX (k := 0) rfl) q767 q769 qs17 q132 q770 ⟨rfl, nm_X0_splits⟩ rfl dX0_hullOf_35 (m_X0_splits (Cx_l C) hX (d := d - 1) (by omega) st x1 136 x2 hs13 hb14 hl15 h) (by omega) (by decide) (Nat.le_of_ble_eq_true rfl) (fun s17 w18 hE19 hP20 => ?_) (fun s23 E21 q22 hE19 hP20 => ?_)
      rotate_left
      · rcases hP20 with ⟨rfl, h⟩
        exact XT_out C rfl (ha s23 q22 h)
      obtain ⟨r16, rfl, h⟩ := hP20
      refine X_tls ?_
      refine X_if_eq (tgt := 83) C dX0_hullOf_38 (by decide) (fun c24 => ?_) (fun c24 => ?_)
      · have h := h.1 c24
        refine X_sub [0, 1, 2] (lo2 := [(0, _), (1, _), (2, _)]) rfl ?_
        exact t_X0_hullOf_b83 hX hd C hn ha hE93 hK24 s17 x1 x2 h
      · have h := h.2 c24
        refine X_aload_n C dX0_hullOf_41 rfl 0 rfl (isRV_r _) ?_
        refine X_aload_n C dX0_hullOf_42 rfl 0 rfl (isRV_r _) ?_
        refine X_getF (ci := 0) (j := 21) (q := (RX0, TX0, 49)) C rfl (by decide) q281 rfl dX0_hullOf_43 (b := 136) (LX_S hX (k := 0) rfl) (LX_F hX (k := 0) (j := 21) rfl) rfl ?_
        refine X_iload_n C dX0_hullOf_46 rfl 2 rfl ?_
        refine X_shl (LX_S hX (k := 136) rfl) (by decide) (LX_L hX (k := 136) rfl) (fun hs34 hl36 hb35 => ?_)
        refine X_callVS (ci := 0) (q := (RX0, TX0, 49)) (As := [_, _]) (rest := []) C rfl (LX_S hX (k := 0) rfl) q794 q796 qs22 q132 q797 ⟨rfl, nm_X0_mixes⟩ rfl dX0_hullOf_47 (m_X0_mixes (Cx_l C) hX (d := d - 1) (by omega) s17 136 x2 hs34 hb35 hl36 h) (by omega) (by decide) (Nat.le_of_ble_eq_true rfl) (fun s38 w39 hE40 hP41 => ?_) (fun s44 E42 q43 hE40 hP41 => ?_)
        rotate_left
        · rcases hP41 with ⟨rfl, h⟩
          exact XT_out C rfl (ha s44 q43 h)
        obtain ⟨r37, rfl, hb45, hs46, h⟩ := hP41
        refine X_tls ?_
        refine X_astore C dX0_hullOf_50 (isRV_r _) (lo2 := [(4, _), (0, _), (1, _), (2, _), (3, _)]) (by decide) rfl ?_
        refine X_aload_n C dX0_hullOf_52 rfl 1 rfl (isRV_r _) ?_
        refine X_getS (ci := 0) (j := 23) (q := (RX0, TX0, 49)) C rfl (by decide) q283 rfl dX0_hullOf_53 (LX_S hX (k := 0) rfl) (v := .int (sI s38 0 23)) rfl ?_
        refine X_if_eq (tgt := 78) C dX0_hullOf_56 (by decide) (fun c47 => ?_) (fun c47 => ?_)
        · have h := h.1 c47
          refine X_sub [1, 2, 3] (lo2 := [(0, _), (1, _), (2, _)]) rfl ?_
          exact t_X0_hullOf_b78 hX hd C hn ha hE93 hK24 s38 x1 x2 h
        · have h := h.2 c47
          refine X_aload_n C dX0_hullOf_59 rfl 1 rfl (isRV_r _) ?_
          refine X_getF (ci := 0) (j := 29) (q := (RX0, TX0, 49)) C rfl (by decide) q289 rfl dX0_hullOf_60 (b := 143) (LX_S hX (k := 0) rfl) (LX_F hX (k := 0) (j := 29) rfl) rfl ?_
          refine X_aload C dX0_hullOf_63 0 rfl (isRV_r _) ?_
          refine X_aload_n C dX0_hullOf_65 rfl 1 rfl (isRV_r _) ?_
          refine X_getF (ci := 0) (j := 26) (q := (RX0, TX0, 49)) C rfl (by decide) q286 rfl dX0_hullOf_66 (b := 140) (LX_S hX (k := 0) rfl) (LX_F hX (k := 0) (j := 26) rfl) rfl ?_
          refine X_sh (LX_S hX (k := 143) rfl) (by decide) (fun hs56 hb57 => ?_)
          refine X_sh (LX_S hX (k := 140) rfl) (by decide) (fun hs58 hb59 => ?_)
          refine X_callV (ci := 2) (q := (RX2, TX2, 2)) (As := [_, _]) (rest := []) C rfl hs56 q841 q842 q843 q134 q844 ⟨rfl, nm_X2_less⟩ rfl dX0_hullOf_69 (m_X2_less (Cx_l C) (d := d - 1) (by omega) s38 143 r37 140 hs56 hb57 hs46 hb45 hs58 hb59 h) (by omega) (by decide) (Nat.le_of_ble_eq_true rfl) (fun s61 w62 hE63 hP64 => ?_) (fun s67 E65 q66 hE63 hP64 => ?_)
          rotate_left
          · rcases hP64 with ⟨rfl, h⟩
            exact XT_out C rfl (ha s67 q66 h)
          obtain ⟨r60, rfl, hb68, hs69, h⟩ := hP64
          refine X_tls ?_
          have hs46 := Ext_sh hE63 hs46 (by decide)
          refine X_callV (ci := 2) (q := (RX2, TX2, 2)) (As := []) (rest := []) C rfl hs69 q786 q787 q788 q134 q789 ⟨rfl, nm_X2_isAbove⟩ rfl dX0_hullOf_72 (m_X2_isAbove (Cx_l C) (d := d - 1) (by omega) s61 r60 hs69 hb68 h) (by omega) (by decide) (Nat.le_of_ble_eq_true rfl) (fun s76 w71 hE72 hP73 => ?_) (fun s77 E74 q75 hE72 hP73 => ?_)
          rotate_left
          · exact False.elim hP73
          obtain ⟨r70, rfl, rfl, h⟩ := hP73
          refine X_tls ?_
          refine X_if_eq (tgt := 83) C dX0_hullOf_75 (by decide) (fun c78 => ?_) (fun c78 => ?_)
          · have h := h.1 c78
            refine X_sub [1, 2, 3] (lo2 := [(0, _), (1, _), (2, _)]) rfl ?_
            exact t_X0_hullOf_b83 hX hd C hn ha hE93 hK24 s61 x1 x2 h
          · have h := h.2 c78
            refine X_sub [1, 2, 3] (lo2 := [(0, _), (1, _), (2, _)]) rfl ?_
            exact t_X0_hullOf_b78 hX hd C hn ha hE93 hK24 s61 x1 x2 h
def w_X0_hullOf_b96 (Φ : St → Nat → Prop) (Φa : St → Prop) (K7 : St → Int32 → Int32 → Prop) (st : St) (x1 : Int32) (x2 : Int32) : Prop := K7 st x1 (x2 + 1)
theorem t_X0_hullOf_b96 {θ : Th} {κ : Kx} {Ph : Ph} (hX : LX θ) {d : Nat} (hd : 5 ≤ d) (C : Cx θ κ yX0_hullOf cX0_hullOf 5 (some (Jvm.ClassFile.FieldType.object "SecretsWorth$Ratio")) [] d) {Φ : St → Nat → Prop} {Φa : St → Prop} (hn : ∀ st r, r < gBIG → sh st r = 3 → Φ st r → Ph.1 st (some (.ref (ad θ r)))) (ha : ∀ st q, Φa st → Ph.2 st "java/lang/ArithmeticException" q) {K7 : St → Int32 → Int32 → Prop} (hK7 : ∀ (st : St) (x1 : Int32) (x2 : Int32), K7 st x1 x2 → X θ κ Ph st 7 [(0, .ref (ad θ 0)), (1, .int x1), (2, .int x2)] []) (st : St) (x1 : Int32) (x2 : Int32) (h : w_X0_hullOf_b96 Φ Φa K7 st x1 x2) : X θ κ Ph st 96 [(0, .ref (ad θ 0)), (1, .int x1), (2, .int x2)] [] := by
  unfold w_X0_hullOf_b96 at h
  refine X_iinc (v := (x2 + 1)) C (j := 2) dX0_hullOf_96 rfl rfl (lo2 := [(2, _), (0, _), (1, _)]) (by decide) rfl ?_
  refine X_goto (tgt := 7) C dX0_hullOf_99 (by decide) ?_
  refine X_sub [1, 2, 0] (lo2 := [(0, _), (1, _), (2, _)]) rfl ?_
  exact hK7 st x1 (x2 + 1) h
def w_X0_hullOf_b93 (Φ : St → Nat → Prop) (Φa : St → Prop) (K7 : St → Int32 → Int32 → Prop) (st : St) (x1 : Int32) (x2 : Int32) : Prop := w_X0_hullOf_b96 Φ Φa K7 st x1 x2
theorem t_X0_hullOf_b93 {θ : Th} {κ : Kx} {Ph : Ph} (hX : LX θ) {d : Nat} (hd : 5 ≤ d) (C : Cx θ κ yX0_hullOf cX0_hullOf 5 (some (Jvm.ClassFile.FieldType.object "SecretsWorth$Ratio")) [] d) {Φ : St → Nat → Prop} {Φa : St → Prop} (hn : ∀ st r, r < gBIG → sh st r = 3 → Φ st r → Ph.1 st (some (.ref (ad θ r)))) (ha : ∀ st q, Φa st → Ph.2 st "java/lang/ArithmeticException" q) {K7 : St → Int32 → Int32 → Prop} (hK7 : ∀ (st : St) (x1 : Int32) (x2 : Int32), K7 st x1 x2 → X θ κ Ph st 7 [(0, .ref (ad θ 0)), (1, .int x1), (2, .int x2)] []) (st : St) (x1 : Int32) (x2 : Int32) (h : w_X0_hullOf_b93 Φ Φa K7 st x1 x2) : X θ κ Ph st 93 [(0, .ref (ad θ 0)), (1, .int x1), (2, .int x2)] [] := by
  unfold w_X0_hullOf_b93 at h
  refine X_goto (tgt := 96) C dX0_hullOf_93 (by decide) ?_
  exact t_X0_hullOf_b96 hX hd C hn ha hK7 st x1 x2 h
def w_X0_hullOf_l7 (Φ : St → Nat → Prop) (Φa : St → Prop) (E102 : St → Prop) : Nat → St → Int32 → Int32 → Prop
  | 0, _, _, _ => False
  | n + 1, st, x1, x2 => (((sI st 2 0) < x2) → E102 st) ∧ ((¬ (sI st 2 0) < x2) → w_X0_firstSet st x2 (fun (s5 : St) (r4 : Int32) => w_X0_hullOf_l24 Φ Φa (fun (s79 : St) (x1 : Int32) (x2 : Int32) => w_X0_hullOf_b93 Φ Φa (w_X0_hullOf_l7 Φ Φa E102 n) s79 x1 x2) (fun (s80 : St) (x1 : Int32) (x2 : Int32) => w_X0_hullOf_b96 Φ Φa (w_X0_hullOf_l7 Φ Φa E102 n) s80 x1 x2) gFU s5 x1 x2 r4))
theorem t_X0_hullOf_l7 {θ : Th} {κ : Kx} {Ph : Ph} (hX : LX θ) {d : Nat} (hd : 5 ≤ d) (C : Cx θ κ yX0_hullOf cX0_hullOf 5 (some (Jvm.ClassFile.FieldType.object "SecretsWorth$Ratio")) [] d) {Φ : St → Nat → Prop} {Φa : St → Prop} (hn : ∀ st r, r < gBIG → sh st r = 3 → Φ st r → Ph.1 st (some (.ref (ad θ r)))) (ha : ∀ st q, Φa st → Ph.2 st "java/lang/ArithmeticException" q) {E102 : St → Prop} (hE102 : ∀ (st : St), E102 st → X θ κ Ph st 102 [(0, .ref (ad θ 0))] []) : ∀ (n : Nat) (st : St) (x1 : Int32) (x2 : Int32), w_X0_hullOf_l7 Φ Φa E102 n st x1 x2 → X θ κ Ph st 7 [(0, .ref (ad θ 0)), (1, .int x1), (2, .int x2)] [] := by
  intro n
  induction n with
  | zero => intro st x1 x2 h; exact h.elim
  | succ n hK7 =>
    intro st x1 x2 h
    rw [w_X0_hullOf_l7] at h
    refine X_iload_n C dX0_hullOf_7 rfl 2 rfl ?_
    refine X_aload_n C dX0_hullOf_8 rfl 0 rfl (isRV_r _) ?_
    refine X_getF (ci := 0) (j := 1) (q := (RX0, TX0, 49)) C rfl (by decide) q261 rfl dX0_hullOf_9 (b := 2) (LX_S hX (k := 0) rfl) (LX_F hX (k := 0) (j := 1) rfl) rfl ?_
    refine X_getNS (ci := 1) (j := 0) (q := (RX1, TX1, 10)) C rfl (by decide) q189 rfl dX0_hullOf_12 (LH_0 (LX_H2 hX)) (v := .int (sI st 2 0)) rfl ?_
    refine X_icmp_gt (tgt := 102) C dX0_hullOf_15 (by decide) (fun c3 => ?_) (fun c3 => ?_)
    · have h := h.1 c3
      refine X_sub [0] (lo2 := [(0, _)]) rfl ?_
      exact hE102 st h
    · have h := h.2 c3
      refine X_aload_n C dX0_hullOf_18 rfl 0 rfl (isRV_r _) ?_
      refine X_iload_n C dX0_hullOf_19 rfl 2 rfl ?_
      refine X_callVS (ci := 0) (q := (RX0, TX0, 49)) (As := [_]) (rest := []) C rfl (LX_S hX (k := 0) rfl) q837 q839 qs26 q132 q840 ⟨rfl, nm_X0_firstSet⟩ rfl dX0_hullOf_20 (m_X0_firstSet (Cx_l C) hX (d := d - 1) (by omega) st x2 h) (by omega) (by decide) (Nat.le_of_ble_eq_true rfl) (fun s5 w6 hE7 hP8 => ?_) (fun s11 E9 q10 hE7 hP8 => ?_)
      rotate_left
      · exact False.elim hP8
      obtain ⟨r4, rfl, h⟩ := hP8
      refine X_tls ?_
      refine X_istore_n C dX0_hullOf_23 rfl (lo2 := [(3, _), (0, _), (1, _), (2, _)]) (by decide) rfl ?_
      refine X_sub [1, 2, 3, 0] (lo2 := [(0, _), (1, _), (2, _), (3, _)]) rfl ?_
      refine t_X0_hullOf_l24 hX hd C hn ha ?_ ?_ gFU s5 x1 x2 r4 h
      · intro s79 x1 x2 h
        exact t_X0_hullOf_b93 hX hd C hn ha hK7 s79 x1 x2 h
      · intro s80 x1 x2 h
        exact t_X0_hullOf_b96 hX hd C hn ha hK7 s80 x1 x2 h
def w_X0_hullOf_b102 (Φ : St → Nat → Prop) (Φa : St → Prop) (st : St) : Prop := Φ st 140
theorem t_X0_hullOf_b102 {θ : Th} {κ : Kx} {Ph : Ph} (hX : LX θ) {d : Nat} (hd : 5 ≤ d) (C : Cx θ κ yX0_hullOf cX0_hullOf 5 (some (Jvm.ClassFile.FieldType.object "SecretsWorth$Ratio")) [] d) {Φ : St → Nat → Prop} {Φa : St → Prop} (hn : ∀ st r, r < gBIG → sh st r = 3 → Φ st r → Ph.1 st (some (.ref (ad θ r)))) (ha : ∀ st q, Φa st → Ph.2 st "java/lang/ArithmeticException" q) (st : St) (h : w_X0_hullOf_b102 Φ Φa st) : X θ κ Ph st 102 [(0, .ref (ad θ 0))] [] := by
  unfold w_X0_hullOf_b102 at h
  refine X_aload_n C dX0_hullOf_102 rfl 0 rfl (isRV_r _) ?_
  refine X_getF (ci := 0) (j := 26) (q := (RX0, TX0, 49)) C rfl (by decide) q286 rfl dX0_hullOf_103 (b := 140) (LX_S hX (k := 0) rfl) (LX_F hX (k := 0) (j := 26) rfl) rfl ?_
  refine X_sh (LX_S hX (k := 140) rfl) (by decide) (fun hs82 hb83 => ?_)
  exact X_aret C rfl (Or.inl ⟨_, rfl⟩) (isRV_r _) dX0_hullOf_106 (hn st _ hb83 hs82 h)
def w_X0_hullOf (st : St) (p1 : Int32) (Φ : St → Nat → Prop) (Φa : St → Prop) : Prop := ∀ s1, s1 = putI st 0 23 0 → w_X0_hullOf_l7 Φ Φa (fun (s81 : St) => w_X0_hullOf_b102 Φ Φa s81) gFU s1 p1 1
theorem nm_X0_hullOf : yX0_hullOf.cls ≠ "java/lang/invoke/MethodHandle" ∧ yX0_hullOf.cls ≠ "java/lang/invoke/VarHandle" ∧ (parseMethodDescriptor yX0_hullOf.desc).map (fun d => d.parameters.length) = some 1 := by decide +kernel
theorem e_X0_hullOf : plainFor yX0_hullOf = true := plainFor_of_name (by decide +kernel)
theorem m_X0_hullOf {θ : Th} {l : Launch} (hl0 : l.stackTraces = false) (hX : LX θ) {d : Nat} (hd : 5 ≤ d) (st : St) (p1 : Int32) {Φ : St → Nat → Prop} {Φa : St → Prop} (h : w_X0_hullOf st p1 Φ Φa) : Ct θ l yX0_hullOf (ws_ yX0_hullOf cX0_hullOf 5 (some (Jvm.ClassFile.FieldType.object "SecretsWorth$Ratio"))) d [.ref (ad θ 0), .int p1] st (pN θ 3 Φ, (exA Φa)) := by
  refine Ct_entry hl0 e_X0_hullOf (Nat.le_of_ble_eq_true rfl) (fun κ hκ _ C => ?_)
  have hn : ∀ st r, r < gBIG → sh st r = 3 → Φ st r → ((pN θ 3 Φ, (exA Φa)) : Ph).1 st (some (.ref (ad θ r))) := fun st r q1 q2 q => ⟨r, rfl, q1, q2, q⟩
  have ha : ∀ st q, Φa st → ((pN θ 3 Φ, (exA Φa)) : Ph).2 st "java/lang/ArithmeticException" q := fun st q2 q => ⟨rfl, q⟩
  change X _ _ _ _ _ [(0, .ref (ad θ 0)), (1, .int p1)] _
  unfold w_X0_hullOf at h
  refine X_aload_n C dX0_hullOf_0 rfl 0 rfl (isRV_r _) ?_
  refine X_iconst (v := 0) C dX0_hullOf_1 rfl ?_
  refine X_putSI (ci := 0) (j := 23) (q := (RX0, TX0, 49)) C rfl (by decide) q283 rfl rfl dX0_hullOf_2 (LX_S hX (k := 0) rfl) rfl rfl rfl ?_
  refine X_nm (fun s1 e2 => ?_)
  have h := h s1 e2
  refine X_iconst (v := 1) C dX0_hullOf_5 rfl ?_
  refine X_istore_n C dX0_hullOf_6 rfl (lo2 := [(2, _), (0, _), (1, _)]) (by decide) rfl ?_
  refine X_sub [1, 2, 0] (lo2 := [(0, _), (1, _), (2, _)]) rfl ?_
  refine t_X0_hullOf_l7 hX hd C hn ha ?_ gFU s1 p1 1 h
  · intro s81 h
    exact t_X0_hullOf_b102 hX hd C hn ha s81 h

def w_X0_hullNow (st : St) (p1 : Int32) (Φ : St → Nat → Prop) (Φw : St → Nat → Prop) (Φa : St → Prop) : Prop := w_X0_allWorths st (fun (s2 : St) => w_X0_hullOf s2 p1 (fun (s10 : St) (r9 : Nat) => Φ s10 r9) Φa) Φw Φa
theorem nm_X0_hullNow : yX0_hullNow.cls ≠ "java/lang/invoke/MethodHandle" ∧ yX0_hullNow.cls ≠ "java/lang/invoke/VarHandle" ∧ (parseMethodDescriptor yX0_hullNow.desc).map (fun d => d.parameters.length) = some 1 := by decide +kernel
theorem e_X0_hullNow : plainFor yX0_hullNow = true := plainFor_of_name (by decide +kernel)
theorem m_X0_hullNow {θ : Th} {l : Launch} (hl0 : l.stackTraces = false) (hX : LX θ) {d : Nat} (hd : 7 ≤ d) (st : St) (p1 : Int32) {Φ : St → Nat → Prop} {Φw : St → Nat → Prop} {Φa : St → Prop} (h : w_X0_hullNow st p1 Φ Φw Φa) : Ct θ l yX0_hullNow (ws_ yX0_hullNow cX0_hullNow 2 (some (Jvm.ClassFile.FieldType.object "SecretsWorth$Ratio"))) d [.ref (ad θ 0), .int p1] st (pN θ 3 Φ, (exOr (exW θ Φw) (exA Φa))) := by
  refine Ct_entry hl0 e_X0_hullNow (Nat.le_of_ble_eq_true rfl) (fun κ hκ _ C => ?_)
  have hn : ∀ st r, r < gBIG → sh st r = 3 → Φ st r → ((pN θ 3 Φ, (exOr (exW θ Φw) (exA Φa))) : Ph).1 st (some (.ref (ad θ r))) := fun st r q1 q2 q => ⟨r, rfl, q1, q2, q⟩
  have hw : ∀ st a, a < gBIG → sh st a = 6 → Φw st a → ((pN θ 3 Φ, (exOr (exW θ Φw) (exA Φa))) : Ph).2 st "SecretsWorth$Wrong" (ad θ a) := fun st a q1 q2 q => Or.inl ⟨rfl, a, rfl, q1, q2, q⟩
  have ha : ∀ st q, Φa st → ((pN θ 3 Φ, (exOr (exW θ Φw) (exA Φa))) : Ph).2 st "java/lang/ArithmeticException" q := fun st q2 q => Or.inr (⟨rfl, q⟩)
  change X _ _ _ _ _ [(0, .ref (ad θ 0)), (1, .int p1)] _
  unfold w_X0_hullNow at h
  refine X_aload_n C dX0_hullNow_0 rfl 0 rfl (isRV_r _) ?_
  refine X_callVS (ci := 0) (q := (RX0, TX0, 49)) (As := []) (rest := []) C rfl (LX_S hX (k := 0) rfl) q790 q792 qs21 q132 q793 ⟨rfl, nm_X0_allWorths⟩ rfl dX0_hullNow_1 (m_X0_allWorths (Cx_l C) hX (d := d - 1) (by omega) st h) (by omega) (by decide) (Nat.le_of_ble_eq_true rfl) (fun s2 w3 hE4 hP5 => ?_) (fun s8 E6 q7 hE4 hP5 => ?_)
  rotate_left
  · rcases hP5 with ⟨rfl, a_, rfl, hb_, hs_, h⟩ | ⟨rfl, h⟩
    · exact XT_out C rfl (hw s8 a_ hb_ hs_ h)
    · exact XT_out C rfl (ha s8 q7 h)
  obtain ⟨rfl, h⟩ := hP5
  refine X_tln ?_
  refine X_aload_n C dX0_hullNow_4 rfl 0 rfl (isRV_r _) ?_
  refine X_iload_n C dX0_hullNow_5 rfl 1 rfl ?_
  refine X_callVS (ci := 0) (q := (RX0, TX0, 49)) (As := [_]) (rest := []) C rfl (LX_S hX (k := 0) rfl) q833 q835 qs25 q132 q836 ⟨rfl, nm_X0_hullOf⟩ rfl dX0_hullNow_6 (m_X0_hullOf (Cx_l C) hX (d := d - 1) (by omega) s2 p1 h) (by omega) (by decide) (Nat.le_of_ble_eq_true rfl) (fun s10 w11 hE12 hP13 => ?_) (fun s16 E14 q15 hE12 hP13 => ?_)
  rotate_left
  · rcases hP13 with ⟨rfl, h⟩
    exact XT_out C rfl (ha s16 q15 h)
  obtain ⟨r9, rfl, hb17, hs18, h⟩ := hP13
  refine X_tls ?_
  exact X_aret C rfl (Or.inl ⟨_, rfl⟩) (isRV_r _) dX0_hullNow_9 (hn s10 _ hb17 hs18 h)

def w_X0_hull_b23 (Φ : St → Int64 → Prop) (st : St) (x1 : Int32) (x2 : Int32) (z0 : Int32) : Prop := w_X0_must st z0 (fun (s11 : St) => w_X0_hullNow s11 x1 (fun (s31 : St) (r30 : Nat) => w_X2_part s31 r30 x2 (fun (r61 : Int64) => Φ s31 r61)) (fun (s32 : St) (a33 : Nat) => w_X0_answersFar s32 a33 (fun (s37 : St) (r36 : Int64) => Φ s37 r36)) (fun (s44 : St) => w_X0_isFarBig s44 (fun (s46 : St) (r45 : Int64) => Φ s46 r45))) (fun (s12 : St) (a13 : Nat) => w_X0_answersFar s12 a13 (fun (s17 : St) (r16 : Int64) => Φ s17 r16))
theorem t_X0_hull_b23 {θ : Th} {κ : Kx} {Ph : Ph} (hX : LX θ) {d : Nat} (hd : 8 ≤ d) (C : Cx θ κ yX0_hull cX0_hull 4 (some Jvm.ClassFile.FieldType.long) [(0, 35, 36, 377), (0, 35, 42, 1)] d) {Φ : St → Int64 → Prop} (hn : ∀ st r, Φ st r → Ph.1 st (some (.long r))) (st : St) (x1 : Int32) (x2 : Int32) (z0 : Int32) (h : w_X0_hull_b23 Φ st x1 x2 z0) : X θ κ Ph st 23 [(0, .ref (ad θ 0)), (1, .int x1), (2, .int x2)] [.int z0] := by
  unfold w_X0_hull_b23 at h
  refine X_callS (As := [_]) (rest := []) C q418 q419 q132 q420 nm_X0_must rfl dX0_hull_23 (m_X0_must (Cx_l C) hX (d := d - 1) (by omega) st z0 h) (by omega) (by decide) (Nat.le_of_ble_eq_true rfl) (fun s11 w24 hE25 hP26 => ?_) (fun s29 E27 q28 hE25 hP26 => ?_)
  rotate_left
  · rcases hP26 with ⟨rfl, a_, rfl, hb_, hs_, h⟩
    refine XT_catch C [⟨0, 35, 36, 377⟩] ⟨0, 35, 42, 1⟩ [] rfl (List.forall_mem_cons.mpr ⟨Or.inr ⟨by decide, "java/lang/ArithmeticException", q762, by decide +kernel⟩, (fun _ h => absurd h List.not_mem_nil)⟩) (by decide) (by decide) q412 q425 ?_
    refine X_astore_n C dX0_hull_42 rfl (isRV_r _) (lo2 := [(3, _), (0, _), (1, _), (2, _)]) (by decide) rfl ?_
    refine X_aload_n C dX0_hull_43 rfl 1 rfl (isRV_r _) ?_
    refine X_aload_n C dX0_hull_44 rfl 0 rfl (isRV_r _) ?_
    refine X_callVS (ci := 0) (q := (RX0, TX0, 49)) (As := [_]) (rest := []) C rfl (LX_S hX (k := 0) rfl) q745 q747 qs14 q132 q748 ⟨rfl, nm_X0_answersFar⟩ rfl dX0_hull_45 (m_X0_answersFar (Cx_l C) hX (d := d - 1) (by omega) s29 a_ hs_ hb_ h) (by omega) (by decide) (Nat.le_of_ble_eq_true rfl) (fun s17 w18 hE19 hP20 => ?_) (fun s23 E21 q22 hE19 hP20 => ?_)
    rotate_left
    · exact False.elim hP20
    obtain ⟨r16, rfl, h⟩ := hP20
    refine X_tls ?_
    have hs_ := Ext_sh hE19 hs_ (by decide)
    exact X_lret C rfl dX0_hull_48 (hn s17 _ h)
  obtain ⟨rfl, h⟩ := hP26
  refine X_tln ?_
  refine X_aload_n C dX0_hull_26 rfl 0 rfl (isRV_r _) ?_
  refine X_iload_n C dX0_hull_27 rfl 1 rfl ?_
  refine X_callVS (ci := 0) (q := (RX0, TX0, 49)) (As := [_]) (rest := []) C rfl (LX_S hX (k := 0) rfl) q829 q831 qs24 q132 q832 ⟨rfl, nm_X0_hullNow⟩ rfl dX0_hull_28 (m_X0_hullNow (Cx_l C) hX (d := d - 1) (by omega) s11 x1 h) (by omega) (by decide) (Nat.le_of_ble_eq_true rfl) (fun s31 w53 hE54 hP55 => ?_) (fun s58 E56 q57 hE54 hP55 => ?_)
  rotate_left
  · rcases hP55 with ⟨rfl, a_, rfl, hb_, hs_, h⟩ | ⟨rfl, h⟩
    · refine XT_catch C [⟨0, 35, 36, 377⟩] ⟨0, 35, 42, 1⟩ [] rfl (List.forall_mem_cons.mpr ⟨Or.inr ⟨by decide, "java/lang/ArithmeticException", q762, by decide +kernel⟩, (fun _ h => absurd h List.not_mem_nil)⟩) (by decide) (by decide) q412 q425 ?_
      refine X_astore_n C dX0_hull_42 rfl (isRV_r _) (lo2 := [(3, _), (0, _), (1, _), (2, _)]) (by decide) rfl ?_
      refine X_aload_n C dX0_hull_43 rfl 1 rfl (isRV_r _) ?_
      refine X_aload_n C dX0_hull_44 rfl 0 rfl (isRV_r _) ?_
      refine X_callVS (ci := 0) (q := (RX0, TX0, 49)) (As := [_]) (rest := []) C rfl (LX_S hX (k := 0) rfl) q745 q747 qs14 q132 q748 ⟨rfl, nm_X0_answersFar⟩ rfl dX0_hull_45 (m_X0_answersFar (Cx_l C) hX (d := d - 1) (by omega) s58 a_ hs_ hb_ h) (by omega) (by decide) (Nat.le_of_ble_eq_true rfl) (fun s37 w38 hE39 hP40 => ?_) (fun s43 E41 q42 hE39 hP40 => ?_)
      rotate_left
      · exact False.elim hP40
      obtain ⟨r36, rfl, h⟩ := hP40
      refine X_tls ?_
      have hs_ := Ext_sh hE39 hs_ (by decide)
      exact X_lret C rfl dX0_hull_48 (hn s37 _ h)
    · refine XT_catch C [] ⟨0, 35, 36, 377⟩ [⟨0, 35, 42, 1⟩] rfl (fun _ h => absurd h List.not_mem_nil) (by decide) (by decide) q762 q724 ?_
      refine X_astore_n C dX0_hull_36 rfl (isRV_r _) (lo2 := [(3, _), (0, _), (1, _), (2, _)]) (by decide) rfl ?_
      refine X_aload_n C dX0_hull_37 rfl 1 rfl (isRV_r _) ?_
      refine X_callVS (ci := 0) (q := (RX0, TX0, 49)) (As := []) (rest := []) C rfl (LX_S hX (k := 0) rfl) q821 q823 qs23 q132 q824 ⟨rfl, nm_X0_isFarBig⟩ rfl dX0_hull_38 (m_X0_isFarBig (Cx_l C) hX (d := d - 1) (by omega) s58 h) (by omega) (by decide) (Nat.le_of_ble_eq_true rfl) (fun s46 w47 hE48 hP49 => ?_) (fun s52 E50 q51 hE48 hP49 => ?_)
      rotate_left
      · exact False.elim hP49
      obtain ⟨r45, rfl, h⟩ := hP49
      refine X_tls ?_
      exact X_lret C rfl dX0_hull_41 (hn s46 _ h)
  obtain ⟨r30, rfl, hb59, hs60, h⟩ := hP55
  refine X_tls ?_
  refine X_iload_n C dX0_hull_31 rfl 2 rfl ?_
  refine X_callV (ci := 2) (q := (RX2, TX2, 2)) (As := [_]) (rest := []) C rfl hs60 q741 q742 q743 q134 q744 ⟨rfl, nm_X2_part⟩ rfl dX0_hull_32 (m_X2_part (Cx_l C) (d := d - 1) (by omega) s31 r30 x2 hs60 hb59 h) (by omega) (by decide) (Nat.le_of_ble_eq_true rfl) (fun s67 w62 hE63 hP64 => ?_) (fun s68 E65 q66 hE63 hP64 => ?_)
  rotate_left
  · exact False.elim hP64
  obtain ⟨r61, rfl, rfl, h⟩ := hP64
  refine X_tls ?_
  exact X_lret C rfl dX0_hull_35 (hn s31 _ h)
def w_X0_hull_b22 (Φ : St → Int64 → Prop) (st : St) (x1 : Int32) (x2 : Int32) : Prop := w_X0_hull_b23 Φ st x1 x2 0
theorem t_X0_hull_b22 {θ : Th} {κ : Kx} {Ph : Ph} (hX : LX θ) {d : Nat} (hd : 8 ≤ d) (C : Cx θ κ yX0_hull cX0_hull 4 (some Jvm.ClassFile.FieldType.long) [(0, 35, 36, 377), (0, 35, 42, 1)] d) {Φ : St → Int64 → Prop} (hn : ∀ st r, Φ st r → Ph.1 st (some (.long r))) (st : St) (x1 : Int32) (x2 : Int32) (h : w_X0_hull_b22 Φ st x1 x2) : X θ κ Ph st 22 [(0, .ref (ad θ 0)), (1, .int x1), (2, .int x2)] [] := by
  unfold w_X0_hull_b22 at h
  refine X_iconst (v := 0) C dX0_hull_22 rfl ?_
  exact t_X0_hull_b23 hX hd C hn st x1 x2 0 h
def w_X0_hull (st : St) (p1 : Int32) (p2 : Int32) (Φ : St → Int64 → Prop) : Prop := w_X1_isPoint 2 st p1 (fun (r1 : Int32) => ((r1 = 0) → w_X0_hull_b22 Φ st p1 p2) ∧ ((¬ r1 = 0) → w_X0_isPart p2 (fun (r69 : Int32) => ((r69 = 0) → w_X0_hull_b22 Φ st p1 p2) ∧ ((¬ r69 = 0) → w_X0_hull_b23 Φ st p1 p2 1))))
theorem nm_X0_hull : yX0_hull.cls ≠ "java/lang/invoke/MethodHandle" ∧ yX0_hull.cls ≠ "java/lang/invoke/VarHandle" ∧ (parseMethodDescriptor yX0_hull.desc).map (fun d => d.parameters.length) = some 2 := by decide +kernel
theorem e_X0_hull : plainFor yX0_hull = true := plainFor_of_name (by decide +kernel)
theorem m_X0_hull {θ : Th} {l : Launch} (hl0 : l.stackTraces = false) (hX : LX θ) {d : Nat} (hd : 8 ≤ d) (st : St) (p1 : Int32) (p2 : Int32) {Φ : St → Int64 → Prop} (h : w_X0_hull st p1 p2 Φ) : Ct θ l yX0_hull (wsW_ yX0_hull cX0_hull 4 (some Jvm.ClassFile.FieldType.long) [(0, 35, 36, 377), (0, 35, 42, 1)]) d [.ref (ad θ 0), .int p1, .int p2] st (pL Φ, noX) := by
  refine Ct_entryW hl0 e_X0_hull (Nat.le_of_ble_eq_true rfl) (fun κ hκ _ C => ?_)
  have hn : ∀ st r, Φ st r → ((pL Φ, noX) : Ph).1 st (some (.long r)) := fun st r q => ⟨r, rfl, q⟩
  change X _ _ _ _ _ [(0, .ref (ad θ 0)), (1, .int p1), (2, .int p2)] _
  unfold w_X0_hull at h
  refine X_aload_n C dX0_hull_0 rfl 0 rfl (isRV_r _) ?_
  refine X_getF (ci := 0) (j := 1) (q := (RX0, TX0, 49)) C rfl (by decide) q261 rfl dX0_hull_1 (b := 2) (LX_S hX (k := 0) rfl) (LX_F hX (k := 0) (j := 1) rfl) rfl ?_
  refine X_iload_n C dX0_hull_4 rfl 1 rfl ?_
  refine X_callVS (ci := 1) (q := (RX1, TX1, 10)) (As := [_]) (rest := []) C rfl (LH_0 (LX_H2 hX)) q619 q620 q621 q133 q622 ⟨rfl, nm_X1_isPoint⟩ rfl dX0_hull_5 (m_X1_isPoint (Cx_l C) (LX_H2 hX) (d := d - 1) (by omega) st p1 h) (by omega) (by decide) (Nat.le_of_ble_eq_true rfl) (fun s7 w2 hE3 hP4 => ?_) (fun s8 E5 q6 hE3 hP4 => ?_)
  rotate_left
  · exact False.elim hP4
  obtain ⟨r1, rfl, rfl, h⟩ := hP4
  refine X_tls ?_
  refine X_if_eq (tgt := 22) C dX0_hull_8 (by decide) (fun c9 => ?_) (fun c9 => ?_)
  · have h := h.1 c9
    exact t_X0_hull_b22 hX hd C hn st p1 p2 h
  · have h := h.2 c9
    refine X_iload_n C dX0_hull_11 rfl 2 rfl ?_
    refine X_callS (As := [_]) (rest := []) C q658 q659 q132 q660 nm_X0_isPart rfl dX0_hull_12 (m_X0_isPart (Cx_l C) (d := d - 1) (by omega) st p2 h) (by omega) (by decide) (Nat.le_of_ble_eq_true rfl) (fun s75 w70 hE71 hP72 => ?_) (fun s76 E73 q74 hE71 hP72 => ?_)
    rotate_left
    · exact False.elim hP72
    obtain ⟨r69, rfl, rfl, h⟩ := hP72
    refine X_tls ?_
    refine X_if_eq (tgt := 22) C dX0_hull_15 (by decide) (fun c77 => ?_) (fun c77 => ?_)
    · have h := h.1 c77
      exact t_X0_hull_b22 hX hd C hn st p1 p2 h
    · have h := h.2 c77
      refine X_iconst (v := 1) C dX0_hull_18 rfl ?_
      refine X_goto (tgt := 23) C dX0_hull_19 (by decide) ?_
      exact t_X0_hull_b23 hX hd C hn st p1 p2 1 h

def w_X0_isBig (st : St) (Φ : St → Int32 → Prop) : Prop := sN st + 1 ≤ gCAP ∧ sS st + 7 ≤ gCAPS ∧ ∀ s3, s3 = mk st 6 7 → w_X5_init s3 (sN st) 6 (fun (s9 : St) => w_X0_answers s9 (sN st) (fun (s17 : St) (r16 : Int32) => Φ s17 r16))
theorem nm_X0_isBig : yX0_isBig.cls ≠ "java/lang/invoke/MethodHandle" ∧ yX0_isBig.cls ≠ "java/lang/invoke/VarHandle" ∧ (parseMethodDescriptor yX0_isBig.desc).map (fun d => d.parameters.length) = some 0 := by decide +kernel
theorem e_X0_isBig : plainFor yX0_isBig = true := plainFor_of_name (by decide +kernel)
theorem m_X0_isBig {θ : Th} {l : Launch} (hl0 : l.stackTraces = false) (hX : LX θ) {d : Nat} (hd : 4 ≤ d) (st : St) {Φ : St → Int32 → Prop} (h : w_X0_isBig st Φ) : Ct θ l yX0_isBig (ws_ yX0_isBig cX0_isBig 1 (some Jvm.ClassFile.FieldType.int)) d [.ref (ad θ 0)] st (pI Φ, noX) := by
  refine Ct_entry hl0 e_X0_isBig (Nat.le_of_ble_eq_true rfl) (fun κ hκ _ C => ?_)
  have hn : ∀ st r, Φ st r → ((pI Φ, noX) : Ph).1 st (some (.int r)) := fun st r q => ⟨r, rfl, q⟩
  change X _ _ _ _ _ [(0, .ref (ad θ 0))] _
  unfold w_X0_isBig at h
  refine X_aload_n C dX0_isBig_0 rfl 0 rfl (isRV_r _) ?_
  have g1 := h.1
  have h := h.2
  have g2 := h.1
  have h := h.2
  refine X_new (ci := 5) (q := (RX5, TX5, 7)) C rfl q412 q424 q140 g1 g2 dX0_isBig_1 (fun hE5 => ?_)
  refine X_nm (fun s3 e4 => ?_)
  have h := h s3 e4
  rw [← e4] at hE5
  have hs6 : sh s3 (sN st) = 6 := by rw [e4]; exact sh_mk
  have hb7 := nb_N g1
  refine X_dup C dX0_isBig_4 rfl ?_
  refine X_bipush (v := 6) C dX0_isBig_5 rfl ?_
  refine X_callI (As := [_]) (rest := [_, _]) C q479 q480 q140 q481 rfl nm_X5_init rfl dX0_isBig_7 (m_X5_init (Cx_l C) hX (d := d - 1) (by omega) s3 (sN st) 6 hs6 hb7 h) (by omega) (by decide) (Nat.le_of_ble_eq_true rfl) (fun s9 w10 hE11 hP12 => ?_) (fun s15 E13 q14 hE11 hP12 => ?_)
  rotate_left
  · exact False.elim hP12
  obtain ⟨rfl, h⟩ := hP12
  refine X_tln ?_
  have hs6 := Ext_sh hE11 hs6 (by decide)
  refine X_callVS (ci := 0) (q := (RX0, TX0, 49)) (As := [_]) (rest := []) C rfl (LX_S hX (k := 0) rfl) q512 q514 qs4 q132 q515 ⟨rfl, nm_X0_answers⟩ rfl dX0_isBig_10 (m_X0_answers (Cx_l C) hX (d := d - 1) (by omega) s9 (sN st) hs6 hb7 h) (by omega) (by decide) (Nat.le_of_ble_eq_true rfl) (fun s17 w18 hE19 hP20 => ?_) (fun s23 E21 q22 hE19 hP20 => ?_)
  rotate_left
  · exact False.elim hP20
  obtain ⟨r16, rfl, h⟩ := hP20
  refine X_tls ?_
  have hs6 := Ext_sh hE19 hs6 (by decide)
  exact X_iret C rfl dX0_isBig_13 (hn s17 _ h)

def w_X0_best_b45 (Φ : St → Int32 → Prop) (st : St) (x2 : Int32) (z0 : Int32) : Prop := w_X0_need st z0 2 (fun (s63 : St) => vp_in x2 3 ∧ Φ s63 (sI s63 137 x2.toNatClampNeg)) (fun (s64 : St) (a65 : Nat) => w_X0_answers s64 a65 (fun (s69 : St) (r68 : Int32) => Φ s69 r68))
theorem t_X0_best_b45 {θ : Th} {κ : Kx} {Ph : Ph} (hX : LX θ) {d : Nat} (hd : 8 ≤ d) (C : Cx θ κ yX0_best cX0_best 4 (some Jvm.ClassFile.FieldType.int) [(0, 55, 56, 377), (0, 55, 62, 1)] d) {Φ : St → Int32 → Prop} (hn : ∀ st r, Φ st r → Ph.1 st (some (.int r))) (st : St) (x2 : Int32) (z0 : Int32) (h : w_X0_best_b45 Φ st x2 z0) : X θ κ Ph st 45 [(0, .ref (ad θ 0)), (2, .int x2)] [.int z0] := by
  unfold w_X0_best_b45 at h
  refine X_iconst (v := 2) C dX0_best_45 rfl ?_
  refine X_callS (As := [_, _]) (rest := []) C q421 q422 q132 q423 nm_X0_need rfl dX0_best_46 (m_X0_need (Cx_l C) hX (d := d - 1) (by omega) st z0 2 h) (by omega) (by decide) (Nat.le_of_ble_eq_true rfl) (fun s63 w76 hE77 hP78 => ?_) (fun s81 E79 q80 hE77 hP78 => ?_)
  rotate_left
  · rcases hP78 with ⟨rfl, a_, rfl, hb_, hs_, h⟩
    refine XT_catch C [⟨0, 55, 56, 377⟩] ⟨0, 55, 62, 1⟩ [] rfl (List.forall_mem_cons.mpr ⟨Or.inr ⟨by decide, "java/lang/ArithmeticException", q762, by decide +kernel⟩, (fun _ h => absurd h List.not_mem_nil)⟩) (by decide) (by decide) q412 q425 ?_
    refine X_astore_n C dX0_best_62 rfl (isRV_r _) (lo2 := [(3, _), (0, _), (2, _)]) (by decide) rfl ?_
    refine X_aload_n C dX0_best_63 rfl 1 rfl (isRV_r _) ?_
    refine X_aload_n C dX0_best_64 rfl 0 rfl (isRV_r _) ?_
    refine X_callVS (ci := 0) (q := (RX0, TX0, 49)) (As := [_]) (rest := []) C rfl (LX_S hX (k := 0) rfl) q512 q514 qs4 q132 q515 ⟨rfl, nm_X0_answers⟩ rfl dX0_best_65 (m_X0_answers (Cx_l C) hX (d := d - 1) (by omega) s81 a_ hs_ hb_ h) (by omega) (by decide) (Nat.le_of_ble_eq_true rfl) (fun s69 w70 hE71 hP72 => ?_) (fun s75 E73 q74 hE71 hP72 => ?_)
    rotate_left
    · exact False.elim hP72
    obtain ⟨r68, rfl, h⟩ := hP72
    refine X_tls ?_
    have hs_ := Ext_sh hE71 hs_ (by decide)
    exact X_iret C rfl dX0_best_68 (hn s69 _ h)
  obtain ⟨rfl, h⟩ := hP78
  refine X_tln ?_
  refine X_aload_n C dX0_best_49 rfl 0 rfl (isRV_r _) ?_
  refine X_getF (ci := 0) (j := 22) (q := (RX0, TX0, 49)) C rfl (by decide) q282 rfl dX0_best_50 (b := 137) (LX_S hX (k := 0) rfl) (LX_F hX (k := 0) (j := 22) rfl) rfl ?_
  refine X_iload_n C dX0_best_53 rfl 1 rfl ?_
  have g82 := h.1
  have h := h.2
  refine X_ialdS C (LX_S hX (k := 137) rfl) (LX_L hX (k := 137) rfl) g82 rfl dX0_best_54 ?_
  exact X_iret C rfl dX0_best_55 (hn s63 _ h)
def w_X0_best_b23 (Φ : St → Int32 → Prop) (st : St) (x1 : Int32) (x2 : Int32) (z0 : Int32) : Prop := w_X0_must st z0 (fun (s11 : St) => w_X0_hullNow s11 x1 (fun (s31 : St) (r30 : Nat) => (((sI s31 0 23) ≤ x2) → w_X0_best_b45 Φ s31 x2 0) ∧ ((¬ (sI s31 0 23) ≤ x2) → w_X0_best_b45 Φ s31 x2 1)) (fun (s32 : St) (a33 : Nat) => w_X0_answers s32 a33 (fun (s37 : St) (r36 : Int32) => Φ s37 r36)) (fun (s44 : St) => w_X0_isBig s44 (fun (s46 : St) (r45 : Int32) => Φ s46 r45))) (fun (s12 : St) (a13 : Nat) => w_X0_answers s12 a13 (fun (s17 : St) (r16 : Int32) => Φ s17 r16))
theorem t_X0_best_b23 {θ : Th} {κ : Kx} {Ph : Ph} (hX : LX θ) {d : Nat} (hd : 8 ≤ d) (C : Cx θ κ yX0_best cX0_best 4 (some Jvm.ClassFile.FieldType.int) [(0, 55, 56, 377), (0, 55, 62, 1)] d) {Φ : St → Int32 → Prop} (hn : ∀ st r, Φ st r → Ph.1 st (some (.int r))) (st : St) (x1 : Int32) (x2 : Int32) (z0 : Int32) (h : w_X0_best_b23 Φ st x1 x2 z0) : X θ κ Ph st 23 [(0, .ref (ad θ 0)), (1, .int x1), (2, .int x2)] [.int z0] := by
  unfold w_X0_best_b23 at h
  refine X_callS (As := [_]) (rest := []) C q418 q419 q132 q420 nm_X0_must rfl dX0_best_23 (m_X0_must (Cx_l C) hX (d := d - 1) (by omega) st z0 h) (by omega) (by decide) (Nat.le_of_ble_eq_true rfl) (fun s11 w24 hE25 hP26 => ?_) (fun s29 E27 q28 hE25 hP26 => ?_)
  rotate_left
  · rcases hP26 with ⟨rfl, a_, rfl, hb_, hs_, h⟩
    refine XT_catch C [⟨0, 55, 56, 377⟩] ⟨0, 55, 62, 1⟩ [] rfl (List.forall_mem_cons.mpr ⟨Or.inr ⟨by decide, "java/lang/ArithmeticException", q762, by decide +kernel⟩, (fun _ h => absurd h List.not_mem_nil)⟩) (by decide) (by decide) q412 q425 ?_
    refine X_astore_n C dX0_best_62 rfl (isRV_r _) (lo2 := [(3, _), (0, _), (1, _), (2, _)]) (by decide) rfl ?_
    refine X_aload_n C dX0_best_63 rfl 1 rfl (isRV_r _) ?_
    refine X_aload_n C dX0_best_64 rfl 0 rfl (isRV_r _) ?_
    refine X_callVS (ci := 0) (q := (RX0, TX0, 49)) (As := [_]) (rest := []) C rfl (LX_S hX (k := 0) rfl) q512 q514 qs4 q132 q515 ⟨rfl, nm_X0_answers⟩ rfl dX0_best_65 (m_X0_answers (Cx_l C) hX (d := d - 1) (by omega) s29 a_ hs_ hb_ h) (by omega) (by decide) (Nat.le_of_ble_eq_true rfl) (fun s17 w18 hE19 hP20 => ?_) (fun s23 E21 q22 hE19 hP20 => ?_)
    rotate_left
    · exact False.elim hP20
    obtain ⟨r16, rfl, h⟩ := hP20
    refine X_tls ?_
    have hs_ := Ext_sh hE19 hs_ (by decide)
    exact X_iret C rfl dX0_best_68 (hn s17 _ h)
  obtain ⟨rfl, h⟩ := hP26
  refine X_tln ?_
  refine X_aload_n C dX0_best_26 rfl 0 rfl (isRV_r _) ?_
  refine X_iload_n C dX0_best_27 rfl 1 rfl ?_
  refine X_callVS (ci := 0) (q := (RX0, TX0, 49)) (As := [_]) (rest := []) C rfl (LX_S hX (k := 0) rfl) q829 q831 qs24 q132 q832 ⟨rfl, nm_X0_hullNow⟩ rfl dX0_best_28 (m_X0_hullNow (Cx_l C) hX (d := d - 1) (by omega) s11 x1 h) (by omega) (by decide) (Nat.le_of_ble_eq_true rfl) (fun s31 w53 hE54 hP55 => ?_) (fun s58 E56 q57 hE54 hP55 => ?_)
  rotate_left
  · rcases hP55 with ⟨rfl, a_, rfl, hb_, hs_, h⟩ | ⟨rfl, h⟩
    · refine XT_catch C [⟨0, 55, 56, 377⟩] ⟨0, 55, 62, 1⟩ [] rfl (List.forall_mem_cons.mpr ⟨Or.inr ⟨by decide, "java/lang/ArithmeticException", q762, by decide +kernel⟩, (fun _ h => absurd h List.not_mem_nil)⟩) (by decide) (by decide) q412 q425 ?_
      refine X_astore_n C dX0_best_62 rfl (isRV_r _) (lo2 := [(3, _), (0, _), (1, _), (2, _)]) (by decide) rfl ?_
      refine X_aload_n C dX0_best_63 rfl 1 rfl (isRV_r _) ?_
      refine X_aload_n C dX0_best_64 rfl 0 rfl (isRV_r _) ?_
      refine X_callVS (ci := 0) (q := (RX0, TX0, 49)) (As := [_]) (rest := []) C rfl (LX_S hX (k := 0) rfl) q512 q514 qs4 q132 q515 ⟨rfl, nm_X0_answers⟩ rfl dX0_best_65 (m_X0_answers (Cx_l C) hX (d := d - 1) (by omega) s58 a_ hs_ hb_ h) (by omega) (by decide) (Nat.le_of_ble_eq_true rfl) (fun s37 w38 hE39 hP40 => ?_) (fun s43 E41 q42 hE39 hP40 => ?_)
      rotate_left
      · exact False.elim hP40
      obtain ⟨r36, rfl, h⟩ := hP40
      refine X_tls ?_
      have hs_ := Ext_sh hE39 hs_ (by decide)
      exact X_iret C rfl dX0_best_68 (hn s37 _ h)
    · refine XT_catch C [] ⟨0, 55, 56, 377⟩ [⟨0, 55, 62, 1⟩] rfl (fun _ h => absurd h List.not_mem_nil) (by decide) (by decide) q762 q724 ?_
      refine X_astore_n C dX0_best_56 rfl (isRV_r _) (lo2 := [(3, _), (0, _), (1, _), (2, _)]) (by decide) rfl ?_
      refine X_aload_n C dX0_best_57 rfl 1 rfl (isRV_r _) ?_
      refine X_callVS (ci := 0) (q := (RX0, TX0, 49)) (As := []) (rest := []) C rfl (LX_S hX (k := 0) rfl) q860 q862 qs29 q132 q863 ⟨rfl, nm_X0_isBig⟩ rfl dX0_best_58 (m_X0_isBig (Cx_l C) hX (d := d - 1) (by omega) s58 h) (by omega) (by decide) (Nat.le_of_ble_eq_true rfl) (fun s46 w47 hE48 hP49 => ?_) (fun s52 E50 q51 hE48 hP49 => ?_)
      rotate_left
      · exact False.elim hP49
      obtain ⟨r45, rfl, h⟩ := hP49
      refine X_tls ?_
      exact X_iret C rfl dX0_best_61 (hn s46 _ h)
  obtain ⟨r30, rfl, hb59, hs60, h⟩ := hP55
  refine X_tls ?_
  refine X_astore_n C dX0_best_31 rfl (isRV_r _) (lo2 := [(3, _), (0, _), (1, _), (2, _)]) (by decide) rfl ?_
  refine X_iload_n C dX0_best_32 rfl 3 rfl ?_
  refine X_aload_n C dX0_best_33 rfl 1 rfl (isRV_r _) ?_
  refine X_getS (ci := 0) (j := 23) (q := (RX0, TX0, 49)) C rfl (by decide) q283 rfl dX0_best_34 (LX_S hX (k := 0) rfl) (v := .int (sI s31 0 23)) rfl ?_
  refine X_icmp_ge (tgt := 44) C dX0_best_37 (by decide) (fun c61 => ?_) (fun c61 => ?_)
  · have h := h.1 c61
    refine X_iconst (v := 0) C dX0_best_44 rfl ?_
    refine X_sub [1, 3] (lo2 := [(0, _), (2, _)]) rfl ?_
    exact t_X0_best_b45 hX hd C hn s31 x2 0 h
  · have h := h.2 c61
    refine X_iconst (v := 1) C dX0_best_40 rfl ?_
    refine X_goto (tgt := 45) C dX0_best_41 (by decide) ?_
    refine X_sub [1, 3] (lo2 := [(0, _), (2, _)]) rfl ?_
    exact t_X0_best_b45 hX hd C hn s31 x2 1 h
def w_X0_best_b22 (Φ : St → Int32 → Prop) (st : St) (x1 : Int32) (x2 : Int32) : Prop := w_X0_best_b23 Φ st x1 x2 0
theorem t_X0_best_b22 {θ : Th} {κ : Kx} {Ph : Ph} (hX : LX θ) {d : Nat} (hd : 8 ≤ d) (C : Cx θ κ yX0_best cX0_best 4 (some Jvm.ClassFile.FieldType.int) [(0, 55, 56, 377), (0, 55, 62, 1)] d) {Φ : St → Int32 → Prop} (hn : ∀ st r, Φ st r → Ph.1 st (some (.int r))) (st : St) (x1 : Int32) (x2 : Int32) (h : w_X0_best_b22 Φ st x1 x2) : X θ κ Ph st 22 [(0, .ref (ad θ 0)), (1, .int x1), (2, .int x2)] [] := by
  unfold w_X0_best_b22 at h
  refine X_iconst (v := 0) C dX0_best_22 rfl ?_
  exact t_X0_best_b23 hX hd C hn st x1 x2 0 h
def w_X0_best (st : St) (p1 : Int32) (p2 : Int32) (Φ : St → Int32 → Prop) : Prop := w_X1_isPoint 2 st p1 (fun (r1 : Int32) => ((r1 = 0) → w_X0_best_b22 Φ st p1 p2) ∧ ((¬ r1 = 0) → w_X0_isPlace p2 (fun (r83 : Int32) => ((r83 = 0) → w_X0_best_b22 Φ st p1 p2) ∧ ((¬ r83 = 0) → w_X0_best_b23 Φ st p1 p2 1))))
theorem nm_X0_best : yX0_best.cls ≠ "java/lang/invoke/MethodHandle" ∧ yX0_best.cls ≠ "java/lang/invoke/VarHandle" ∧ (parseMethodDescriptor yX0_best.desc).map (fun d => d.parameters.length) = some 2 := by decide +kernel
theorem e_X0_best : plainFor yX0_best = true := plainFor_of_name (by decide +kernel)
theorem m_X0_best {θ : Th} {l : Launch} (hl0 : l.stackTraces = false) (hX : LX θ) {d : Nat} (hd : 8 ≤ d) (st : St) (p1 : Int32) (p2 : Int32) {Φ : St → Int32 → Prop} (h : w_X0_best st p1 p2 Φ) : Ct θ l yX0_best (wsW_ yX0_best cX0_best 4 (some Jvm.ClassFile.FieldType.int) [(0, 55, 56, 377), (0, 55, 62, 1)]) d [.ref (ad θ 0), .int p1, .int p2] st (pI Φ, noX) := by
  refine Ct_entryW hl0 e_X0_best (Nat.le_of_ble_eq_true rfl) (fun κ hκ _ C => ?_)
  have hn : ∀ st r, Φ st r → ((pI Φ, noX) : Ph).1 st (some (.int r)) := fun st r q => ⟨r, rfl, q⟩
  change X _ _ _ _ _ [(0, .ref (ad θ 0)), (1, .int p1), (2, .int p2)] _
  unfold w_X0_best at h
  refine X_aload_n C dX0_best_0 rfl 0 rfl (isRV_r _) ?_
  refine X_getF (ci := 0) (j := 1) (q := (RX0, TX0, 49)) C rfl (by decide) q261 rfl dX0_best_1 (b := 2) (LX_S hX (k := 0) rfl) (LX_F hX (k := 0) (j := 1) rfl) rfl ?_
  refine X_iload_n C dX0_best_4 rfl 1 rfl ?_
  refine X_callVS (ci := 1) (q := (RX1, TX1, 10)) (As := [_]) (rest := []) C rfl (LH_0 (LX_H2 hX)) q619 q620 q621 q133 q622 ⟨rfl, nm_X1_isPoint⟩ rfl dX0_best_5 (m_X1_isPoint (Cx_l C) (LX_H2 hX) (d := d - 1) (by omega) st p1 h) (by omega) (by decide) (Nat.le_of_ble_eq_true rfl) (fun s7 w2 hE3 hP4 => ?_) (fun s8 E5 q6 hE3 hP4 => ?_)
  rotate_left
  · exact False.elim hP4
  obtain ⟨r1, rfl, rfl, h⟩ := hP4
  refine X_tls ?_
  refine X_if_eq (tgt := 22) C dX0_best_8 (by decide) (fun c9 => ?_) (fun c9 => ?_)
  · have h := h.1 c9
    exact t_X0_best_b22 hX hd C hn st p1 p2 h
  · have h := h.2 c9
    refine X_iload_n C dX0_best_11 rfl 2 rfl ?_
    refine X_callS (As := [_]) (rest := []) C q534 q535 q132 q536 nm_X0_isPlace rfl dX0_best_12 (m_X0_isPlace (Cx_l C) (d := d - 1) (by omega) st p2 h) (by omega) (by decide) (Nat.le_of_ble_eq_true rfl) (fun s89 w84 hE85 hP86 => ?_) (fun s90 E87 q88 hE85 hP86 => ?_)
    rotate_left
    · exact False.elim hP86
    obtain ⟨r83, rfl, rfl, h⟩ := hP86
    refine X_tls ?_
    refine X_if_eq (tgt := 22) C dX0_best_15 (by decide) (fun c91 => ?_) (fun c91 => ?_)
    · have h := h.1 c91
      exact t_X0_best_b22 hX hd C hn st p1 p2 h
    · have h := h.2 c91
      refine X_iconst (v := 1) C dX0_best_18 rfl ?_
      refine X_goto (tgt := 23) C dX0_best_19 (by decide) ?_
      exact t_X0_best_b23 hX hd C hn st p1 p2 1 h

def w_X0_weight_b53 (Φ : St → Int64 → Prop) (st : St) (x2 : Int32) (x3 : Int32) (z0 : Int32) : Prop := w_X0_need st z0 2 (fun (s63 : St) => vp_in x2 3 ∧ w_X2_part s63 (165 + 2 * x2.toNatClampNeg) x3 (fun (r85 : Int64) => Φ s63 r85)) (fun (s64 : St) (a65 : Nat) => w_X0_answersFar s64 a65 (fun (s69 : St) (r68 : Int64) => Φ s69 r68))
theorem t_X0_weight_b53 {θ : Th} {κ : Kx} {Ph : Ph} (hX : LX θ) {d : Nat} (hd : 8 ≤ d) (C : Cx θ κ yX0_weight cX0_weight 5 (some Jvm.ClassFile.FieldType.long) [(0, 67, 68, 377), (0, 67, 75, 1)] d) {Φ : St → Int64 → Prop} (hn : ∀ st r, Φ st r → Ph.1 st (some (.long r))) (st : St) (x2 : Int32) (x3 : Int32) (z0 : Int32) (h : w_X0_weight_b53 Φ st x2 x3 z0) : X θ κ Ph st 53 [(0, .ref (ad θ 0)), (2, .int x2), (3, .int x3)] [.int z0] := by
  unfold w_X0_weight_b53 at h
  refine X_iconst (v := 2) C dX0_weight_53 rfl ?_
  refine X_callS (As := [_, _]) (rest := []) C q421 q422 q132 q423 nm_X0_need rfl dX0_weight_54 (m_X0_need (Cx_l C) hX (d := d - 1) (by omega) st z0 2 h) (by omega) (by decide) (Nat.le_of_ble_eq_true rfl) (fun s63 w76 hE77 hP78 => ?_) (fun s81 E79 q80 hE77 hP78 => ?_)
  rotate_left
  · rcases hP78 with ⟨rfl, a_, rfl, hb_, hs_, h⟩
    refine XT_catch C [⟨0, 67, 68, 377⟩] ⟨0, 67, 75, 1⟩ [] rfl (List.forall_mem_cons.mpr ⟨Or.inr ⟨by decide, "java/lang/ArithmeticException", q762, by decide +kernel⟩, (fun _ h => absurd h List.not_mem_nil)⟩) (by decide) (by decide) q412 q425 ?_
    refine X_astore C dX0_weight_75 (isRV_r _) (lo2 := [(4, _), (0, _), (2, _), (3, _)]) (by decide) rfl ?_
    refine X_aload_n C dX0_weight_77 rfl 1 rfl (isRV_r _) ?_
    refine X_aload C dX0_weight_78 0 rfl (isRV_r _) ?_
    refine X_callVS (ci := 0) (q := (RX0, TX0, 49)) (As := [_]) (rest := []) C rfl (LX_S hX (k := 0) rfl) q745 q747 qs14 q132 q748 ⟨rfl, nm_X0_answersFar⟩ rfl dX0_weight_80 (m_X0_answersFar (Cx_l C) hX (d := d - 1) (by omega) s81 a_ hs_ hb_ h) (by omega) (by decide) (Nat.le_of_ble_eq_true rfl) (fun s69 w70 hE71 hP72 => ?_) (fun s75 E73 q74 hE71 hP72 => ?_)
    rotate_left
    · exact False.elim hP72
    obtain ⟨r68, rfl, h⟩ := hP72
    refine X_tls ?_
    have hs_ := Ext_sh hE71 hs_ (by decide)
    exact X_lret C rfl dX0_weight_83 (hn s69 _ h)
  obtain ⟨rfl, h⟩ := hP78
  refine X_tln ?_
  refine X_aload_n C dX0_weight_57 rfl 0 rfl (isRV_r _) ?_
  refine X_getF (ci := 0) (j := 20) (q := (RX0, TX0, 49)) C rfl (by decide) q280 rfl dX0_weight_58 (b := 135) (LX_S hX (k := 0) rfl) (LX_F hX (k := 0) (j := 20) rfl) rfl ?_
  refine X_iload_n C dX0_weight_61 rfl 1 rfl ?_
  have g82 := h.1
  have h := h.2
  refine X_aaldF C 9 rfl (LX_S hX (k := 135) rfl) (by decide) rfl (LX_L hX (k := 135) rfl) g82 rfl (b := (165 + 2 * x2.toNatClampNeg)) (LXf_bestW hX (i := x2.toNatClampNeg) (in_lt g82)).2 dX0_weight_62 rfl ?_
  refine X_iload_n C dX0_weight_63 rfl 2 rfl ?_
  refine X_sh (LXf_bestW hX (i := x2.toNatClampNeg) (in_lt g82)).1 (by decide) (fun hs83 hb84 => ?_)
  refine X_callV (ci := 2) (q := (RX2, TX2, 2)) (As := [_]) (rest := []) C rfl hs83 q741 q742 q743 q134 q744 ⟨rfl, nm_X2_part⟩ rfl dX0_weight_64 (m_X2_part (Cx_l C) (d := d - 1) (by omega) s63 (165 + 2 * x2.toNatClampNeg) x3 hs83 hb84 h) (by omega) (by decide) (Nat.le_of_ble_eq_true rfl) (fun s91 w86 hE87 hP88 => ?_) (fun s92 E89 q90 hE87 hP88 => ?_)
  rotate_left
  · exact False.elim hP88
  obtain ⟨r85, rfl, rfl, h⟩ := hP88
  refine X_tls ?_
  exact X_lret C rfl dX0_weight_67 (hn s63 _ h)
def w_X0_weight_b30 (Φ : St → Int64 → Prop) (st : St) (x1 : Int32) (x2 : Int32) (x3 : Int32) (z0 : Int32) : Prop := w_X0_must st z0 (fun (s11 : St) => w_X0_hullNow s11 x1 (fun (s31 : St) (r30 : Nat) => (((sI s31 0 23) ≤ x2) → w_X0_weight_b53 Φ s31 x2 x3 0) ∧ ((¬ (sI s31 0 23) ≤ x2) → w_X0_weight_b53 Φ s31 x2 x3 1)) (fun (s32 : St) (a33 : Nat) => w_X0_answersFar s32 a33 (fun (s37 : St) (r36 : Int64) => Φ s37 r36)) (fun (s44 : St) => w_X0_isFarBig s44 (fun (s46 : St) (r45 : Int64) => Φ s46 r45))) (fun (s12 : St) (a13 : Nat) => w_X0_answersFar s12 a13 (fun (s17 : St) (r16 : Int64) => Φ s17 r16))
theorem t_X0_weight_b30 {θ : Th} {κ : Kx} {Ph : Ph} (hX : LX θ) {d : Nat} (hd : 8 ≤ d) (C : Cx θ κ yX0_weight cX0_weight 5 (some Jvm.ClassFile.FieldType.long) [(0, 67, 68, 377), (0, 67, 75, 1)] d) {Φ : St → Int64 → Prop} (hn : ∀ st r, Φ st r → Ph.1 st (some (.long r))) (st : St) (x1 : Int32) (x2 : Int32) (x3 : Int32) (z0 : Int32) (h : w_X0_weight_b30 Φ st x1 x2 x3 z0) : X θ κ Ph st 30 [(0, .ref (ad θ 0)), (1, .int x1), (2, .int x2), (3, .int x3)] [.int z0] := by
  unfold w_X0_weight_b30 at h
  refine X_callS (As := [_]) (rest := []) C q418 q419 q132 q420 nm_X0_must rfl dX0_weight_30 (m_X0_must (Cx_l C) hX (d := d - 1) (by omega) st z0 h) (by omega) (by decide) (Nat.le_of_ble_eq_true rfl) (fun s11 w24 hE25 hP26 => ?_) (fun s29 E27 q28 hE25 hP26 => ?_)
  rotate_left
  · rcases hP26 with ⟨rfl, a_, rfl, hb_, hs_, h⟩
    refine XT_catch C [⟨0, 67, 68, 377⟩] ⟨0, 67, 75, 1⟩ [] rfl (List.forall_mem_cons.mpr ⟨Or.inr ⟨by decide, "java/lang/ArithmeticException", q762, by decide +kernel⟩, (fun _ h => absurd h List.not_mem_nil)⟩) (by decide) (by decide) q412 q425 ?_
    refine X_astore C dX0_weight_75 (isRV_r _) (lo2 := [(4, _), (0, _), (1, _), (2, _), (3, _)]) (by decide) rfl ?_
    refine X_aload_n C dX0_weight_77 rfl 1 rfl (isRV_r _) ?_
    refine X_aload C dX0_weight_78 0 rfl (isRV_r _) ?_
    refine X_callVS (ci := 0) (q := (RX0, TX0, 49)) (As := [_]) (rest := []) C rfl (LX_S hX (k := 0) rfl) q745 q747 qs14 q132 q748 ⟨rfl, nm_X0_answersFar⟩ rfl dX0_weight_80 (m_X0_answersFar (Cx_l C) hX (d := d - 1) (by omega) s29 a_ hs_ hb_ h) (by omega) (by decide) (Nat.le_of_ble_eq_true rfl) (fun s17 w18 hE19 hP20 => ?_) (fun s23 E21 q22 hE19 hP20 => ?_)
    rotate_left
    · exact False.elim hP20
    obtain ⟨r16, rfl, h⟩ := hP20
    refine X_tls ?_
    have hs_ := Ext_sh hE19 hs_ (by decide)
    exact X_lret C rfl dX0_weight_83 (hn s17 _ h)
  obtain ⟨rfl, h⟩ := hP26
  refine X_tln ?_
  refine X_aload_n C dX0_weight_33 rfl 0 rfl (isRV_r _) ?_
  refine X_iload_n C dX0_weight_34 rfl 1 rfl ?_
  refine X_callVS (ci := 0) (q := (RX0, TX0, 49)) (As := [_]) (rest := []) C rfl (LX_S hX (k := 0) rfl) q829 q831 qs24 q132 q832 ⟨rfl, nm_X0_hullNow⟩ rfl dX0_weight_35 (m_X0_hullNow (Cx_l C) hX (d := d - 1) (by omega) s11 x1 h) (by omega) (by decide) (Nat.le_of_ble_eq_true rfl) (fun s31 w53 hE54 hP55 => ?_) (fun s58 E56 q57 hE54 hP55 => ?_)
  rotate_left
  · rcases hP55 with ⟨rfl, a_, rfl, hb_, hs_, h⟩ | ⟨rfl, h⟩
    · refine XT_catch C [⟨0, 67, 68, 377⟩] ⟨0, 67, 75, 1⟩ [] rfl (List.forall_mem_cons.mpr ⟨Or.inr ⟨by decide, "java/lang/ArithmeticException", q762, by decide +kernel⟩, (fun _ h => absurd h List.not_mem_nil)⟩) (by decide) (by decide) q412 q425 ?_
      refine X_astore C dX0_weight_75 (isRV_r _) (lo2 := [(4, _), (0, _), (1, _), (2, _), (3, _)]) (by decide) rfl ?_
      refine X_aload_n C dX0_weight_77 rfl 1 rfl (isRV_r _) ?_
      refine X_aload C dX0_weight_78 0 rfl (isRV_r _) ?_
      refine X_callVS (ci := 0) (q := (RX0, TX0, 49)) (As := [_]) (rest := []) C rfl (LX_S hX (k := 0) rfl) q745 q747 qs14 q132 q748 ⟨rfl, nm_X0_answersFar⟩ rfl dX0_weight_80 (m_X0_answersFar (Cx_l C) hX (d := d - 1) (by omega) s58 a_ hs_ hb_ h) (by omega) (by decide) (Nat.le_of_ble_eq_true rfl) (fun s37 w38 hE39 hP40 => ?_) (fun s43 E41 q42 hE39 hP40 => ?_)
      rotate_left
      · exact False.elim hP40
      obtain ⟨r36, rfl, h⟩ := hP40
      refine X_tls ?_
      have hs_ := Ext_sh hE39 hs_ (by decide)
      exact X_lret C rfl dX0_weight_83 (hn s37 _ h)
    · refine XT_catch C [] ⟨0, 67, 68, 377⟩ [⟨0, 67, 75, 1⟩] rfl (fun _ h => absurd h List.not_mem_nil) (by decide) (by decide) q762 q724 ?_
      refine X_astore C dX0_weight_68 (isRV_r _) (lo2 := [(4, _), (0, _), (1, _), (2, _), (3, _)]) (by decide) rfl ?_
      refine X_aload_n C dX0_weight_70 rfl 1 rfl (isRV_r _) ?_
      refine X_callVS (ci := 0) (q := (RX0, TX0, 49)) (As := []) (rest := []) C rfl (LX_S hX (k := 0) rfl) q821 q823 qs23 q132 q824 ⟨rfl, nm_X0_isFarBig⟩ rfl dX0_weight_71 (m_X0_isFarBig (Cx_l C) hX (d := d - 1) (by omega) s58 h) (by omega) (by decide) (Nat.le_of_ble_eq_true rfl) (fun s46 w47 hE48 hP49 => ?_) (fun s52 E50 q51 hE48 hP49 => ?_)
      rotate_left
      · exact False.elim hP49
      obtain ⟨r45, rfl, h⟩ := hP49
      refine X_tls ?_
      exact X_lret C rfl dX0_weight_74 (hn s46 _ h)
  obtain ⟨r30, rfl, hb59, hs60, h⟩ := hP55
  refine X_tls ?_
  refine X_astore C dX0_weight_38 (isRV_r _) (lo2 := [(4, _), (0, _), (1, _), (2, _), (3, _)]) (by decide) rfl ?_
  refine X_iload_n C dX0_weight_40 rfl 3 rfl ?_
  refine X_aload_n C dX0_weight_41 rfl 1 rfl (isRV_r _) ?_
  refine X_getS (ci := 0) (j := 23) (q := (RX0, TX0, 49)) C rfl (by decide) q283 rfl dX0_weight_42 (LX_S hX (k := 0) rfl) (v := .int (sI s31 0 23)) rfl ?_
  refine X_icmp_ge (tgt := 52) C dX0_weight_45 (by decide) (fun c61 => ?_) (fun c61 => ?_)
  · have h := h.1 c61
    refine X_iconst (v := 0) C dX0_weight_52 rfl ?_
    refine X_sub [1, 3, 4] (lo2 := [(0, _), (2, _), (3, _)]) rfl ?_
    exact t_X0_weight_b53 hX hd C hn s31 x2 x3 0 h
  · have h := h.2 c61
    refine X_iconst (v := 1) C dX0_weight_48 rfl ?_
    refine X_goto (tgt := 53) C dX0_weight_49 (by decide) ?_
    refine X_sub [1, 3, 4] (lo2 := [(0, _), (2, _), (3, _)]) rfl ?_
    exact t_X0_weight_b53 hX hd C hn s31 x2 x3 1 h
def w_X0_weight_b29 (Φ : St → Int64 → Prop) (st : St) (x1 : Int32) (x2 : Int32) (x3 : Int32) : Prop := w_X0_weight_b30 Φ st x1 x2 x3 0
theorem t_X0_weight_b29 {θ : Th} {κ : Kx} {Ph : Ph} (hX : LX θ) {d : Nat} (hd : 8 ≤ d) (C : Cx θ κ yX0_weight cX0_weight 5 (some Jvm.ClassFile.FieldType.long) [(0, 67, 68, 377), (0, 67, 75, 1)] d) {Φ : St → Int64 → Prop} (hn : ∀ st r, Φ st r → Ph.1 st (some (.long r))) (st : St) (x1 : Int32) (x2 : Int32) (x3 : Int32) (h : w_X0_weight_b29 Φ st x1 x2 x3) : X θ κ Ph st 29 [(0, .ref (ad θ 0)), (1, .int x1), (2, .int x2), (3, .int x3)] [] := by
  unfold w_X0_weight_b29 at h
  refine X_iconst (v := 0) C dX0_weight_29 rfl ?_
  exact t_X0_weight_b30 hX hd C hn st x1 x2 x3 0 h
def w_X0_weight (st : St) (p1 : Int32) (p2 : Int32) (p3 : Int32) (Φ : St → Int64 → Prop) : Prop := w_X1_isPoint 2 st p1 (fun (r1 : Int32) => ((r1 = 0) → w_X0_weight_b29 Φ st p1 p2 p3) ∧ ((¬ r1 = 0) → w_X0_isPlace p2 (fun (r93 : Int32) => ((r93 = 0) → w_X0_weight_b29 Φ st p1 p2 p3) ∧ ((¬ r93 = 0) → w_X0_isPart p3 (fun (r102 : Int32) => ((r102 = 0) → w_X0_weight_b29 Φ st p1 p2 p3) ∧ ((¬ r102 = 0) → w_X0_weight_b30 Φ st p1 p2 p3 1))))))
theorem nm_X0_weight : yX0_weight.cls ≠ "java/lang/invoke/MethodHandle" ∧ yX0_weight.cls ≠ "java/lang/invoke/VarHandle" ∧ (parseMethodDescriptor yX0_weight.desc).map (fun d => d.parameters.length) = some 3 := by decide +kernel
theorem e_X0_weight : plainFor yX0_weight = true := plainFor_of_name (by decide +kernel)
theorem m_X0_weight {θ : Th} {l : Launch} (hl0 : l.stackTraces = false) (hX : LX θ) {d : Nat} (hd : 8 ≤ d) (st : St) (p1 : Int32) (p2 : Int32) (p3 : Int32) {Φ : St → Int64 → Prop} (h : w_X0_weight st p1 p2 p3 Φ) : Ct θ l yX0_weight (wsW_ yX0_weight cX0_weight 5 (some Jvm.ClassFile.FieldType.long) [(0, 67, 68, 377), (0, 67, 75, 1)]) d [.ref (ad θ 0), .int p1, .int p2, .int p3] st (pL Φ, noX) := by
  refine Ct_entryW hl0 e_X0_weight (Nat.le_of_ble_eq_true rfl) (fun κ hκ _ C => ?_)
  have hn : ∀ st r, Φ st r → ((pL Φ, noX) : Ph).1 st (some (.long r)) := fun st r q => ⟨r, rfl, q⟩
  change X _ _ _ _ _ [(0, .ref (ad θ 0)), (1, .int p1), (2, .int p2), (3, .int p3)] _
  unfold w_X0_weight at h
  refine X_aload_n C dX0_weight_0 rfl 0 rfl (isRV_r _) ?_
  refine X_getF (ci := 0) (j := 1) (q := (RX0, TX0, 49)) C rfl (by decide) q261 rfl dX0_weight_1 (b := 2) (LX_S hX (k := 0) rfl) (LX_F hX (k := 0) (j := 1) rfl) rfl ?_
  refine X_iload_n C dX0_weight_4 rfl 1 rfl ?_
  refine X_callVS (ci := 1) (q := (RX1, TX1, 10)) (As := [_]) (rest := []) C rfl (LH_0 (LX_H2 hX)) q619 q620 q621 q133 q622 ⟨rfl, nm_X1_isPoint⟩ rfl dX0_weight_5 (m_X1_isPoint (Cx_l C) (LX_H2 hX) (d := d - 1) (by omega) st p1 h) (by omega) (by decide) (Nat.le_of_ble_eq_true rfl) (fun s7 w2 hE3 hP4 => ?_) (fun s8 E5 q6 hE3 hP4 => ?_)
  rotate_left
  · exact False.elim hP4
  obtain ⟨r1, rfl, rfl, h⟩ := hP4
  refine X_tls ?_
  refine X_if_eq (tgt := 29) C dX0_weight_8 (by decide) (fun c9 => ?_) (fun c9 => ?_)
  · have h := h.1 c9
    exact t_X0_weight_b29 hX hd C hn st p1 p2 p3 h
  · have h := h.2 c9
    refine X_iload_n C dX0_weight_11 rfl 2 rfl ?_
    refine X_callS (As := [_]) (rest := []) C q534 q535 q132 q536 nm_X0_isPlace rfl dX0_weight_12 (m_X0_isPlace (Cx_l C) (d := d - 1) (by omega) st p2 h) (by omega) (by decide) (Nat.le_of_ble_eq_true rfl) (fun s99 w94 hE95 hP96 => ?_) (fun s100 E97 q98 hE95 hP96 => ?_)
    rotate_left
    · exact False.elim hP96
    obtain ⟨r93, rfl, rfl, h⟩ := hP96
    refine X_tls ?_
    refine X_if_eq (tgt := 29) C dX0_weight_15 (by decide) (fun c101 => ?_) (fun c101 => ?_)
    · have h := h.1 c101
      exact t_X0_weight_b29 hX hd C hn st p1 p2 p3 h
    · have h := h.2 c101
      refine X_iload_n C dX0_weight_18 rfl 3 rfl ?_
      refine X_callS (As := [_]) (rest := []) C q658 q659 q132 q660 nm_X0_isPart rfl dX0_weight_19 (m_X0_isPart (Cx_l C) (d := d - 1) (by omega) st p3 h) (by omega) (by decide) (Nat.le_of_ble_eq_true rfl) (fun s108 w103 hE104 hP105 => ?_) (fun s109 E106 q107 hE104 hP105 => ?_)
      rotate_left
      · exact False.elim hP105
      obtain ⟨r102, rfl, rfl, h⟩ := hP105
      refine X_tls ?_
      refine X_if_eq (tgt := 29) C dX0_weight_22 (by decide) (fun c110 => ?_) (fun c110 => ?_)
      · have h := h.1 c110
        exact t_X0_weight_b29 hX hd C hn st p1 p2 p3 h
      · have h := h.2 c110
        refine X_iconst (v := 1) C dX0_weight_25 rfl ?_
        refine X_goto (tgt := 30) C dX0_weight_26 (by decide) ?_
        exact t_X0_weight_b30 hX hd C hn st p1 p2 p3 1 h

def w_X0_pointsBy_b79 (Φ : St → Int32 → Prop) (Φw : St → Nat → Prop) (Φa : St → Prop) (K8 : St → Int32 → Int32 → Int32 → Prop) (st : St) (x1 : Int32) (x3 : Int32) (z0 : Int32) (z1 : Int32) : Prop := ∀ v23 : Int32, v23 = (z1 ||| z0) → K8 st x1 v23 (x3 + 1)
theorem t_X0_pointsBy_b79 {θ : Th} {κ : Kx} {Ph : Ph} (hX : LX θ) {d : Nat} (hd : 7 ≤ d) (C : Cx θ κ yX0_pointsBy cX0_pointsBy 6 (some Jvm.ClassFile.FieldType.int) [] d) {Φ : St → Int32 → Prop} {Φw : St → Nat → Prop} {Φa : St → Prop} (hn : ∀ st r, Φ st r → Ph.1 st (some (.int r))) (hw : ∀ st a, a < gBIG → sh st a = 6 → Φw st a → Ph.2 st "SecretsWorth$Wrong" (ad θ a)) (ha : ∀ st q, Φa st → Ph.2 st "java/lang/ArithmeticException" q) {K8 : St → Int32 → Int32 → Int32 → Prop} (hK8 : ∀ (st : St) (x1 : Int32) (x2 : Int32) (x3 : Int32), K8 st x1 x2 x3 → X θ κ Ph st 8 [(0, .ref (ad θ 0)), (1, .int x1), (2, .int x2), (3, .int x3)] []) (st : St) (x1 : Int32) (x3 : Int32) (z0 : Int32) (z1 : Int32) (h : w_X0_pointsBy_b79 Φ Φw Φa K8 st x1 x3 z0 z1) : X θ κ Ph st 79 [(0, .ref (ad θ 0)), (1, .int x1), (3, .int x3)] [.int z0, .int z1] := by
  unfold w_X0_pointsBy_b79 at h
  refine X_ior C dX0_pointsBy_79 ?_
  refine X_topi (fun v23 e24 => ?_)
  have h := h v23 e24
  refine X_istore_n C dX0_pointsBy_80 rfl (lo2 := [(2, _), (0, _), (1, _), (3, _)]) (by decide) rfl ?_
  refine X_iinc (v := (x3 + 1)) C (j := 3) dX0_pointsBy_81 rfl rfl (lo2 := [(3, _), (2, _), (0, _), (1, _)]) (by decide) rfl ?_
  refine X_goto (tgt := 8) C dX0_pointsBy_84 (by decide) ?_
  refine X_sub [2, 3, 1, 0] (lo2 := [(0, _), (1, _), (2, _), (3, _)]) rfl ?_
  exact hK8 st x1 v23 (x3 + 1) h
def w_X0_pointsBy_b64 (Φ : St → Int32 → Prop) (Φw : St → Nat → Prop) (Φa : St → Prop) (K8 : St → Int32 → Int32 → Int32 → Prop) (st : St) (x1 : Int32) (x2 : Int32) (x3 : Int32) (z0 : Int32) : Prop := ((z0 = 0) → w_X0_pointsBy_b79 Φ Φw Φa K8 st x1 x3 0 x2) ∧ ((¬ z0 = 0) → w_X0_pointsBy_b79 Φ Φw Φa K8 st x1 x3 ((1 : Int32) <<< (x3 &&& 31)) x2)
theorem t_X0_pointsBy_b64 {θ : Th} {κ : Kx} {Ph : Ph} (hX : LX θ) {d : Nat} (hd : 7 ≤ d) (C : Cx θ κ yX0_pointsBy cX0_pointsBy 6 (some Jvm.ClassFile.FieldType.int) [] d) {Φ : St → Int32 → Prop} {Φw : St → Nat → Prop} {Φa : St → Prop} (hn : ∀ st r, Φ st r → Ph.1 st (some (.int r))) (hw : ∀ st a, a < gBIG → sh st a = 6 → Φw st a → Ph.2 st "SecretsWorth$Wrong" (ad θ a)) (ha : ∀ st q, Φa st → Ph.2 st "java/lang/ArithmeticException" q) {K8 : St → Int32 → Int32 → Int32 → Prop} (hK8 : ∀ (st : St) (x1 : Int32) (x2 : Int32) (x3 : Int32), K8 st x1 x2 x3 → X θ κ Ph st 8 [(0, .ref (ad θ 0)), (1, .int x1), (2, .int x2), (3, .int x3)] []) (st : St) (x1 : Int32) (x2 : Int32) (x3 : Int32) (z0 : Int32) (h : w_X0_pointsBy_b64 Φ Φw Φa K8 st x1 x2 x3 z0) : X θ κ Ph st 64 [(0, .ref (ad θ 0)), (1, .int x1), (2, .int x2), (3, .int x3)] [.int z0] := by
  unfold w_X0_pointsBy_b64 at h
  refine X_istore C dX0_pointsBy_64 (lo2 := [(5, _), (0, _), (1, _), (2, _), (3, _)]) (by decide) rfl ?_
  refine X_iload_n C dX0_pointsBy_66 rfl 3 rfl ?_
  refine X_iload C dX0_pointsBy_67 0 rfl ?_
  refine X_if_eq (tgt := 78) C dX0_pointsBy_69 (by decide) (fun c22 => ?_) (fun c22 => ?_)
  · have h := h.1 c22
    refine X_iconst (v := 0) C dX0_pointsBy_78 rfl ?_
    refine X_sub [1, 2, 4] (lo2 := [(0, _), (1, _), (3, _)]) rfl ?_
    exact t_X0_pointsBy_b79 hX hd C hn hw ha hK8 st x1 x3 0 x2 h
  · have h := h.2 c22
    refine X_iconst (v := 1) C dX0_pointsBy_72 rfl ?_
    refine X_iload_n C dX0_pointsBy_73 rfl 4 rfl ?_
    refine X_ishl C dX0_pointsBy_74 ?_
    refine X_goto (tgt := 79) C dX0_pointsBy_75 (by decide) ?_
    refine X_sub [1, 2, 4] (lo2 := [(0, _), (1, _), (3, _)]) rfl ?_
    exact t_X0_pointsBy_b79 hX hd C hn hw ha hK8 st x1 x3 ((1 : Int32) <<< (x3 &&& 31)) x2 h
def w_X0_pointsBy_l8 (Φ : St → Int32 → Prop) (Φw : St → Nat → Prop) (Φa : St → Prop) (E87 : St → Int32 → Prop) : Nat → St → Int32 → Int32 → Int32 → Prop
  | 0, _, _, _, _ => False
  | n + 1, st, x1, x2, x3 => (((sI st 2 9) ≤ x3) → E87 st x2) ∧ ((¬ (sI st 2 9) ≤ x3) → w_X0_hullOf st x3 (fun (s11 : St) (r10 : Nat) => ((x1 = 0) → (((sI s11 0 23) ≠ 1) → w_X0_pointsBy_b64 Φ Φw Φa (w_X0_pointsBy_l8 Φ Φw Φa E87 n) s11 x1 x2 x3 0) ∧ (((sI s11 0 23) = 1) → w_X0_pointsBy_b64 Φ Φw Φa (w_X0_pointsBy_l8 Φ Φw Φa E87 n) s11 x1 x2 x3 1)) ∧ ((¬ x1 = 0) → vp_in x3 15 ∧ w_X2_less s11 143 r10 (149 + x3.toNatClampNeg) (fun (s31 : St) (r30 : Nat) => w_X2_isAbove s31 r30 (fun (r40 : Int32) => w_X0_pointsBy_b64 Φ Φw Φa (w_X0_pointsBy_l8 Φ Φw Φa E87 n) s31 x1 x2 x3 r40)) Φa)) Φa)
theorem t_X0_pointsBy_l8 {θ : Th} {κ : Kx} {Ph : Ph} (hX : LX θ) {d : Nat} (hd : 7 ≤ d) (C : Cx θ κ yX0_pointsBy cX0_pointsBy 6 (some Jvm.ClassFile.FieldType.int) [] d) {Φ : St → Int32 → Prop} {Φw : St → Nat → Prop} {Φa : St → Prop} (hn : ∀ st r, Φ st r → Ph.1 st (some (.int r))) (hw : ∀ st a, a < gBIG → sh st a = 6 → Φw st a → Ph.2 st "SecretsWorth$Wrong" (ad θ a)) (ha : ∀ st q, Φa st → Ph.2 st "java/lang/ArithmeticException" q) {E87 : St → Int32 → Prop} (hE87 : ∀ (st : St) (x2 : Int32), E87 st x2 → X θ κ Ph st 87 [(2, .int x2)] []) : ∀ (n : Nat) (st : St) (x1 : Int32) (x2 : Int32) (x3 : Int32), w_X0_pointsBy_l8 Φ Φw Φa E87 n st x1 x2 x3 → X θ κ Ph st 8 [(0, .ref (ad θ 0)), (1, .int x1), (2, .int x2), (3, .int x3)] [] := by
  intro n
  induction n with
  | zero => intro st x1 x2 x3 h; exact h.elim
  | succ n hK8 =>
    intro st x1 x2 x3 h
    rw [w_X0_pointsBy_l8] at h
    refine X_iload_n C dX0_pointsBy_8 rfl 3 rfl ?_
    refine X_aload_n C dX0_pointsBy_9 rfl 0 rfl (isRV_r _) ?_
    refine X_getF (ci := 0) (j := 1) (q := (RX0, TX0, 49)) C rfl (by decide) q261 rfl dX0_pointsBy_10 (b := 2) (LX_S hX (k := 0) rfl) (LX_F hX (k := 0) (j := 1) rfl) rfl ?_
    refine X_getNS (ci := 1) (j := 9) (q := (RX1, TX1, 10)) C rfl (by decide) q207 rfl dX0_pointsBy_13 (LH_0 (LX_H2 hX)) (v := .int (sI st 2 9)) rfl ?_
    refine X_icmp_ge (tgt := 87) C dX0_pointsBy_16 (by decide) (fun c9 => ?_) (fun c9 => ?_)
    · have h := h.1 c9
      refine X_sub [2] (lo2 := [(2, _)]) rfl ?_
      exact hE87 st x2 h
    · have h := h.2 c9
      refine X_aload_n C dX0_pointsBy_19 rfl 0 rfl (isRV_r _) ?_
      refine X_iload_n C dX0_pointsBy_20 rfl 3 rfl ?_
      refine X_callVS (ci := 0) (q := (RX0, TX0, 49)) (As := [_]) (rest := []) C rfl (LX_S hX (k := 0) rfl) q833 q835 qs25 q132 q836 ⟨rfl, nm_X0_hullOf⟩ rfl dX0_pointsBy_21 (m_X0_hullOf (Cx_l C) hX (d := d - 1) (by omega) st x3 h) (by omega) (by decide) (Nat.le_of_ble_eq_true rfl) (fun s11 w12 hE13 hP14 => ?_) (fun s17 E15 q16 hE13 hP14 => ?_)
      rotate_left
      · rcases hP14 with ⟨rfl, h⟩
        exact XT_out C rfl (ha s17 q16 h)
      obtain ⟨r10, rfl, hb18, hs19, h⟩ := hP14
      refine X_tls ?_
      refine X_astore C dX0_pointsBy_24 (isRV_r _) (lo2 := [(4, _), (0, _), (1, _), (2, _), (3, _)]) (by decide) rfl ?_
      refine X_iload_n C dX0_pointsBy_26 rfl 2 rfl ?_
      refine X_if_eq (tgt := 51) C dX0_pointsBy_27 (by decide) (fun c20 => ?_) (fun c20 => ?_)
      · have h := h.1 c20
        refine X_aload_n C dX0_pointsBy_51 rfl 1 rfl (isRV_r _) ?_
        refine X_getS (ci := 0) (j := 23) (q := (RX0, TX0, 49)) C rfl (by decide) q283 rfl dX0_pointsBy_52 (LX_S hX (k := 0) rfl) (v := .int (sI s11 0 23)) rfl ?_
        refine X_iconst (v := 1) C dX0_pointsBy_55 rfl ?_
        refine X_icmp_ne (tgt := 63) C dX0_pointsBy_56 (by decide) (fun c21 => ?_) (fun c21 => ?_)
        · have h := h.1 c21
          refine X_iconst (v := 0) C dX0_pointsBy_63 rfl ?_
          refine X_sub [1, 2, 3, 4] (lo2 := [(0, _), (1, _), (2, _), (3, _)]) rfl ?_
          exact t_X0_pointsBy_b64 hX hd C hn hw ha hK8 s11 x1 x2 x3 0 h
        · have h := h.2 c21
          refine X_iconst (v := 1) C dX0_pointsBy_59 rfl ?_
          refine X_goto (tgt := 64) C dX0_pointsBy_60 (by decide) ?_
          refine X_sub [1, 2, 3, 4] (lo2 := [(0, _), (1, _), (2, _), (3, _)]) rfl ?_
          exact t_X0_pointsBy_b64 hX hd C hn hw ha hK8 s11 x1 x2 x3 1 h
      · have h := h.2 c20
        refine X_aload_n C dX0_pointsBy_30 rfl 1 rfl (isRV_r _) ?_
        refine X_getF (ci := 0) (j := 29) (q := (RX0, TX0, 49)) C rfl (by decide) q289 rfl dX0_pointsBy_31 (b := 143) (LX_S hX (k := 0) rfl) (LX_F hX (k := 0) (j := 29) rfl) rfl ?_
        refine X_aload C dX0_pointsBy_34 0 rfl (isRV_r _) ?_
        refine X_aload_n C dX0_pointsBy_36 rfl 1 rfl (isRV_r _) ?_
        refine X_getF (ci := 0) (j := 18) (q := (RX0, TX0, 49)) C rfl (by decide) q278 rfl dX0_pointsBy_37 (b := 133) (LX_S hX (k := 0) rfl) (LX_F hX (k := 0) (j := 18) rfl) rfl ?_
        refine X_iload_n C dX0_pointsBy_40 rfl 4 rfl ?_
        have g25 := h.1
        have h := h.2
        refine X_aaldF C 9 rfl (LX_S hX (k := 133) rfl) (by decide) rfl (LX_L hX (k := 133) rfl) g25 rfl (b := (149 + x3.toNatClampNeg)) (LXf_worth hX (i := x3.toNatClampNeg) (in_lt g25)).2 dX0_pointsBy_41 rfl ?_
        refine X_sh (LX_S hX (k := 143) rfl) (by decide) (fun hs26 hb27 => ?_)
        refine X_sh (LXf_worth hX (i := x3.toNatClampNeg) (in_lt g25)).1 (by decide) (fun hs28 hb29 => ?_)
        refine X_callV (ci := 2) (q := (RX2, TX2, 2)) (As := [_, _]) (rest := []) C rfl hs26 q841 q842 q843 q134 q844 ⟨rfl, nm_X2_less⟩ rfl dX0_pointsBy_42 (m_X2_less (Cx_l C) (d := d - 1) (by omega) s11 143 r10 (149 + x3.toNatClampNeg) hs26 hb27 hs19 hb18 hs28 hb29 h) (by omega) (by decide) (Nat.le_of_ble_eq_true rfl) (fun s31 w32 hE33 hP34 => ?_) (fun s37 E35 q36 hE33 hP34 => ?_)
        rotate_left
        · rcases hP34 with ⟨rfl, h⟩
          exact XT_out C rfl (ha s37 q36 h)
        obtain ⟨r30, rfl, hb38, hs39, h⟩ := hP34
        refine X_tls ?_
        have hs19 := Ext_sh hE33 hs19 (by decide)
        refine X_callV (ci := 2) (q := (RX2, TX2, 2)) (As := []) (rest := []) C rfl hs39 q786 q787 q788 q134 q789 ⟨rfl, nm_X2_isAbove⟩ rfl dX0_pointsBy_45 (m_X2_isAbove (Cx_l C) (d := d - 1) (by omega) s31 r30 hs39 hb38 h) (by omega) (by decide) (Nat.le_of_ble_eq_true rfl) (fun s46 w41 hE42 hP43 => ?_) (fun s47 E44 q45 hE42 hP43 => ?_)
        rotate_left
        · exact False.elim hP43
        obtain ⟨r40, rfl, rfl, h⟩ := hP43
        refine X_tls ?_
        refine X_goto (tgt := 64) C dX0_pointsBy_48 (by decide) ?_
        refine X_sub [1, 2, 3, 4] (lo2 := [(0, _), (1, _), (2, _), (3, _)]) rfl ?_
        exact t_X0_pointsBy_b64 hX hd C hn hw ha hK8 s31 x1 x2 x3 r40 h
def w_X0_pointsBy_b87 (Φ : St → Int32 → Prop) (Φw : St → Nat → Prop) (Φa : St → Prop) (st : St) (x2 : Int32) : Prop := Φ st x2
theorem t_X0_pointsBy_b87 {θ : Th} {κ : Kx} {Ph : Ph} (hX : LX θ) {d : Nat} (hd : 7 ≤ d) (C : Cx θ κ yX0_pointsBy cX0_pointsBy 6 (some Jvm.ClassFile.FieldType.int) [] d) {Φ : St → Int32 → Prop} {Φw : St → Nat → Prop} {Φa : St → Prop} (hn : ∀ st r, Φ st r → Ph.1 st (some (.int r))) (hw : ∀ st a, a < gBIG → sh st a = 6 → Φw st a → Ph.2 st "SecretsWorth$Wrong" (ad θ a)) (ha : ∀ st q, Φa st → Ph.2 st "java/lang/ArithmeticException" q) (st : St) (x2 : Int32) (h : w_X0_pointsBy_b87 Φ Φw Φa st x2) : X θ κ Ph st 87 [(2, .int x2)] [] := by
  unfold w_X0_pointsBy_b87 at h
  refine X_iload_n C dX0_pointsBy_87 rfl 0 rfl ?_
  exact X_iret C rfl dX0_pointsBy_88 (hn st _ h)
def w_X0_pointsBy (st : St) (p1 : Int32) (Φ : St → Int32 → Prop) (Φw : St → Nat → Prop) (Φa : St → Prop) : Prop := w_X0_allWorths st (fun (s2 : St) => w_X0_pointsBy_l8 Φ Φw Φa (fun (s48 : St) (x2 : Int32) => w_X0_pointsBy_b87 Φ Φw Φa s48 x2) gFU s2 p1 0 0) Φw Φa
theorem nm_X0_pointsBy : yX0_pointsBy.cls ≠ "java/lang/invoke/MethodHandle" ∧ yX0_pointsBy.cls ≠ "java/lang/invoke/VarHandle" ∧ (parseMethodDescriptor yX0_pointsBy.desc).map (fun d => d.parameters.length) = some 1 := by decide +kernel
theorem e_X0_pointsBy : plainFor yX0_pointsBy = true := plainFor_of_name (by decide +kernel)
theorem m_X0_pointsBy {θ : Th} {l : Launch} (hl0 : l.stackTraces = false) (hX : LX θ) {d : Nat} (hd : 7 ≤ d) (st : St) (p1 : Int32) {Φ : St → Int32 → Prop} {Φw : St → Nat → Prop} {Φa : St → Prop} (h : w_X0_pointsBy st p1 Φ Φw Φa) : Ct θ l yX0_pointsBy (ws_ yX0_pointsBy cX0_pointsBy 6 (some Jvm.ClassFile.FieldType.int)) d [.ref (ad θ 0), .int p1] st (pI Φ, (exOr (exW θ Φw) (exA Φa))) := by
  refine Ct_entry hl0 e_X0_pointsBy (Nat.le_of_ble_eq_true rfl) (fun κ hκ _ C => ?_)
  have hn : ∀ st r, Φ st r → ((pI Φ, (exOr (exW θ Φw) (exA Φa))) : Ph).1 st (some (.int r)) := fun st r q => ⟨r, rfl, q⟩
  have hw : ∀ st a, a < gBIG → sh st a = 6 → Φw st a → ((pI Φ, (exOr (exW θ Φw) (exA Φa))) : Ph).2 st "SecretsWorth$Wrong" (ad θ a) := fun st a q1 q2 q => Or.inl ⟨rfl, a, rfl, q1, q2, q⟩
  have ha : ∀ st q, Φa st → ((pI Φ, (exOr (exW θ Φw) (exA Φa))) : Ph).2 st "java/lang/ArithmeticException" q := fun st q2 q => Or.inr (⟨rfl, q⟩)
  change X _ _ _ _ _ [(0, .ref (ad θ 0)), (1, .int p1)] _
  unfold w_X0_pointsBy at h
  refine X_aload_n C dX0_pointsBy_0 rfl 0 rfl (isRV_r _) ?_
  refine X_callVS (ci := 0) (q := (RX0, TX0, 49)) (As := []) (rest := []) C rfl (LX_S hX (k := 0) rfl) q790 q792 qs21 q132 q793 ⟨rfl, nm_X0_allWorths⟩ rfl dX0_pointsBy_1 (m_X0_allWorths (Cx_l C) hX (d := d - 1) (by omega) st h) (by omega) (by decide) (Nat.le_of_ble_eq_true rfl) (fun s2 w3 hE4 hP5 => ?_) (fun s8 E6 q7 hE4 hP5 => ?_)
  rotate_left
  · rcases hP5 with ⟨rfl, a_, rfl, hb_, hs_, h⟩ | ⟨rfl, h⟩
    · exact XT_out C rfl (hw s8 a_ hb_ hs_ h)
    · exact XT_out C rfl (ha s8 q7 h)
  obtain ⟨rfl, h⟩ := hP5
  refine X_tln ?_
  refine X_iconst (v := 0) C dX0_pointsBy_4 rfl ?_
  refine X_istore_n C dX0_pointsBy_5 rfl (lo2 := [(2, _), (0, _), (1, _)]) (by decide) rfl ?_
  refine X_iconst (v := 0) C dX0_pointsBy_6 rfl ?_
  refine X_istore_n C dX0_pointsBy_7 rfl (lo2 := [(3, _), (2, _), (0, _), (1, _)]) (by decide) rfl ?_
  refine X_sub [2, 3, 1, 0] (lo2 := [(0, _), (1, _), (2, _), (3, _)]) rfl ?_
  refine t_X0_pointsBy_l8 hX hd C hn hw ha ?_ gFU s2 p1 0 0 h
  · intro s48 x2 h
    exact t_X0_pointsBy_b87 hX hd C hn hw ha s48 x2 h

def w_X0_points_b53 (Φ : St → Int32 → Prop) (st : St) (x1 : Int32) (x2 : Int32) (z0 : Int32) : Prop := w_X0_need st z0 2 (fun (s62 : St) => ((x1 ≠ 2) → w_J7_bitCount x2 (fun (r82 : Int32) => Φ s62 r82)) ∧ ((x1 = 2) → w_J7_numberOfTrailingZeros x2 (fun (r90 : Int32) => Φ s62 r90))) (fun (s63 : St) (a64 : Nat) => w_X0_answers s63 a64 (fun (s68 : St) (r67 : Int32) => Φ s68 r67))
theorem t_X0_points_b53 {θ : Th} {κ : Kx} {Ph : Ph} (hX : LX θ) {d : Nat} (hd : 8 ≤ d) (C : Cx θ κ yX0_points cX0_points 3 (some Jvm.ClassFile.FieldType.int) [(0, 23, 74, 377), (24, 73, 74, 377), (0, 23, 80, 1), (24, 73, 80, 1)] d) {Φ : St → Int32 → Prop} (hn : ∀ st r, Φ st r → Ph.1 st (some (.int r))) (st : St) (x1 : Int32) (x2 : Int32) (z0 : Int32) (h : w_X0_points_b53 Φ st x1 x2 z0) : X θ κ Ph st 53 [(0, .ref (ad θ 0)), (1, .int x1), (2, .int x2)] [.int z0] := by
  unfold w_X0_points_b53 at h
  refine X_iconst (v := 2) C dX0_points_53 rfl ?_
  refine X_callS (As := [_, _]) (rest := []) C q421 q422 q132 q423 nm_X0_need rfl dX0_points_54 (m_X0_need (Cx_l C) hX (d := d - 1) (by omega) st z0 2 h) (by omega) (by decide) (Nat.le_of_ble_eq_true rfl) (fun s62 w75 hE76 hP77 => ?_) (fun s80 E78 q79 hE76 hP77 => ?_)
  rotate_left
  · rcases hP77 with ⟨rfl, a_, rfl, hb_, hs_, h⟩
    refine XT_catch C [⟨0, 23, 74, 377⟩, ⟨24, 73, 74, 377⟩, ⟨0, 23, 80, 1⟩] ⟨24, 73, 80, 1⟩ [] rfl (List.forall_mem_cons.mpr ⟨Or.inl (by decide), (List.forall_mem_cons.mpr ⟨Or.inr ⟨by decide, "java/lang/ArithmeticException", q762, by decide +kernel⟩, (List.forall_mem_cons.mpr ⟨Or.inl (by decide), (fun _ h => absurd h List.not_mem_nil)⟩)⟩)⟩) (by decide) (by decide) q412 q425 ?_
    refine X_astore_n C dX0_points_80 rfl (isRV_r _) (lo2 := [(2, _), (0, _), (1, _)]) (by decide) rfl ?_
    refine X_aload_n C dX0_points_81 rfl 1 rfl (isRV_r _) ?_
    refine X_aload_n C dX0_points_82 rfl 0 rfl (isRV_r _) ?_
    refine X_callVS (ci := 0) (q := (RX0, TX0, 49)) (As := [_]) (rest := []) C rfl (LX_S hX (k := 0) rfl) q512 q514 qs4 q132 q515 ⟨rfl, nm_X0_answers⟩ rfl dX0_points_83 (m_X0_answers (Cx_l C) hX (d := d - 1) (by omega) s80 a_ hs_ hb_ h) (by omega) (by decide) (Nat.le_of_ble_eq_true rfl) (fun s68 w69 hE70 hP71 => ?_) (fun s74 E72 q73 hE70 hP71 => ?_)
    rotate_left
    · exact False.elim hP71
    obtain ⟨r67, rfl, h⟩ := hP71
    refine X_tls ?_
    have hs_ := Ext_sh hE70 hs_ (by decide)
    exact X_iret C rfl dX0_points_86 (hn s68 _ h)
  obtain ⟨rfl, h⟩ := hP77
  refine X_tln ?_
  refine X_iload_n C dX0_points_57 rfl 1 rfl ?_
  refine X_iconst (v := 2) C dX0_points_58 rfl ?_
  refine X_icmp_ne (tgt := 69) C dX0_points_59 (by decide) (fun c81 => ?_) (fun c81 => ?_)
  · have h := h.1 c81
    refine X_iload_n C dX0_points_69 rfl 2 rfl ?_
    refine X_callS (As := [_]) (rest := []) C q692 q693 q146 q694 nm_J7_bitCount rfl dX0_points_70 (m_J7_bitCount (Cx_l C) (d := d - 1) (by omega) s62 x2 h) (by omega) (by decide) (Nat.le_of_ble_eq_true rfl) (fun s88 w83 hE84 hP85 => ?_) (fun s89 E86 q87 hE84 hP85 => ?_)
    rotate_left
    · exact False.elim hP85
    obtain ⟨r82, rfl, rfl, h⟩ := hP85
    refine X_tls ?_
    exact X_iret C rfl dX0_points_73 (hn s62 _ h)
  · have h := h.2 c81
    refine X_iload_n C dX0_points_62 rfl 2 rfl ?_
    refine X_callS (As := [_]) (rest := []) C q676 q677 q146 q678 nm_J7_numberOfTrailingZeros rfl dX0_points_63 (m_J7_numberOfTrailingZeros (Cx_l C) (d := d - 1) (by omega) s62 x2 h) (by omega) (by decide) (Nat.le_of_ble_eq_true rfl) (fun s96 w91 hE92 hP93 => ?_) (fun s97 E94 q95 hE92 hP93 => ?_)
    rotate_left
    · exact False.elim hP93
    obtain ⟨r90, rfl, rfl, h⟩ := hP93
    refine X_tls ?_
    refine X_goto (tgt := 73) C dX0_points_66 (by decide) ?_
    exact X_iret C rfl dX0_points_73 (hn s62 _ h)
def w_X0_points_b48 (Φ : St → Int32 → Prop) (st : St) (x1 : Int32) (x2 : Int32) : Prop := w_X0_points_b53 Φ st x1 x2 1
theorem t_X0_points_b48 {θ : Th} {κ : Kx} {Ph : Ph} (hX : LX θ) {d : Nat} (hd : 8 ≤ d) (C : Cx θ κ yX0_points cX0_points 3 (some Jvm.ClassFile.FieldType.int) [(0, 23, 74, 377), (24, 73, 74, 377), (0, 23, 80, 1), (24, 73, 80, 1)] d) {Φ : St → Int32 → Prop} (hn : ∀ st r, Φ st r → Ph.1 st (some (.int r))) (st : St) (x1 : Int32) (x2 : Int32) (h : w_X0_points_b48 Φ st x1 x2) : X θ κ Ph st 48 [(0, .ref (ad θ 0)), (1, .int x1), (2, .int x2)] [] := by
  unfold w_X0_points_b48 at h
  refine X_iconst (v := 1) C dX0_points_48 rfl ?_
  refine X_goto (tgt := 53) C dX0_points_49 (by decide) ?_
  exact t_X0_points_b53 hX hd C hn st x1 x2 1 h
def w_X0_points_b35 (Φ : St → Int32 → Prop) (st : St) (x1 : Int32) (z0 : Int32) : Prop := w_X0_pointsBy st z0 (fun (s32 : St) (r31 : Int32) => ((x1 ≠ 2) → w_X0_points_b48 Φ s32 x1 r31) ∧ ((x1 = 2) → ((r31 = 0) → w_X0_points_b53 Φ s32 x1 r31 0) ∧ ((¬ r31 = 0) → w_X0_points_b48 Φ s32 x1 r31))) (fun (s33 : St) (a34 : Nat) => w_X0_answers s33 a34 (fun (s38 : St) (r37 : Int32) => Φ s38 r37)) (fun (s45 : St) => w_X0_isBig s45 (fun (s47 : St) (r46 : Int32) => Φ s47 r46))
theorem t_X0_points_b35 {θ : Th} {κ : Kx} {Ph : Ph} (hX : LX θ) {d : Nat} (hd : 8 ≤ d) (C : Cx θ κ yX0_points cX0_points 3 (some Jvm.ClassFile.FieldType.int) [(0, 23, 74, 377), (24, 73, 74, 377), (0, 23, 80, 1), (24, 73, 80, 1)] d) {Φ : St → Int32 → Prop} (hn : ∀ st r, Φ st r → Ph.1 st (some (.int r))) (st : St) (x1 : Int32) (z0 : Int32) (h : w_X0_points_b35 Φ st x1 z0) : X θ κ Ph st 35 [(0, .ref (ad θ 0)), (1, .int x1)] [.int z0, .ref (ad θ 0)] := by
  unfold w_X0_points_b35 at h
  refine X_callVS (ci := 0) (q := (RX0, TX0, 49)) (As := [_]) (rest := []) C rfl (LX_S hX (k := 0) rfl) q872 q874 qs30 q132 q875 ⟨rfl, nm_X0_pointsBy⟩ rfl dX0_points_35 (m_X0_pointsBy (Cx_l C) hX (d := d - 1) (by omega) st z0 h) (by omega) (by decide) (Nat.le_of_ble_eq_true rfl) (fun s32 w54 hE55 hP56 => ?_) (fun s59 E57 q58 hE55 hP56 => ?_)
  rotate_left
  · rcases hP56 with ⟨rfl, a_, rfl, hb_, hs_, h⟩ | ⟨rfl, h⟩
    · refine XT_catch C [⟨0, 23, 74, 377⟩, ⟨24, 73, 74, 377⟩, ⟨0, 23, 80, 1⟩] ⟨24, 73, 80, 1⟩ [] rfl (List.forall_mem_cons.mpr ⟨Or.inl (by decide), (List.forall_mem_cons.mpr ⟨Or.inr ⟨by decide, "java/lang/ArithmeticException", q762, by decide +kernel⟩, (List.forall_mem_cons.mpr ⟨Or.inl (by decide), (fun _ h => absurd h List.not_mem_nil)⟩)⟩)⟩) (by decide) (by decide) q412 q425 ?_
      refine X_astore_n C dX0_points_80 rfl (isRV_r _) (lo2 := [(2, _), (0, _), (1, _)]) (by decide) rfl ?_
      refine X_aload_n C dX0_points_81 rfl 1 rfl (isRV_r _) ?_
      refine X_aload_n C dX0_points_82 rfl 0 rfl (isRV_r _) ?_
      refine X_callVS (ci := 0) (q := (RX0, TX0, 49)) (As := [_]) (rest := []) C rfl (LX_S hX (k := 0) rfl) q512 q514 qs4 q132 q515 ⟨rfl, nm_X0_answers⟩ rfl dX0_points_83 (m_X0_answers (Cx_l C) hX (d := d - 1) (by omega) s59 a_ hs_ hb_ h) (by omega) (by decide) (Nat.le_of_ble_eq_true rfl) (fun s38 w39 hE40 hP41 => ?_) (fun s44 E42 q43 hE40 hP41 => ?_)
      rotate_left
      · exact False.elim hP41
      obtain ⟨r37, rfl, h⟩ := hP41
      refine X_tls ?_
      have hs_ := Ext_sh hE40 hs_ (by decide)
      exact X_iret C rfl dX0_points_86 (hn s38 _ h)
    · refine XT_catch C [⟨0, 23, 74, 377⟩] ⟨24, 73, 74, 377⟩ [⟨0, 23, 80, 1⟩, ⟨24, 73, 80, 1⟩] rfl (List.forall_mem_cons.mpr ⟨Or.inl (by decide), (fun _ h => absurd h List.not_mem_nil)⟩) (by decide) (by decide) q762 q724 ?_
      refine X_astore_n C dX0_points_74 rfl (isRV_r _) (lo2 := [(2, _), (0, _), (1, _)]) (by decide) rfl ?_
      refine X_aload_n C dX0_points_75 rfl 1 rfl (isRV_r _) ?_
      refine X_callVS (ci := 0) (q := (RX0, TX0, 49)) (As := []) (rest := []) C rfl (LX_S hX (k := 0) rfl) q860 q862 qs29 q132 q863 ⟨rfl, nm_X0_isBig⟩ rfl dX0_points_76 (m_X0_isBig (Cx_l C) hX (d := d - 1) (by omega) s59 h) (by omega) (by decide) (Nat.le_of_ble_eq_true rfl) (fun s47 w48 hE49 hP50 => ?_) (fun s53 E51 q52 hE49 hP50 => ?_)
      rotate_left
      · exact False.elim hP50
      obtain ⟨r46, rfl, h⟩ := hP50
      refine X_tls ?_
      exact X_iret C rfl dX0_points_79 (hn s47 _ h)
  obtain ⟨r31, rfl, h⟩ := hP56
  refine X_tls ?_
  refine X_istore_n C dX0_points_38 rfl (lo2 := [(2, _), (0, _), (1, _)]) (by decide) rfl ?_
  refine X_iload_n C dX0_points_39 rfl 2 rfl ?_
  refine X_iconst (v := 2) C dX0_points_40 rfl ?_
  refine X_icmp_ne (tgt := 48) C dX0_points_41 (by decide) (fun c60 => ?_) (fun c60 => ?_)
  · have h := h.1 c60
    refine X_sub [1, 2, 0] (lo2 := [(0, _), (1, _), (2, _)]) rfl ?_
    exact t_X0_points_b48 hX hd C hn s32 x1 r31 h
  · have h := h.2 c60
    refine X_iload_n C dX0_points_44 rfl 0 rfl ?_
    refine X_if_eq (tgt := 52) C dX0_points_45 (by decide) (fun c98 => ?_) (fun c98 => ?_)
    · have h := h.1 c98
      refine X_iconst (v := 0) C dX0_points_52 rfl ?_
      refine X_sub [1, 2, 0] (lo2 := [(0, _), (1, _), (2, _)]) rfl ?_
      exact t_X0_points_b53 hX hd C hn s32 x1 r31 0 h
    · have h := h.2 c98
      refine X_sub [1, 2, 0] (lo2 := [(0, _), (1, _), (2, _)]) rfl ?_
      exact t_X0_points_b48 hX hd C hn s32 x1 r31 h
def w_X0_points (st : St) (p1 : Int32) (Φ : St → Int32 → Prop) : Prop := w_X0_in p1.toInt64 0 3 (fun (r1 : Int32) => w_X0_must st r1 (fun (s10 : St) => ((p1 ≠ 0) → ((3 ≤ p1) → w_X0_points_b35 Φ s10 p1 0) ∧ ((¬ 3 ≤ p1) → w_X0_points_b35 Φ s10 p1 1)) ∧ ((p1 = 0) → Φ s10 (sI s10 2 9))) (fun (s11 : St) (a12 : Nat) => w_X0_answers s11 a12 (fun (s16 : St) (r15 : Int32) => Φ s16 r15)))
theorem nm_X0_points : yX0_points.cls ≠ "java/lang/invoke/MethodHandle" ∧ yX0_points.cls ≠ "java/lang/invoke/VarHandle" ∧ (parseMethodDescriptor yX0_points.desc).map (fun d => d.parameters.length) = some 1 := by decide +kernel
theorem e_X0_points : plainFor yX0_points = true := plainFor_of_name (by decide +kernel)
theorem m_X0_points {θ : Th} {l : Launch} (hl0 : l.stackTraces = false) (hX : LX θ) {d : Nat} (hd : 8 ≤ d) (st : St) (p1 : Int32) {Φ : St → Int32 → Prop} (h : w_X0_points st p1 Φ) : Ct θ l yX0_points (wsW_ yX0_points cX0_points 3 (some Jvm.ClassFile.FieldType.int) [(0, 23, 74, 377), (24, 73, 74, 377), (0, 23, 80, 1), (24, 73, 80, 1)]) d [.ref (ad θ 0), .int p1] st (pI Φ, noX) := by
  refine Ct_entryW hl0 e_X0_points (Nat.le_of_ble_eq_true rfl) (fun κ hκ _ C => ?_)
  have hn : ∀ st r, Φ st r → ((pI Φ, noX) : Ph).1 st (some (.int r)) := fun st r q => ⟨r, rfl, q⟩
  change X _ _ _ _ _ [(0, .ref (ad θ 0)), (1, .int p1)] _
  unfold w_X0_points at h
  refine X_iload_n C dX0_points_0 rfl 1 rfl ?_
  refine X_i2l C dX0_points_1 ?_
  refine X_lconst (v := 0) C dX0_points_2 rfl ?_
  refine X_ldc2 C q414 dX0_points_3 ?_
  refine X_callS (As := [_, _, _]) (rest := []) C q415 q416 q132 q417 nm_X0_in rfl dX0_points_6 (m_X0_in (Cx_l C) (d := d - 1) (by omega) st p1.toInt64 0 3 h) (by omega) (by decide) (Nat.le_of_ble_eq_true rfl) (fun s7 w2 hE3 hP4 => ?_) (fun s8 E5 q6 hE3 hP4 => ?_)
  rotate_left
  · exact False.elim hP4
  obtain ⟨r1, rfl, rfl, h⟩ := hP4
  refine X_tls ?_
  refine X_callS (As := [_]) (rest := []) C q418 q419 q132 q420 nm_X0_must rfl dX0_points_9 (m_X0_must (Cx_l C) hX (d := d - 1) (by omega) st r1 h) (by omega) (by decide) (Nat.le_of_ble_eq_true rfl) (fun s10 w23 hE24 hP25 => ?_) (fun s28 E26 q27 hE24 hP25 => ?_)
  rotate_left
  · rcases hP25 with ⟨rfl, a_, rfl, hb_, hs_, h⟩
    refine XT_catch C [⟨0, 23, 74, 377⟩, ⟨24, 73, 74, 377⟩] ⟨0, 23, 80, 1⟩ [⟨24, 73, 80, 1⟩] rfl (List.forall_mem_cons.mpr ⟨Or.inr ⟨by decide, "java/lang/ArithmeticException", q762, by decide +kernel⟩, (List.forall_mem_cons.mpr ⟨Or.inl (by decide), (fun _ h => absurd h List.not_mem_nil)⟩)⟩) (by decide) (by decide) q412 q425 ?_
    refine X_astore_n C dX0_points_80 rfl (isRV_r _) (lo2 := [(2, _), (0, _), (1, _)]) (by decide) rfl ?_
    refine X_aload_n C dX0_points_81 rfl 1 rfl (isRV_r _) ?_
    refine X_aload_n C dX0_points_82 rfl 0 rfl (isRV_r _) ?_
    refine X_callVS (ci := 0) (q := (RX0, TX0, 49)) (As := [_]) (rest := []) C rfl (LX_S hX (k := 0) rfl) q512 q514 qs4 q132 q515 ⟨rfl, nm_X0_answers⟩ rfl dX0_points_83 (m_X0_answers (Cx_l C) hX (d := d - 1) (by omega) s28 a_ hs_ hb_ h) (by omega) (by decide) (Nat.le_of_ble_eq_true rfl) (fun s16 w17 hE18 hP19 => ?_) (fun s22 E20 q21 hE18 hP19 => ?_)
    rotate_left
    · exact False.elim hP19
    obtain ⟨r15, rfl, h⟩ := hP19
    refine X_tls ?_
    have hs_ := Ext_sh hE18 hs_ (by decide)
    exact X_iret C rfl dX0_points_86 (hn s16 _ h)
  obtain ⟨rfl, h⟩ := hP25
  refine X_tln ?_
  refine X_iload_n C dX0_points_12 rfl 1 rfl ?_
  refine X_if_ne (tgt := 24) C dX0_points_13 (by decide) (fun c29 => ?_) (fun c29 => ?_)
  · have h := h.1 c29
    refine X_aload_n C dX0_points_24 rfl 0 rfl (isRV_r _) ?_
    refine X_iload_n C dX0_points_25 rfl 1 rfl ?_
    refine X_iconst (v := 3) C dX0_points_26 rfl ?_
    refine X_icmp_ge (tgt := 34) C dX0_points_27 (by decide) (fun c30 => ?_) (fun c30 => ?_)
    · have h := h.1 c30
      refine X_iconst (v := 0) C dX0_points_34 rfl ?_
      exact t_X0_points_b35 hX hd C hn s10 p1 0 h
    · have h := h.2 c30
      refine X_iconst (v := 1) C dX0_points_30 rfl ?_
      refine X_goto (tgt := 35) C dX0_points_31 (by decide) ?_
      exact t_X0_points_b35 hX hd C hn s10 p1 1 h
  · have h := h.2 c29
    refine X_aload_n C dX0_points_16 rfl 0 rfl (isRV_r _) ?_
    refine X_getF (ci := 0) (j := 1) (q := (RX0, TX0, 49)) C rfl (by decide) q261 rfl dX0_points_17 (b := 2) (LX_S hX (k := 0) rfl) (LX_F hX (k := 0) (j := 1) rfl) rfl ?_
    refine X_getNS (ci := 1) (j := 9) (q := (RX1, TX1, 10)) C rfl (by decide) q207 rfl dX0_points_20 (LH_0 (LX_H2 hX)) (v := .int (sI s10 2 9)) rfl ?_
    exact X_iret C rfl dX0_points_23 (hn s10 _ h)

def w_X0_isFlat (st0 : St) (Φ : Int32 → Prop) : Prop := (((sI st0 2 0) ≠ 3) → Φ 0) ∧ (((sI st0 2 0) = 3) → vp_in (sI st0 136 0) 15 ∧ vp_in (sI st0 136 1) 15 ∧ vp_in (sI st0 136 2) 15 ∧ w_X0_cross st0 (2 + (16 + (sI st0 136 0).toNatClampNeg)) (2 + (16 + (sI st0 136 1).toNatClampNeg)) (2 + (16 + (sI st0 136 2).toNatClampNeg)) (fun (r14 : Int32) => ((r14 ≠ 0) → Φ 0) ∧ ((r14 = 0) → Φ 1)))
theorem nm_X0_isFlat : yX0_isFlat.cls ≠ "java/lang/invoke/MethodHandle" ∧ yX0_isFlat.cls ≠ "java/lang/invoke/VarHandle" ∧ (parseMethodDescriptor yX0_isFlat.desc).map (fun d => d.parameters.length) = some 0 := by decide +kernel
theorem e_X0_isFlat : plainFor yX0_isFlat = true := plainFor_of_name (by decide +kernel)
theorem m_X0_isFlat {θ : Th} {l : Launch} (hl0 : l.stackTraces = false) (hX : LX θ) {d : Nat} (hd : 1 ≤ d) (st0 : St) {Φ : Int32 → Prop} (h : w_X0_isFlat st0 Φ) : Ct θ l yX0_isFlat (ws_ yX0_isFlat cX0_isFlat 1 (some Jvm.ClassFile.FieldType.boolean)) d [.ref (ad θ 0)] st0 (rI st0 Φ, noX) := by
  refine Ct_entry hl0 e_X0_isFlat (Nat.le_of_ble_eq_true rfl) (fun κ hκ _ C => ?_)
  have hn : ∀ r, Φ r → ((rI st0 Φ, noX) : Ph).1 st0 (some (.int r)) := fun r q => ⟨r, rfl, rfl, q⟩
  change X _ _ _ _ _ [(0, .ref (ad θ 0))] _
  unfold w_X0_isFlat at h
  refine X_aload_n C dX0_isFlat_0 rfl 0 rfl (isRV_r _) ?_
  refine X_getF (ci := 0) (j := 1) (q := (RX0, TX0, 49)) C rfl (by decide) q261 rfl dX0_isFlat_1 (b := 2) (LX_S hX (k := 0) rfl) (LX_F hX (k := 0) (j := 1) rfl) rfl ?_
  refine X_getNS (ci := 1) (j := 0) (q := (RX1, TX1, 10)) C rfl (by decide) q189 rfl dX0_isFlat_4 (LH_0 (LX_H2 hX)) (v := .int (sI st0 2 0)) rfl ?_
  refine X_iconst (v := 3) C dX0_isFlat_7 rfl ?_
  refine X_icmp_ne (tgt := 63) C dX0_isFlat_8 (by decide) (fun c1 => ?_) (fun c1 => ?_)
  · have h := h.1 c1
    refine X_iconst (v := 0) C dX0_isFlat_63 rfl ?_
    exact X_zret C rfl rfl dX0_isFlat_64 (hn _ h)
  · have h := h.2 c1
    refine X_aload_n C dX0_isFlat_11 rfl 0 rfl (isRV_r _) ?_
    refine X_getF (ci := 0) (j := 1) (q := (RX0, TX0, 49)) C rfl (by decide) q261 rfl dX0_isFlat_12 (b := 2) (LX_S hX (k := 0) rfl) (LX_F hX (k := 0) (j := 1) rfl) rfl ?_
    refine X_getNF (ci := 1) (j := 8) (q := (RX1, TX1, 10)) C rfl (by decide) q205 rfl dX0_isFlat_15 (b := (2 + 15)) (LH_0 (LX_H2 hX)) (LH_F (LX_H2 hX) (k := 0) (j := 8) rfl) rfl ?_
    refine X_aload_n C dX0_isFlat_18 rfl 0 rfl (isRV_r _) ?_
    refine X_getF (ci := 0) (j := 21) (q := (RX0, TX0, 49)) C rfl (by decide) q281 rfl dX0_isFlat_19 (b := 136) (LX_S hX (k := 0) rfl) (LX_F hX (k := 0) (j := 21) rfl) rfl ?_
    refine X_iconst (v := 0) C dX0_isFlat_22 rfl ?_
    refine X_ialdS C (LX_S hX (k := 136) rfl) (LX_L hX (k := 136) rfl) (vp_dec rfl) rfl dX0_isFlat_23 ?_
    have g2 := h.1
    have h := h.2
    refine X_aaldF C 6 rfl (LH_S (LX_H2 hX) (k := 15) rfl) (by decide) rfl (LH_L (LX_H2 hX) (k := 15) rfl) g2 rfl (b := (2 + (16 + (sI st0 136 0).toNatClampNeg))) (LHf_give (LX_H2 hX) (i := (sI st0 136 0).toNatClampNeg) (in_lt g2)).2.2 dX0_isFlat_24 rfl ?_
    refine X_aload_n C dX0_isFlat_25 rfl 0 rfl (isRV_r _) ?_
    refine X_getF (ci := 0) (j := 1) (q := (RX0, TX0, 49)) C rfl (by decide) q261 rfl dX0_isFlat_26 (b := 2) (LX_S hX (k := 0) rfl) (LX_F hX (k := 0) (j := 1) rfl) rfl ?_
    refine X_getNF (ci := 1) (j := 8) (q := (RX1, TX1, 10)) C rfl (by decide) q205 rfl dX0_isFlat_29 (b := (2 + 15)) (LH_0 (LX_H2 hX)) (LH_F (LX_H2 hX) (k := 0) (j := 8) rfl) rfl ?_
    refine X_aload_n C dX0_isFlat_32 rfl 0 rfl (isRV_r _) ?_
    refine X_getF (ci := 0) (j := 21) (q := (RX0, TX0, 49)) C rfl (by decide) q281 rfl dX0_isFlat_33 (b := 136) (LX_S hX (k := 0) rfl) (LX_F hX (k := 0) (j := 21) rfl) rfl ?_
    refine X_iconst (v := 1) C dX0_isFlat_36 rfl ?_
    refine X_ialdS C (LX_S hX (k := 136) rfl) (LX_L hX (k := 136) rfl) (vp_dec rfl) rfl dX0_isFlat_37 ?_
    have g3 := h.1
    have h := h.2
    refine X_aaldF C 6 rfl (LH_S (LX_H2 hX) (k := 15) rfl) (by decide) rfl (LH_L (LX_H2 hX) (k := 15) rfl) g3 rfl (b := (2 + (16 + (sI st0 136 1).toNatClampNeg))) (LHf_give (LX_H2 hX) (i := (sI st0 136 1).toNatClampNeg) (in_lt g3)).2.2 dX0_isFlat_38 rfl ?_
    refine X_aload_n C dX0_isFlat_39 rfl 0 rfl (isRV_r _) ?_
    refine X_getF (ci := 0) (j := 1) (q := (RX0, TX0, 49)) C rfl (by decide) q261 rfl dX0_isFlat_40 (b := 2) (LX_S hX (k := 0) rfl) (LX_F hX (k := 0) (j := 1) rfl) rfl ?_
    refine X_getNF (ci := 1) (j := 8) (q := (RX1, TX1, 10)) C rfl (by decide) q205 rfl dX0_isFlat_43 (b := (2 + 15)) (LH_0 (LX_H2 hX)) (LH_F (LX_H2 hX) (k := 0) (j := 8) rfl) rfl ?_
    refine X_aload_n C dX0_isFlat_46 rfl 0 rfl (isRV_r _) ?_
    refine X_getF (ci := 0) (j := 21) (q := (RX0, TX0, 49)) C rfl (by decide) q281 rfl dX0_isFlat_47 (b := 136) (LX_S hX (k := 0) rfl) (LX_F hX (k := 0) (j := 21) rfl) rfl ?_
    refine X_iconst (v := 2) C dX0_isFlat_50 rfl ?_
    refine X_ialdS C (LX_S hX (k := 136) rfl) (LX_L hX (k := 136) rfl) (vp_dec rfl) rfl dX0_isFlat_51 ?_
    have g4 := h.1
    have h := h.2
    refine X_aaldF C 6 rfl (LH_S (LX_H2 hX) (k := 15) rfl) (by decide) rfl (LH_L (LX_H2 hX) (k := 15) rfl) g4 rfl (b := (2 + (16 + (sI st0 136 2).toNatClampNeg))) (LHf_give (LX_H2 hX) (i := (sI st0 136 2).toNatClampNeg) (in_lt g4)).2.2 dX0_isFlat_52 rfl ?_
    refine X_shl (LHf_give (LX_H2 hX) (i := (sI st0 136 0).toNatClampNeg) (in_lt g2)).1 (by decide) (LHf_give (LX_H2 hX) (i := (sI st0 136 0).toNatClampNeg) (in_lt g2)).2.1 (fun hs5 hl7 hb6 => ?_)
    refine X_shl (LHf_give (LX_H2 hX) (i := (sI st0 136 1).toNatClampNeg) (in_lt g3)).1 (by decide) (LHf_give (LX_H2 hX) (i := (sI st0 136 1).toNatClampNeg) (in_lt g3)).2.1 (fun hs8 hl10 hb9 => ?_)
    refine X_shl (LHf_give (LX_H2 hX) (i := (sI st0 136 2).toNatClampNeg) (in_lt g4)).1 (by decide) (LHf_give (LX_H2 hX) (i := (sI st0 136 2).toNatClampNeg) (in_lt g4)).2.1 (fun hs11 hl13 hb12 => ?_)
    refine X_callS (As := [_, _, _]) (rest := []) C q783 q784 q132 q785 nm_X0_cross rfl dX0_isFlat_53 (m_X0_cross (Cx_l C) (d := d - 1) (by omega) st0 (2 + (16 + (sI st0 136 0).toNatClampNeg)) (2 + (16 + (sI st0 136 1).toNatClampNeg)) (2 + (16 + (sI st0 136 2).toNatClampNeg)) hs5 hb6 hl7 hs8 hb9 hl10 hs11 hb12 hl13 h) (by omega) (by decide) (Nat.le_of_ble_eq_true rfl) (fun s20 w15 hE16 hP17 => ?_) (fun s21 E18 q19 hE16 hP17 => ?_)
    rotate_left
    · exact False.elim hP17
    obtain ⟨r14, rfl, rfl, h⟩ := hP17
    refine X_tls ?_
    refine X_if_ne (tgt := 63) C dX0_isFlat_56 (by decide) (fun c22 => ?_) (fun c22 => ?_)
    · have h := h.1 c22
      refine X_iconst (v := 0) C dX0_isFlat_63 rfl ?_
      exact X_zret C rfl rfl dX0_isFlat_64 (hn _ h)
    · have h := h.2 c22
      refine X_iconst (v := 1) C dX0_isFlat_59 rfl ?_
      refine X_goto (tgt := 64) C dX0_isFlat_60 (by decide) ?_
      exact X_zret C rfl rfl dX0_isFlat_64 (hn _ h)

def w_X0_holdsWithin_l23 (Φ : St → Int32 → Prop) (Φa : St → Prop) (E46 : St → Prop) (E54 : St → Prop) : Nat → St → Int32 → Prop
  | 0, _, _ => False
  | n + 1, st, x2 => (((sI st 2 0) ≤ x2) → E54 st) ∧ ((¬ (sI st 2 0) ≤ x2) → vp_in x2 3 ∧ w_X2_isBelow st (164 + 2 * x2.toNatClampNeg) (fun (r17 : Int32) => ((r17 = 0) → w_X0_holdsWithin_l23 Φ Φa E46 E54 n st (x2 + 1)) ∧ ((¬ r17 = 0) → E46 st)))
theorem t_X0_holdsWithin_l23 {θ : Th} {κ : Kx} {Ph : Ph} (hX : LX θ) {d : Nat} (hd : 4 ≤ d) (C : Cx θ κ yX0_holdsWithin cX0_holdsWithin 3 (some Jvm.ClassFile.FieldType.boolean) [] d) {Φ : St → Int32 → Prop} {Φa : St → Prop} (hn : ∀ st r, Φ st r → Ph.1 st (some (.int r))) (ha : ∀ st q, Φa st → Ph.2 st "java/lang/ArithmeticException" q) {E46 : St → Prop} {E54 : St → Prop} (hE46 : ∀ (st : St), E46 st → X θ κ Ph st 46 [] []) (hE54 : ∀ (st : St), E54 st → X θ κ Ph st 54 [] []) : ∀ (n : Nat) (st : St) (x2 : Int32), w_X0_holdsWithin_l23 Φ Φa E46 E54 n st x2 → X θ κ Ph st 23 [(0, .ref (ad θ 0)), (2, .int x2)] [] := by
  intro n
  induction n with
  | zero => intro st x2 h; exact h.elim
  | succ n hK23 =>
    intro st x2 h
    rw [w_X0_holdsWithin_l23] at h
    refine X_iload_n C dX0_holdsWithin_23 rfl 1 rfl ?_
    refine X_aload_n C dX0_holdsWithin_24 rfl 0 rfl (isRV_r _) ?_
    refine X_getF (ci := 0) (j := 1) (q := (RX0, TX0, 49)) C rfl (by decide) q261 rfl dX0_holdsWithin_25 (b := 2) (LX_S hX (k := 0) rfl) (LX_F hX (k := 0) (j := 1) rfl) rfl ?_
    refine X_getNS (ci := 1) (j := 0) (q := (RX1, TX1, 10)) C rfl (by decide) q189 rfl dX0_holdsWithin_28 (LH_0 (LX_H2 hX)) (v := .int (sI st 2 0)) rfl ?_
    refine X_icmp_ge (tgt := 54) C dX0_holdsWithin_31 (by decide) (fun c13 => ?_) (fun c13 => ?_)
    · have h := h.1 c13
      refine X_sub [] (lo2 := []) rfl ?_
      exact hE54 st h
    · have h := h.2 c13
      refine X_aload_n C dX0_holdsWithin_34 rfl 0 rfl (isRV_r _) ?_
      refine X_getF (ci := 0) (j := 19) (q := (RX0, TX0, 49)) C rfl (by decide) q279 rfl dX0_holdsWithin_35 (b := 134) (LX_S hX (k := 0) rfl) (LX_F hX (k := 0) (j := 19) rfl) rfl ?_
      refine X_iload_n C dX0_holdsWithin_38 rfl 1 rfl ?_
      have g14 := h.1
      have h := h.2
      refine X_aaldF C 9 rfl (LX_S hX (k := 134) rfl) (by decide) rfl (LX_L hX (k := 134) rfl) g14 rfl (b := (164 + 2 * x2.toNatClampNeg)) (LXf_weight hX (i := x2.toNatClampNeg) (in_lt g14)).2 dX0_holdsWithin_39 rfl ?_
      refine X_sh (LXf_weight hX (i := x2.toNatClampNeg) (in_lt g14)).1 (by decide) (fun hs15 hb16 => ?_)
      refine X_callV (ci := 2) (q := (RX2, TX2, 2)) (As := []) (rest := []) C rfl hs15 q892 q893 q894 q134 q895 ⟨rfl, nm_X2_isBelow⟩ rfl dX0_holdsWithin_40 (m_X2_isBelow (Cx_l C) (d := d - 1) (by omega) st (164 + 2 * x2.toNatClampNeg) hs15 hb16 h) (by omega) (by decide) (Nat.le_of_ble_eq_true rfl) (fun s23 w18 hE19 hP20 => ?_) (fun s24 E21 q22 hE19 hP20 => ?_)
      rotate_left
      · exact False.elim hP20
      obtain ⟨r17, rfl, rfl, h⟩ := hP20
      refine X_tls ?_
      refine X_if_eq (tgt := 48) C dX0_holdsWithin_43 (by decide) (fun c25 => ?_) (fun c25 => ?_)
      · have h := h.1 c25
        refine X_iinc (v := (x2 + 1)) C (j := 1) dX0_holdsWithin_48 rfl rfl (lo2 := [(2, _), (0, _)]) (by decide) rfl ?_
        refine X_goto (tgt := 23) C dX0_holdsWithin_51 (by decide) ?_
        refine X_sub [1, 0] (lo2 := [(0, _), (2, _)]) rfl ?_
        exact hK23 st (x2 + 1) h
      · have h := h.2 c25
        refine X_sub [] (lo2 := []) rfl ?_
        exact hE46 st h
def w_X0_holdsWithin_b46 (Φ : St → Int32 → Prop) (Φa : St → Prop) (st : St) : Prop := Φ st 0
theorem t_X0_holdsWithin_b46 {θ : Th} {κ : Kx} {Ph : Ph} (hX : LX θ) {d : Nat} (hd : 4 ≤ d) (C : Cx θ κ yX0_holdsWithin cX0_holdsWithin 3 (some Jvm.ClassFile.FieldType.boolean) [] d) {Φ : St → Int32 → Prop} {Φa : St → Prop} (hn : ∀ st r, Φ st r → Ph.1 st (some (.int r))) (ha : ∀ st q, Φa st → Ph.2 st "java/lang/ArithmeticException" q) (st : St) (h : w_X0_holdsWithin_b46 Φ Φa st) : X θ κ Ph st 46 [] [] := by
  unfold w_X0_holdsWithin_b46 at h
  refine X_iconst (v := 0) C dX0_holdsWithin_46 rfl ?_
  exact X_zret C rfl rfl dX0_holdsWithin_47 (hn st _ h)
def w_X0_holdsWithin_b54 (Φ : St → Int32 → Prop) (Φa : St → Prop) (st : St) : Prop := Φ st 1
theorem t_X0_holdsWithin_b54 {θ : Th} {κ : Kx} {Ph : Ph} (hX : LX θ) {d : Nat} (hd : 4 ≤ d) (C : Cx θ κ yX0_holdsWithin cX0_holdsWithin 3 (some Jvm.ClassFile.FieldType.boolean) [] d) {Φ : St → Int32 → Prop} {Φa : St → Prop} (hn : ∀ st r, Φ st r → Ph.1 st (some (.int r))) (ha : ∀ st q, Φa st → Ph.2 st "java/lang/ArithmeticException" q) (st : St) (h : w_X0_holdsWithin_b54 Φ Φa st) : X θ κ Ph st 54 [] [] := by
  unfold w_X0_holdsWithin_b54 at h
  refine X_iconst (v := 1) C dX0_holdsWithin_54 rfl ?_
  exact X_zret C rfl rfl dX0_holdsWithin_55 (hn st _ h)
def w_X0_holdsWithin (st : St) (p1 : Int32) (Φ : St → Int32 → Prop) (Φa : St → Prop) : Prop := w_X0_weighs st p1 136 (sI st 2 0) (fun (s5 : St) (r4 : Int32) => ((r4 ≠ 0) → w_X0_holdsWithin_l23 Φ Φa (fun (s26 : St) => w_X0_holdsWithin_b46 Φ Φa s26) (fun (s27 : St) => w_X0_holdsWithin_b54 Φ Φa s27) gFU s5 0) ∧ ((r4 = 0) → Φ s5 0)) Φa
theorem nm_X0_holdsWithin : yX0_holdsWithin.cls ≠ "java/lang/invoke/MethodHandle" ∧ yX0_holdsWithin.cls ≠ "java/lang/invoke/VarHandle" ∧ (parseMethodDescriptor yX0_holdsWithin.desc).map (fun d => d.parameters.length) = some 1 := by decide +kernel
theorem e_X0_holdsWithin : plainFor yX0_holdsWithin = true := plainFor_of_name (by decide +kernel)
theorem m_X0_holdsWithin {θ : Th} {l : Launch} (hl0 : l.stackTraces = false) (hX : LX θ) {d : Nat} (hd : 4 ≤ d) (st : St) (p1 : Int32) {Φ : St → Int32 → Prop} {Φa : St → Prop} (h : w_X0_holdsWithin st p1 Φ Φa) : Ct θ l yX0_holdsWithin (ws_ yX0_holdsWithin cX0_holdsWithin 3 (some Jvm.ClassFile.FieldType.boolean)) d [.ref (ad θ 0), .int p1] st (pI Φ, (exA Φa)) := by
  refine Ct_entry hl0 e_X0_holdsWithin (Nat.le_of_ble_eq_true rfl) (fun κ hκ _ C => ?_)
  have hn : ∀ st r, Φ st r → ((pI Φ, (exA Φa)) : Ph).1 st (some (.int r)) := fun st r q => ⟨r, rfl, q⟩
  have ha : ∀ st q, Φa st → ((pI Φ, (exA Φa)) : Ph).2 st "java/lang/ArithmeticException" q := fun st q2 q => ⟨rfl, q⟩
  change X _ _ _ _ _ [(0, .ref (ad θ 0)), (1, .int p1)] _
  unfold w_X0_holdsWithin at h
  refine X_aload_n C dX0_holdsWithin_0 rfl 0 rfl (isRV_r _) ?_
  refine X_iload_n C dX0_holdsWithin_1 rfl 1 rfl ?_
  refine X_aload_n C dX0_holdsWithin_2 rfl 0 rfl (isRV_r _) ?_
  refine X_getF (ci := 0) (j := 21) (q := (RX0, TX0, 49)) C rfl (by decide) q281 rfl dX0_holdsWithin_3 (b := 136) (LX_S hX (k := 0) rfl) (LX_F hX (k := 0) (j := 21) rfl) rfl ?_
  refine X_aload_n C dX0_holdsWithin_6 rfl 0 rfl (isRV_r _) ?_
  refine X_getF (ci := 0) (j := 1) (q := (RX0, TX0, 49)) C rfl (by decide) q261 rfl dX0_holdsWithin_7 (b := 2) (LX_S hX (k := 0) rfl) (LX_F hX (k := 0) (j := 1) rfl) rfl ?_
  refine X_getNS (ci := 1) (j := 0) (q := (RX1, TX1, 10)) C rfl (by decide) q189 rfl dX0_holdsWithin_10 (LH_0 (LX_H2 hX)) (v := .int (sI st 2 0)) rfl ?_
  refine X_shl (LX_S hX (k := 136) rfl) (by decide) (LX_L hX (k := 136) rfl) (fun hs1 hl3 hb2 => ?_)
  refine X_callVS (ci := 0) (q := (RX0, TX0, 49)) (As := [_, _, _]) (rest := []) C rfl (LX_S hX (k := 0) rfl) q771 q773 qs18 q132 q774 ⟨rfl, nm_X0_weighs⟩ rfl dX0_holdsWithin_13 (m_X0_weighs (Cx_l C) hX (d := d - 1) (by omega) st p1 136 (sI st 2 0) hs1 hb2 hl3 h) (by omega) (by decide) (Nat.le_of_ble_eq_true rfl) (fun s5 w6 hE7 hP8 => ?_) (fun s11 E9 q10 hE7 hP8 => ?_)
  rotate_left
  · rcases hP8 with ⟨rfl, h⟩
    exact XT_out C rfl (ha s11 q10 h)
  obtain ⟨r4, rfl, h⟩ := hP8
  refine X_tls ?_
  refine X_if_ne (tgt := 21) C dX0_holdsWithin_16 (by decide) (fun c12 => ?_) (fun c12 => ?_)
  · have h := h.1 c12
    refine X_iconst (v := 0) C dX0_holdsWithin_21 rfl ?_
    refine X_istore_n C dX0_holdsWithin_22 rfl (lo2 := [(2, _), (0, _), (1, _)]) (by decide) rfl ?_
    refine X_sub [1, 0] (lo2 := [(0, _), (2, _)]) rfl ?_
    refine t_X0_holdsWithin_l23 hX hd C hn ha ?_ ?_ gFU s5 0 h
    · intro s26 h
      exact t_X0_holdsWithin_b46 hX hd C hn ha s26 h
    · intro s27 h
      exact t_X0_holdsWithin_b54 hX hd C hn ha s27 h
  · have h := h.2 c12
    refine X_iconst (v := 0) C dX0_holdsWithin_19 rfl ?_
    exact X_zret C rfl rfl dX0_holdsWithin_20 (hn s5 _ h)

def w_X0_covers_l2 (Φ : St → Int32 → Prop) (Φa : St → Prop) (E64 : St → Prop) (E72 : St → Prop) : Nat → St → Int32 → Prop
  | 0, _, _ => False
  | n + 1, st, x1 => (((sI st 2 9) ≤ x1) → E72 st) ∧ ((¬ (sI st 2 9) ≤ x1) → w_X0_weighs st x1 136 (sI st 2 0) (fun (s6 : St) (r5 : Int32) => w_X0_mixes s6 136 (sI s6 2 0) (fun (s17 : St) (r16 : Nat) => vp_in x1 15 ∧ w_X2_less s17 143 r16 (149 + x1.toNatClampNeg) (fun (s32 : St) (r31 : Nat) => w_X2_isBelow s32 r31 (fun (r41 : Int32) => ((r41 = 0) → w_X0_covers_l2 Φ Φa E64 E72 n s32 (x1 + 1)) ∧ ((¬ r41 = 0) → E64 s32))) Φa) Φa) Φa)
theorem t_X0_covers_l2 {θ : Th} {κ : Kx} {Ph : Ph} (hX : LX θ) {d : Nat} (hd : 4 ≤ d) (C : Cx θ κ yX0_covers cX0_covers 3 (some Jvm.ClassFile.FieldType.boolean) [] d) {Φ : St → Int32 → Prop} {Φa : St → Prop} (hn : ∀ st r, Φ st r → Ph.1 st (some (.int r))) (ha : ∀ st q, Φa st → Ph.2 st "java/lang/ArithmeticException" q) {E64 : St → Prop} {E72 : St → Prop} (hE64 : ∀ (st : St), E64 st → X θ κ Ph st 64 [] []) (hE72 : ∀ (st : St), E72 st → X θ κ Ph st 72 [] []) : ∀ (n : Nat) (st : St) (x1 : Int32), w_X0_covers_l2 Φ Φa E64 E72 n st x1 → X θ κ Ph st 2 [(0, .ref (ad θ 0)), (1, .int x1)] [] := by
  intro n
  induction n with
  | zero => intro st x1 h; exact h.elim
  | succ n hK2 =>
    intro st x1 h
    rw [w_X0_covers_l2] at h
    refine X_iload_n C dX0_covers_2 rfl 1 rfl ?_
    refine X_aload_n C dX0_covers_3 rfl 0 rfl (isRV_r _) ?_
    refine X_getF (ci := 0) (j := 1) (q := (RX0, TX0, 49)) C rfl (by decide) q261 rfl dX0_covers_4 (b := 2) (LX_S hX (k := 0) rfl) (LX_F hX (k := 0) (j := 1) rfl) rfl ?_
    refine X_getNS (ci := 1) (j := 9) (q := (RX1, TX1, 10)) C rfl (by decide) q207 rfl dX0_covers_7 (LH_0 (LX_H2 hX)) (v := .int (sI st 2 9)) rfl ?_
    refine X_icmp_ge (tgt := 72) C dX0_covers_10 (by decide) (fun c1 => ?_) (fun c1 => ?_)
    · have h := h.1 c1
      refine X_sub [] (lo2 := []) rfl ?_
      exact hE72 st h
    · have h := h.2 c1
      refine X_aload_n C dX0_covers_13 rfl 0 rfl (isRV_r _) ?_
      refine X_iload_n C dX0_covers_14 rfl 1 rfl ?_
      refine X_aload_n C dX0_covers_15 rfl 0 rfl (isRV_r _) ?_
      refine X_getF (ci := 0) (j := 21) (q := (RX0, TX0, 49)) C rfl (by decide) q281 rfl dX0_covers_16 (b := 136) (LX_S hX (k := 0) rfl) (LX_F hX (k := 0) (j := 21) rfl) rfl ?_
      refine X_aload_n C dX0_covers_19 rfl 0 rfl (isRV_r _) ?_
      refine X_getF (ci := 0) (j := 1) (q := (RX0, TX0, 49)) C rfl (by decide) q261 rfl dX0_covers_20 (b := 2) (LX_S hX (k := 0) rfl) (LX_F hX (k := 0) (j := 1) rfl) rfl ?_
      refine X_getNS (ci := 1) (j := 0) (q := (RX1, TX1, 10)) C rfl (by decide) q189 rfl dX0_covers_23 (LH_0 (LX_H2 hX)) (v := .int (sI st 2 0)) rfl ?_
      refine X_shl (LX_S hX (k := 136) rfl) (by decide) (LX_L hX (k := 136) rfl) (fun hs2 hl4 hb3 => ?_)
      refine X_callVS (ci := 0) (q := (RX0, TX0, 49)) (As := [_, _, _]) (rest := []) C rfl (LX_S hX (k := 0) rfl) q771 q773 qs18 q132 q774 ⟨rfl, nm_X0_weighs⟩ rfl dX0_covers_26 (m_X0_weighs (Cx_l C) hX (d := d - 1) (by omega) st x1 136 (sI st 2 0) hs2 hb3 hl4 h) (by omega) (by decide) (Nat.le_of_ble_eq_true rfl) (fun s6 w7 hE8 hP9 => ?_) (fun s12 E10 q11 hE8 hP9 => ?_)
      rotate_left
      · rcases hP9 with ⟨rfl, h⟩
        exact XT_out C rfl (ha s12 q11 h)
      obtain ⟨r5, rfl, h⟩ := hP9
      refine X_tls ?_
      refine X_istore_n C dX0_covers_29 rfl (lo2 := [(2, _), (0, _), (1, _)]) (by decide) rfl ?_
      refine X_aload_n C dX0_covers_30 rfl 1 rfl (isRV_r _) ?_
      refine X_getF (ci := 0) (j := 29) (q := (RX0, TX0, 49)) C rfl (by decide) q289 rfl dX0_covers_31 (b := 143) (LX_S hX (k := 0) rfl) (LX_F hX (k := 0) (j := 29) rfl) rfl ?_
      refine X_aload_n C dX0_covers_34 rfl 1 rfl (isRV_r _) ?_
      refine X_aload_n C dX0_covers_35 rfl 1 rfl (isRV_r _) ?_
      refine X_getF (ci := 0) (j := 21) (q := (RX0, TX0, 49)) C rfl (by decide) q281 rfl dX0_covers_36 (b := 136) (LX_S hX (k := 0) rfl) (LX_F hX (k := 0) (j := 21) rfl) rfl ?_
      refine X_aload_n C dX0_covers_39 rfl 1 rfl (isRV_r _) ?_
      refine X_getF (ci := 0) (j := 1) (q := (RX0, TX0, 49)) C rfl (by decide) q261 rfl dX0_covers_40 (b := 2) (LX_S hX (k := 0) rfl) (LX_F hX (k := 0) (j := 1) rfl) rfl ?_
      refine X_getNS (ci := 1) (j := 0) (q := (RX1, TX1, 10)) C rfl (by decide) q189 rfl dX0_covers_43 (LH_0 (LX_H2 hX)) (v := .int (sI s6 2 0)) rfl ?_
      refine X_shl (LX_S hX (k := 136) rfl) (by decide) (LX_L hX (k := 136) rfl) (fun hs13 hl15 hb14 => ?_)
      refine X_callVS (ci := 0) (q := (RX0, TX0, 49)) (As := [_, _]) (rest := [_]) C rfl (LX_S hX (k := 0) rfl) q794 q796 qs22 q132 q797 ⟨rfl, nm_X0_mixes⟩ rfl dX0_covers_46 (m_X0_mixes (Cx_l C) hX (d := d - 1) (by omega) s6 136 (sI s6 2 0) hs13 hb14 hl15 h) (by omega) (by decide) (Nat.le_of_ble_eq_true rfl) (fun s17 w18 hE19 hP20 => ?_) (fun s23 E21 q22 hE19 hP20 => ?_)
      rotate_left
      · rcases hP20 with ⟨rfl, h⟩
        exact XT_out C rfl (ha s23 q22 h)
      obtain ⟨r16, rfl, hb24, hs25, h⟩ := hP20
      refine X_tls ?_
      refine X_aload_n C dX0_covers_49 rfl 1 rfl (isRV_r _) ?_
      refine X_getF (ci := 0) (j := 18) (q := (RX0, TX0, 49)) C rfl (by decide) q278 rfl dX0_covers_50 (b := 133) (LX_S hX (k := 0) rfl) (LX_F hX (k := 0) (j := 18) rfl) rfl ?_
      refine X_iload_n C dX0_covers_53 rfl 2 rfl ?_
      have g26 := h.1
      have h := h.2
      refine X_aaldF C 9 rfl (LX_S hX (k := 133) rfl) (by decide) rfl (LX_L hX (k := 133) rfl) g26 rfl (b := (149 + x1.toNatClampNeg)) (LXf_worth hX (i := x1.toNatClampNeg) (in_lt g26)).2 dX0_covers_54 rfl ?_
      refine X_sh (LX_S hX (k := 143) rfl) (by decide) (fun hs27 hb28 => ?_)
      refine X_sh (LXf_worth hX (i := x1.toNatClampNeg) (in_lt g26)).1 (by decide) (fun hs29 hb30 => ?_)
      refine X_callV (ci := 2) (q := (RX2, TX2, 2)) (As := [_, _]) (rest := []) C rfl hs27 q841 q842 q843 q134 q844 ⟨rfl, nm_X2_less⟩ rfl dX0_covers_55 (m_X2_less (Cx_l C) (d := d - 1) (by omega) s17 143 r16 (149 + x1.toNatClampNeg) hs27 hb28 hs25 hb24 hs29 hb30 h) (by omega) (by decide) (Nat.le_of_ble_eq_true rfl) (fun s32 w33 hE34 hP35 => ?_) (fun s38 E36 q37 hE34 hP35 => ?_)
      rotate_left
      · rcases hP35 with ⟨rfl, h⟩
        exact XT_out C rfl (ha s38 q37 h)
      obtain ⟨r31, rfl, hb39, hs40, h⟩ := hP35
      refine X_tls ?_
      have hs25 := Ext_sh hE34 hs25 (by decide)
      refine X_callV (ci := 2) (q := (RX2, TX2, 2)) (As := []) (rest := []) C rfl hs40 q892 q893 q894 q134 q895 ⟨rfl, nm_X2_isBelow⟩ rfl dX0_covers_58 (m_X2_isBelow (Cx_l C) (d := d - 1) (by omega) s32 r31 hs40 hb39 h) (by omega) (by decide) (Nat.le_of_ble_eq_true rfl) (fun s47 w42 hE43 hP44 => ?_) (fun s48 E45 q46 hE43 hP44 => ?_)
      rotate_left
      · exact False.elim hP44
      obtain ⟨r41, rfl, rfl, h⟩ := hP44
      refine X_tls ?_
      refine X_if_eq (tgt := 66) C dX0_covers_61 (by decide) (fun c49 => ?_) (fun c49 => ?_)
      · have h := h.1 c49
        refine X_iinc (v := (x1 + 1)) C (j := 2) dX0_covers_66 rfl rfl (lo2 := [(1, _), (2, _), (0, _)]) (by decide) rfl ?_
        refine X_goto (tgt := 2) C dX0_covers_69 (by decide) ?_
        refine X_sub [2, 0] (lo2 := [(0, _), (1, _)]) rfl ?_
        exact hK2 s32 (x1 + 1) h
      · have h := h.2 c49
        refine X_sub [] (lo2 := []) rfl ?_
        exact hE64 s32 h
def w_X0_covers_b64 (Φ : St → Int32 → Prop) (Φa : St → Prop) (st : St) : Prop := Φ st 0
theorem t_X0_covers_b64 {θ : Th} {κ : Kx} {Ph : Ph} (hX : LX θ) {d : Nat} (hd : 4 ≤ d) (C : Cx θ κ yX0_covers cX0_covers 3 (some Jvm.ClassFile.FieldType.boolean) [] d) {Φ : St → Int32 → Prop} {Φa : St → Prop} (hn : ∀ st r, Φ st r → Ph.1 st (some (.int r))) (ha : ∀ st q, Φa st → Ph.2 st "java/lang/ArithmeticException" q) (st : St) (h : w_X0_covers_b64 Φ Φa st) : X θ κ Ph st 64 [] [] := by
  unfold w_X0_covers_b64 at h
  refine X_iconst (v := 0) C dX0_covers_64 rfl ?_
  exact X_zret C rfl rfl dX0_covers_65 (hn st _ h)
def w_X0_covers_b72 (Φ : St → Int32 → Prop) (Φa : St → Prop) (st : St) : Prop := Φ st 1
theorem t_X0_covers_b72 {θ : Th} {κ : Kx} {Ph : Ph} (hX : LX θ) {d : Nat} (hd : 4 ≤ d) (C : Cx θ κ yX0_covers cX0_covers 3 (some Jvm.ClassFile.FieldType.boolean) [] d) {Φ : St → Int32 → Prop} {Φa : St → Prop} (hn : ∀ st r, Φ st r → Ph.1 st (some (.int r))) (ha : ∀ st q, Φa st → Ph.2 st "java/lang/ArithmeticException" q) (st : St) (h : w_X0_covers_b72 Φ Φa st) : X θ κ Ph st 72 [] [] := by
  unfold w_X0_covers_b72 at h
  refine X_iconst (v := 1) C dX0_covers_72 rfl ?_
  exact X_zret C rfl rfl dX0_covers_73 (hn st _ h)
def w_X0_covers (st : St) (Φ : St → Int32 → Prop) (Φa : St → Prop) : Prop := w_X0_covers_l2 Φ Φa (fun (s50 : St) => w_X0_covers_b64 Φ Φa s50) (fun (s51 : St) => w_X0_covers_b72 Φ Φa s51) gFU st 0
theorem nm_X0_covers : yX0_covers.cls ≠ "java/lang/invoke/MethodHandle" ∧ yX0_covers.cls ≠ "java/lang/invoke/VarHandle" ∧ (parseMethodDescriptor yX0_covers.desc).map (fun d => d.parameters.length) = some 0 := by decide +kernel
theorem e_X0_covers : plainFor yX0_covers = true := plainFor_of_name (by decide +kernel)
theorem m_X0_covers {θ : Th} {l : Launch} (hl0 : l.stackTraces = false) (hX : LX θ) {d : Nat} (hd : 4 ≤ d) (st : St) {Φ : St → Int32 → Prop} {Φa : St → Prop} (h : w_X0_covers st Φ Φa) : Ct θ l yX0_covers (ws_ yX0_covers cX0_covers 3 (some Jvm.ClassFile.FieldType.boolean)) d [.ref (ad θ 0)] st (pI Φ, (exA Φa)) := by
  refine Ct_entry hl0 e_X0_covers (Nat.le_of_ble_eq_true rfl) (fun κ hκ _ C => ?_)
  have hn : ∀ st r, Φ st r → ((pI Φ, (exA Φa)) : Ph).1 st (some (.int r)) := fun st r q => ⟨r, rfl, q⟩
  have ha : ∀ st q, Φa st → ((pI Φ, (exA Φa)) : Ph).2 st "java/lang/ArithmeticException" q := fun st q2 q => ⟨rfl, q⟩
  change X _ _ _ _ _ [(0, .ref (ad θ 0))] _
  unfold w_X0_covers at h
  refine X_iconst (v := 0) C dX0_covers_0 rfl ?_
  refine X_istore_n C dX0_covers_1 rfl (lo2 := [(1, _), (0, _)]) (by decide) rfl ?_
  refine X_sub [1, 0] (lo2 := [(0, _), (1, _)]) rfl ?_
  refine t_X0_covers_l2 hX hd C hn ha ?_ ?_ gFU st 0 h
  · intro s50 h
    exact t_X0_covers_b64 hX hd C hn ha s50 h
  · intro s51 h
    exact t_X0_covers_b72 hX hd C hn ha s51 h

def w_X0_priceOf_b35 (Φ : St → Nat → Prop) (Φw : St → Nat → Prop) (Φa : St → Prop) (K16 : St → Int32 → Int32 → Int32 → Prop) (st : St) (x1 : Int32) (x2 : Int32) : Prop := w_X0_nextPoints st (sI st 2 0) (fun (s28 : St) (r27 : Int32) => K16 s28 x1 x2 r27)
theorem t_X0_priceOf_b35 {θ : Th} {κ : Kx} {Ph : Ph} (hX : LX θ) {d : Nat} (hd : 7 ≤ d) (C : Cx θ κ yX0_priceOf cX0_priceOf 5 (some (Jvm.ClassFile.FieldType.object "SecretsWorth$Ratio")) [] d) {Φ : St → Nat → Prop} {Φw : St → Nat → Prop} {Φa : St → Prop} (hn : ∀ st r, r < gBIG → sh st r = 3 → Φ st r → Ph.1 st (some (.ref (ad θ r)))) (hw : ∀ st a, a < gBIG → sh st a = 6 → Φw st a → Ph.2 st "SecretsWorth$Wrong" (ad θ a)) (ha : ∀ st q, Φa st → Ph.2 st "java/lang/ArithmeticException" q) {K16 : St → Int32 → Int32 → Int32 → Prop} (hK16 : ∀ (st : St) (x1 : Int32) (x2 : Int32) (x3 : Int32), K16 st x1 x2 x3 → X θ κ Ph st 16 [(0, .ref (ad θ 0)), (1, .int x1), (2, .int x2), (3, .int x3)] []) (st : St) (x1 : Int32) (x2 : Int32) (h : w_X0_priceOf_b35 Φ Φw Φa K16 st x1 x2) : X θ κ Ph st 35 [(0, .ref (ad θ 0)), (1, .int x1), (2, .int x2)] [] := by
  unfold w_X0_priceOf_b35 at h
  refine X_aload_n C dX0_priceOf_35 rfl 0 rfl (isRV_r _) ?_
  refine X_aload_n C dX0_priceOf_36 rfl 0 rfl (isRV_r _) ?_
  refine X_getF (ci := 0) (j := 1) (q := (RX0, TX0, 49)) C rfl (by decide) q261 rfl dX0_priceOf_37 (b := 2) (LX_S hX (k := 0) rfl) (LX_F hX (k := 0) (j := 1) rfl) rfl ?_
  refine X_getNS (ci := 1) (j := 0) (q := (RX1, TX1, 10)) C rfl (by decide) q189 rfl dX0_priceOf_40 (LH_0 (LX_H2 hX)) (v := .int (sI st 2 0)) rfl ?_
  refine X_callVS (ci := 0) (q := (RX0, TX0, 49)) (As := [_]) (rest := []) C rfl (LX_S hX (k := 0) rfl) q852 q854 qs28 q132 q855 ⟨rfl, nm_X0_nextPoints⟩ rfl dX0_priceOf_43 (m_X0_nextPoints (Cx_l C) hX (d := d - 1) (by omega) st (sI st 2 0) h) (by omega) (by decide) (Nat.le_of_ble_eq_true rfl) (fun s28 w29 hE30 hP31 => ?_) (fun s34 E32 q33 hE30 hP31 => ?_)
  rotate_left
  · exact False.elim hP31
  obtain ⟨r27, rfl, h⟩ := hP31
  refine X_tls ?_
  refine X_istore_n C dX0_priceOf_46 rfl (lo2 := [(3, _), (0, _), (1, _), (2, _)]) (by decide) rfl ?_
  refine X_goto (tgt := 16) C dX0_priceOf_47 (by decide) ?_
  refine X_sub [1, 2, 3, 0] (lo2 := [(0, _), (1, _), (2, _), (3, _)]) rfl ?_
  exact hK16 s28 x1 x2 r27 h
def w_X0_priceOf_l16 (Φ : St → Nat → Prop) (Φw : St → Nat → Prop) (Φa : St → Prop) (E57 : St → Int32 → Int32 → Prop) (E75 : St → Int32 → Int32 → Prop) : Nat → St → Int32 → Int32 → Int32 → Prop
  | 0, _, _, _, _ => False
  | n + 1, st, x1, x2, x3 => ((x3 = 0) → E75 st x2 x3) ∧ ((¬ x3 = 0) → w_X0_isFlat st (fun (r18 : Int32) => ((r18 ≠ 0) → w_X0_priceOf_b35 Φ Φw Φa (w_X0_priceOf_l16 Φ Φw Φa E57 E75 n) st x1 x2) ∧ ((r18 = 0) → w_X0_holdsWithin st x1 (fun (s36 : St) (r35 : Int32) => ((r35 ≠ 0) → w_X0_covers s36 (fun (s45 : St) (r44 : Int32) => ((r44 = 0) → w_X0_nextPoints s45 (sI s45 2 0) (fun (s54 : St) (r53 : Int32) => w_X0_priceOf_l16 Φ Φw Φa E57 E75 n s54 x1 x2 r53)) ∧ ((¬ r44 = 0) → E57 s45 x2 x3)) Φa) ∧ ((r35 = 0) → w_X0_priceOf_b35 Φ Φw Φa (w_X0_priceOf_l16 Φ Φw Φa E57 E75 n) s36 x1 x2)) Φa)))
theorem t_X0_priceOf_l16 {θ : Th} {κ : Kx} {Ph : Ph} (hX : LX θ) {d : Nat} (hd : 7 ≤ d) (C : Cx θ κ yX0_priceOf cX0_priceOf 5 (some (Jvm.ClassFile.FieldType.object "SecretsWorth$Ratio")) [] d) {Φ : St → Nat → Prop} {Φw : St → Nat → Prop} {Φa : St → Prop} (hn : ∀ st r, r < gBIG → sh st r = 3 → Φ st r → Ph.1 st (some (.ref (ad θ r)))) (hw : ∀ st a, a < gBIG → sh st a = 6 → Φw st a → Ph.2 st "SecretsWorth$Wrong" (ad θ a)) (ha : ∀ st q, Φa st → Ph.2 st "java/lang/ArithmeticException" q) {E57 : St → Int32 → Int32 → Prop} {E75 : St → Int32 → Int32 → Prop} (hE57 : ∀ (st : St) (x2 : Int32) (x3 : Int32), E57 st x2 x3 → X θ κ Ph st 57 [(0, .ref (ad θ 0)), (2, .int x2), (3, .int x3)] []) (hE75 : ∀ (st : St) (x2 : Int32) (x3 : Int32), E75 st x2 x3 → X θ κ Ph st 75 [(0, .ref (ad θ 0)), (2, .int x2), (3, .int x3)] []) : ∀ (n : Nat) (st : St) (x1 : Int32) (x2 : Int32) (x3 : Int32), w_X0_priceOf_l16 Φ Φw Φa E57 E75 n st x1 x2 x3 → X θ κ Ph st 16 [(0, .ref (ad θ 0)), (1, .int x1), (2, .int x2), (3, .int x3)] [] := by
  intro n
  induction n with
  | zero => intro st x1 x2 x3 h; exact h.elim
  | succ n hK16 =>
    intro st x1 x2 x3 h
    rw [w_X0_priceOf_l16] at h
    refine X_iload_n C dX0_priceOf_16 rfl 3 rfl ?_
    refine X_if_eq (tgt := 75) C dX0_priceOf_17 (by decide) (fun c17 => ?_) (fun c17 => ?_)
    · have h := h.1 c17
      refine X_sub [0, 2, 3] (lo2 := [(0, _), (2, _), (3, _)]) rfl ?_
      exact hE75 st x2 x3 h
    · have h := h.2 c17
      refine X_aload_n C dX0_priceOf_20 rfl 0 rfl (isRV_r _) ?_
      refine X_callVS (ci := 0) (q := (RX0, TX0, 49)) (As := []) (rest := []) C rfl (LX_S hX (k := 0) rfl) q884 q886 qs32 q132 q887 ⟨rfl, nm_X0_isFlat⟩ rfl dX0_priceOf_21 (m_X0_isFlat (Cx_l C) hX (d := d - 1) (by omega) st h) (by omega) (by decide) (Nat.le_of_ble_eq_true rfl) (fun s24 w19 hE20 hP21 => ?_) (fun s25 E22 q23 hE20 hP21 => ?_)
      rotate_left
      · exact False.elim hP21
      obtain ⟨r18, rfl, rfl, h⟩ := hP21
      refine X_tls ?_
      refine X_if_ne (tgt := 35) C dX0_priceOf_24 (by decide) (fun c26 => ?_) (fun c26 => ?_)
      · have h := h.1 c26
        refine X_sub [0, 1, 2] (lo2 := [(0, _), (1, _), (2, _)]) rfl ?_
        exact t_X0_priceOf_b35 hX hd C hn hw ha hK16 st x1 x2 h
      · have h := h.2 c26
        refine X_aload_n C dX0_priceOf_27 rfl 0 rfl (isRV_r _) ?_
        refine X_iload_n C dX0_priceOf_28 rfl 1 rfl ?_
        refine X_callVS (ci := 0) (q := (RX0, TX0, 49)) (As := [_]) (rest := []) C rfl (LX_S hX (k := 0) rfl) q888 q890 qs33 q132 q891 ⟨rfl, nm_X0_holdsWithin⟩ rfl dX0_priceOf_29 (m_X0_holdsWithin (Cx_l C) hX (d := d - 1) (by omega) st x1 h) (by omega) (by decide) (Nat.le_of_ble_eq_true rfl) (fun s36 w37 hE38 hP39 => ?_) (fun s42 E40 q41 hE38 hP39 => ?_)
        rotate_left
        · rcases hP39 with ⟨rfl, h⟩
          exact XT_out C rfl (ha s42 q41 h)
        obtain ⟨r35, rfl, h⟩ := hP39
        refine X_tls ?_
        refine X_if_ne (tgt := 50) C dX0_priceOf_32 (by decide) (fun c43 => ?_) (fun c43 => ?_)
        · have h := h.1 c43
          refine X_aload_n C dX0_priceOf_50 rfl 0 rfl (isRV_r _) ?_
          refine X_callVS (ci := 0) (q := (RX0, TX0, 49)) (As := []) (rest := []) C rfl (LX_S hX (k := 0) rfl) q896 q898 qs34 q132 q899 ⟨rfl, nm_X0_covers⟩ rfl dX0_priceOf_51 (m_X0_covers (Cx_l C) hX (d := d - 1) (by omega) s36 h) (by omega) (by decide) (Nat.le_of_ble_eq_true rfl) (fun s45 w46 hE47 hP48 => ?_) (fun s51 E49 q50 hE47 hP48 => ?_)
          rotate_left
          · rcases hP48 with ⟨rfl, h⟩
            exact XT_out C rfl (ha s51 q50 h)
          obtain ⟨r44, rfl, h⟩ := hP48
          refine X_tls ?_
          refine X_if_eq (tgt := 60) C dX0_priceOf_54 (by decide) (fun c52 => ?_) (fun c52 => ?_)
          · have h := h.1 c52
            refine X_aload_n C dX0_priceOf_60 rfl 0 rfl (isRV_r _) ?_
            refine X_aload_n C dX0_priceOf_61 rfl 0 rfl (isRV_r _) ?_
            refine X_getF (ci := 0) (j := 1) (q := (RX0, TX0, 49)) C rfl (by decide) q261 rfl dX0_priceOf_62 (b := 2) (LX_S hX (k := 0) rfl) (LX_F hX (k := 0) (j := 1) rfl) rfl ?_
            refine X_getNS (ci := 1) (j := 0) (q := (RX1, TX1, 10)) C rfl (by decide) q189 rfl dX0_priceOf_65 (LH_0 (LX_H2 hX)) (v := .int (sI s45 2 0)) rfl ?_
            refine X_callVS (ci := 0) (q := (RX0, TX0, 49)) (As := [_]) (rest := []) C rfl (LX_S hX (k := 0) rfl) q852 q854 qs28 q132 q855 ⟨rfl, nm_X0_nextPoints⟩ rfl dX0_priceOf_68 (m_X0_nextPoints (Cx_l C) hX (d := d - 1) (by omega) s45 (sI s45 2 0) h) (by omega) (by decide) (Nat.le_of_ble_eq_true rfl) (fun s54 w55 hE56 hP57 => ?_) (fun s60 E58 q59 hE56 hP57 => ?_)
            rotate_left
            · exact False.elim hP57
            obtain ⟨r53, rfl, h⟩ := hP57
            refine X_tls ?_
            refine X_istore_n C dX0_priceOf_71 rfl (lo2 := [(3, _), (0, _), (1, _), (2, _)]) (by decide) rfl ?_
            refine X_goto (tgt := 16) C dX0_priceOf_72 (by decide) ?_
            refine X_sub [1, 2, 3, 0] (lo2 := [(0, _), (1, _), (2, _), (3, _)]) rfl ?_
            exact hK16 s54 x1 x2 r53 h
          · have h := h.2 c52
            refine X_sub [0, 2, 3] (lo2 := [(0, _), (2, _), (3, _)]) rfl ?_
            exact hE57 s45 x2 x3 h
        · have h := h.2 c43
          refine X_sub [0, 1, 2] (lo2 := [(0, _), (1, _), (2, _)]) rfl ?_
          exact t_X0_priceOf_b35 hX hd C hn hw ha hK16 s36 x1 x2 h
def w_X0_priceOf_b75 (Φ : St → Nat → Prop) (Φw : St → Nat → Prop) (Φa : St → Prop) (st : St) (x2 : Int32) (x3 : Int32) : Prop := w_X0_need st x3 5 (fun (s63 : St) => w_X1_vertex 2 s63 x2 (fun (r70 : Int32) => w_X0_weighs s63 r70 136 (sI s63 2 0) (fun (s82 : St) (r81 : Int32) => w_X0_mixes s82 136 (sI s82 2 0) (fun (s93 : St) (r92 : Nat) => Φ s93 r92) Φa) Φa)) Φw
theorem t_X0_priceOf_b75 {θ : Th} {κ : Kx} {Ph : Ph} (hX : LX θ) {d : Nat} (hd : 7 ≤ d) (C : Cx θ κ yX0_priceOf cX0_priceOf 5 (some (Jvm.ClassFile.FieldType.object "SecretsWorth$Ratio")) [] d) {Φ : St → Nat → Prop} {Φw : St → Nat → Prop} {Φa : St → Prop} (hn : ∀ st r, r < gBIG → sh st r = 3 → Φ st r → Ph.1 st (some (.ref (ad θ r)))) (hw : ∀ st a, a < gBIG → sh st a = 6 → Φw st a → Ph.2 st "SecretsWorth$Wrong" (ad θ a)) (ha : ∀ st q, Φa st → Ph.2 st "java/lang/ArithmeticException" q) (st : St) (x2 : Int32) (x3 : Int32) (h : w_X0_priceOf_b75 Φ Φw Φa st x2 x3) : X θ κ Ph st 75 [(0, .ref (ad θ 0)), (2, .int x2), (3, .int x3)] [] := by
  unfold w_X0_priceOf_b75 at h
  refine X_iload_n C dX0_priceOf_75 rfl 2 rfl ?_
  refine X_iconst (v := 5) C dX0_priceOf_76 rfl ?_
  refine X_callS (As := [_, _]) (rest := []) C q421 q422 q132 q423 nm_X0_need rfl dX0_priceOf_77 (m_X0_need (Cx_l C) hX (d := d - 1) (by omega) st x3 5 h) (by omega) (by decide) (Nat.le_of_ble_eq_true rfl) (fun s63 w64 hE65 hP66 => ?_) (fun s69 E67 q68 hE65 hP66 => ?_)
  rotate_left
  · rcases hP66 with ⟨rfl, a_, rfl, hb_, hs_, h⟩
    exact XT_out C rfl (hw s69 a_ hb_ hs_ h)
  obtain ⟨rfl, h⟩ := hP66
  refine X_tln ?_
  refine X_aload_n C dX0_priceOf_80 rfl 0 rfl (isRV_r _) ?_
  refine X_aload_n C dX0_priceOf_81 rfl 0 rfl (isRV_r _) ?_
  refine X_getF (ci := 0) (j := 1) (q := (RX0, TX0, 49)) C rfl (by decide) q261 rfl dX0_priceOf_82 (b := 2) (LX_S hX (k := 0) rfl) (LX_F hX (k := 0) (j := 1) rfl) rfl ?_
  refine X_iload_n C dX0_priceOf_85 rfl 1 rfl ?_
  refine X_callVS (ci := 1) (q := (RX1, TX1, 10)) (As := [_]) (rest := [_]) C rfl (LH_0 (LX_H2 hX)) q900 q901 q902 q133 q903 ⟨rfl, nm_X1_vertex⟩ rfl dX0_priceOf_86 (m_X1_vertex (Cx_l C) (LX_H2 hX) (d := d - 1) (by omega) s63 x2 h) (by omega) (by decide) (Nat.le_of_ble_eq_true rfl) (fun s76 w71 hE72 hP73 => ?_) (fun s77 E74 q75 hE72 hP73 => ?_)
  rotate_left
  · exact False.elim hP73
  obtain ⟨r70, rfl, rfl, h⟩ := hP73
  refine X_tls ?_
  refine X_aload_n C dX0_priceOf_89 rfl 0 rfl (isRV_r _) ?_
  refine X_getF (ci := 0) (j := 21) (q := (RX0, TX0, 49)) C rfl (by decide) q281 rfl dX0_priceOf_90 (b := 136) (LX_S hX (k := 0) rfl) (LX_F hX (k := 0) (j := 21) rfl) rfl ?_
  refine X_aload_n C dX0_priceOf_93 rfl 0 rfl (isRV_r _) ?_
  refine X_getF (ci := 0) (j := 1) (q := (RX0, TX0, 49)) C rfl (by decide) q261 rfl dX0_priceOf_94 (b := 2) (LX_S hX (k := 0) rfl) (LX_F hX (k := 0) (j := 1) rfl) rfl ?_
  refine X_getNS (ci := 1) (j := 0) (q := (RX1, TX1, 10)) C rfl (by decide) q189 rfl dX0_priceOf_97 (LH_0 (LX_H2 hX)) (v := .int (sI s63 2 0)) rfl ?_
  refine X_shl (LX_S hX (k := 136) rfl) (by decide) (LX_L hX (k := 136) rfl) (fun hs78 hl80 hb79 => ?_)
  refine X_callVS (ci := 0) (q := (RX0, TX0, 49)) (As := [_, _, _]) (rest := []) C rfl (LX_S hX (k := 0) rfl) q771 q773 qs18 q132 q774 ⟨rfl, nm_X0_weighs⟩ rfl dX0_priceOf_100 (m_X0_weighs (Cx_l C) hX (d := d - 1) (by omega) s63 r70 136 (sI s63 2 0) hs78 hb79 hl80 h) (by omega) (by decide) (Nat.le_of_ble_eq_true rfl) (fun s82 w83 hE84 hP85 => ?_) (fun s88 E86 q87 hE84 hP85 => ?_)
  rotate_left
  · rcases hP85 with ⟨rfl, h⟩
    exact XT_out C rfl (ha s88 q87 h)
  obtain ⟨r81, rfl, h⟩ := hP85
  refine X_tls ?_
  refine X_istore C dX0_priceOf_103 (lo2 := [(4, _), (0, _), (2, _), (3, _)]) (by decide) rfl ?_
  refine X_aload_n C dX0_priceOf_105 rfl 1 rfl (isRV_r _) ?_
  refine X_aload_n C dX0_priceOf_106 rfl 1 rfl (isRV_r _) ?_
  refine X_getF (ci := 0) (j := 21) (q := (RX0, TX0, 49)) C rfl (by decide) q281 rfl dX0_priceOf_107 (b := 136) (LX_S hX (k := 0) rfl) (LX_F hX (k := 0) (j := 21) rfl) rfl ?_
  refine X_aload_n C dX0_priceOf_110 rfl 1 rfl (isRV_r _) ?_
  refine X_getF (ci := 0) (j := 1) (q := (RX0, TX0, 49)) C rfl (by decide) q261 rfl dX0_priceOf_111 (b := 2) (LX_S hX (k := 0) rfl) (LX_F hX (k := 0) (j := 1) rfl) rfl ?_
  refine X_getNS (ci := 1) (j := 0) (q := (RX1, TX1, 10)) C rfl (by decide) q189 rfl dX0_priceOf_114 (LH_0 (LX_H2 hX)) (v := .int (sI s82 2 0)) rfl ?_
  refine X_shl (LX_S hX (k := 136) rfl) (by decide) (LX_L hX (k := 136) rfl) (fun hs89 hl91 hb90 => ?_)
  refine X_callVS (ci := 0) (q := (RX0, TX0, 49)) (As := [_, _]) (rest := []) C rfl (LX_S hX (k := 0) rfl) q794 q796 qs22 q132 q797 ⟨rfl, nm_X0_mixes⟩ rfl dX0_priceOf_117 (m_X0_mixes (Cx_l C) hX (d := d - 1) (by omega) s82 136 (sI s82 2 0) hs89 hb90 hl91 h) (by omega) (by decide) (Nat.le_of_ble_eq_true rfl) (fun s93 w94 hE95 hP96 => ?_) (fun s99 E97 q98 hE95 hP96 => ?_)
  rotate_left
  · rcases hP96 with ⟨rfl, h⟩
    exact XT_out C rfl (ha s99 q98 h)
  obtain ⟨r92, rfl, hb100, hs101, h⟩ := hP96
  refine X_tls ?_
  exact X_aret C rfl (Or.inl ⟨_, rfl⟩) (isRV_r _) dX0_priceOf_120 (hn s93 _ hb100 hs101 h)
def w_X0_priceOf_b57 (Φ : St → Nat → Prop) (Φw : St → Nat → Prop) (Φa : St → Prop) (st : St) (x2 : Int32) (x3 : Int32) : Prop := w_X0_priceOf_b75 Φ Φw Φa st x2 x3
theorem t_X0_priceOf_b57 {θ : Th} {κ : Kx} {Ph : Ph} (hX : LX θ) {d : Nat} (hd : 7 ≤ d) (C : Cx θ κ yX0_priceOf cX0_priceOf 5 (some (Jvm.ClassFile.FieldType.object "SecretsWorth$Ratio")) [] d) {Φ : St → Nat → Prop} {Φw : St → Nat → Prop} {Φa : St → Prop} (hn : ∀ st r, r < gBIG → sh st r = 3 → Φ st r → Ph.1 st (some (.ref (ad θ r)))) (hw : ∀ st a, a < gBIG → sh st a = 6 → Φw st a → Ph.2 st "SecretsWorth$Wrong" (ad θ a)) (ha : ∀ st q, Φa st → Ph.2 st "java/lang/ArithmeticException" q) (st : St) (x2 : Int32) (x3 : Int32) (h : w_X0_priceOf_b57 Φ Φw Φa st x2 x3) : X θ κ Ph st 57 [(0, .ref (ad θ 0)), (2, .int x2), (3, .int x3)] [] := by
  unfold w_X0_priceOf_b57 at h
  refine X_goto (tgt := 75) C dX0_priceOf_57 (by decide) ?_
  exact t_X0_priceOf_b75 hX hd C hn hw ha st x2 x3 h
def w_X0_priceOf (st : St) (p1 : Int32) (p2 : Int32) (Φ : St → Nat → Prop) (Φw : St → Nat → Prop) (Φa : St → Prop) : Prop := w_X0_allWorths st (fun (s2 : St) => w_X0_firstSet s2 (sI s2 2 0) (fun (s10 : St) (r9 : Int32) => w_X0_priceOf_l16 Φ Φw Φa (fun (s61 : St) (x2 : Int32) (x3 : Int32) => w_X0_priceOf_b57 Φ Φw Φa s61 x2 x3) (fun (s102 : St) (x2 : Int32) (x3 : Int32) => w_X0_priceOf_b75 Φ Φw Φa s102 x2 x3) gFU s10 p1 p2 r9)) Φw Φa
theorem nm_X0_priceOf : yX0_priceOf.cls ≠ "java/lang/invoke/MethodHandle" ∧ yX0_priceOf.cls ≠ "java/lang/invoke/VarHandle" ∧ (parseMethodDescriptor yX0_priceOf.desc).map (fun d => d.parameters.length) = some 2 := by decide +kernel
theorem e_X0_priceOf : plainFor yX0_priceOf = true := plainFor_of_name (by decide +kernel)
theorem m_X0_priceOf {θ : Th} {l : Launch} (hl0 : l.stackTraces = false) (hX : LX θ) {d : Nat} (hd : 7 ≤ d) (st : St) (p1 : Int32) (p2 : Int32) {Φ : St → Nat → Prop} {Φw : St → Nat → Prop} {Φa : St → Prop} (h : w_X0_priceOf st p1 p2 Φ Φw Φa) : Ct θ l yX0_priceOf (ws_ yX0_priceOf cX0_priceOf 5 (some (Jvm.ClassFile.FieldType.object "SecretsWorth$Ratio"))) d [.ref (ad θ 0), .int p1, .int p2] st (pN θ 3 Φ, (exOr (exW θ Φw) (exA Φa))) := by
  refine Ct_entry hl0 e_X0_priceOf (Nat.le_of_ble_eq_true rfl) (fun κ hκ _ C => ?_)
  have hn : ∀ st r, r < gBIG → sh st r = 3 → Φ st r → ((pN θ 3 Φ, (exOr (exW θ Φw) (exA Φa))) : Ph).1 st (some (.ref (ad θ r))) := fun st r q1 q2 q => ⟨r, rfl, q1, q2, q⟩
  have hw : ∀ st a, a < gBIG → sh st a = 6 → Φw st a → ((pN θ 3 Φ, (exOr (exW θ Φw) (exA Φa))) : Ph).2 st "SecretsWorth$Wrong" (ad θ a) := fun st a q1 q2 q => Or.inl ⟨rfl, a, rfl, q1, q2, q⟩
  have ha : ∀ st q, Φa st → ((pN θ 3 Φ, (exOr (exW θ Φw) (exA Φa))) : Ph).2 st "java/lang/ArithmeticException" q := fun st q2 q => Or.inr (⟨rfl, q⟩)
  change X _ _ _ _ _ [(0, .ref (ad θ 0)), (1, .int p1), (2, .int p2)] _
  unfold w_X0_priceOf at h
  refine X_aload_n C dX0_priceOf_0 rfl 0 rfl (isRV_r _) ?_
  refine X_callVS (ci := 0) (q := (RX0, TX0, 49)) (As := []) (rest := []) C rfl (LX_S hX (k := 0) rfl) q790 q792 qs21 q132 q793 ⟨rfl, nm_X0_allWorths⟩ rfl dX0_priceOf_1 (m_X0_allWorths (Cx_l C) hX (d := d - 1) (by omega) st h) (by omega) (by decide) (Nat.le_of_ble_eq_true rfl) (fun s2 w3 hE4 hP5 => ?_) (fun s8 E6 q7 hE4 hP5 => ?_)
  rotate_left
  · rcases hP5 with ⟨rfl, a_, rfl, hb_, hs_, h⟩ | ⟨rfl, h⟩
    · exact XT_out C rfl (hw s8 a_ hb_ hs_ h)
    · exact XT_out C rfl (ha s8 q7 h)
  obtain ⟨rfl, h⟩ := hP5
  refine X_tln ?_
  refine X_aload_n C dX0_priceOf_4 rfl 0 rfl (isRV_r _) ?_
  refine X_aload_n C dX0_priceOf_5 rfl 0 rfl (isRV_r _) ?_
  refine X_getF (ci := 0) (j := 1) (q := (RX0, TX0, 49)) C rfl (by decide) q261 rfl dX0_priceOf_6 (b := 2) (LX_S hX (k := 0) rfl) (LX_F hX (k := 0) (j := 1) rfl) rfl ?_
  refine X_getNS (ci := 1) (j := 0) (q := (RX1, TX1, 10)) C rfl (by decide) q189 rfl dX0_priceOf_9 (LH_0 (LX_H2 hX)) (v := .int (sI s2 2 0)) rfl ?_
  refine X_callVS (ci := 0) (q := (RX0, TX0, 49)) (As := [_]) (rest := []) C rfl (LX_S hX (k := 0) rfl) q837 q839 qs26 q132 q840 ⟨rfl, nm_X0_firstSet⟩ rfl dX0_priceOf_12 (m_X0_firstSet (Cx_l C) hX (d := d - 1) (by omega) s2 (sI s2 2 0) h) (by omega) (by decide) (Nat.le_of_ble_eq_true rfl) (fun s10 w11 hE12 hP13 => ?_) (fun s16 E14 q15 hE12 hP13 => ?_)
  rotate_left
  · exact False.elim hP13
  obtain ⟨r9, rfl, h⟩ := hP13
  refine X_tls ?_
  refine X_istore_n C dX0_priceOf_15 rfl (lo2 := [(3, _), (0, _), (1, _), (2, _)]) (by decide) rfl ?_
  refine X_sub [1, 2, 3, 0] (lo2 := [(0, _), (1, _), (2, _), (3, _)]) rfl ?_
  refine t_X0_priceOf_l16 hX hd C hn hw ha ?_ ?_ gFU s10 p1 p2 r9 h
  · intro s61 x2 x3 h
    exact t_X0_priceOf_b57 hX hd C hn hw ha s61 x2 x3 h
  · intro s102 x2 x3 h
    exact t_X0_priceOf_b75 hX hd C hn hw ha s102 x2 x3 h

def w_X0_price_b34 (Φ : St → Int64 → Prop) (st : St) (x1 : Int32) (x2 : Int32) (x3 : Int32) (z0 : Int32) : Prop := w_X0_must st z0 (fun (s11 : St) => w_X0_priceOf s11 x1 x2 (fun (s31 : St) (r30 : Nat) => w_X2_part s31 r30 x3 (fun (r61 : Int64) => Φ s31 r61)) (fun (s32 : St) (a33 : Nat) => w_X0_answersFar s32 a33 (fun (s37 : St) (r36 : Int64) => Φ s37 r36)) (fun (s44 : St) => w_X0_isFarBig s44 (fun (s46 : St) (r45 : Int64) => Φ s46 r45))) (fun (s12 : St) (a13 : Nat) => w_X0_answersFar s12 a13 (fun (s17 : St) (r16 : Int64) => Φ s17 r16))
theorem t_X0_price_b34 {θ : Th} {κ : Kx} {Ph : Ph} (hX : LX θ) {d : Nat} (hd : 8 ≤ d) (C : Cx θ κ yX0_price cX0_price 5 (some Jvm.ClassFile.FieldType.long) [(0, 47, 48, 377), (0, 47, 55, 1)] d) {Φ : St → Int64 → Prop} (hn : ∀ st r, Φ st r → Ph.1 st (some (.long r))) (st : St) (x1 : Int32) (x2 : Int32) (x3 : Int32) (z0 : Int32) (h : w_X0_price_b34 Φ st x1 x2 x3 z0) : X θ κ Ph st 34 [(0, .ref (ad θ 0)), (1, .int x1), (2, .int x2), (3, .int x3)] [.int z0] := by
  unfold w_X0_price_b34 at h
  refine X_callS (As := [_]) (rest := []) C q418 q419 q132 q420 nm_X0_must rfl dX0_price_34 (m_X0_must (Cx_l C) hX (d := d - 1) (by omega) st z0 h) (by omega) (by decide) (Nat.le_of_ble_eq_true rfl) (fun s11 w24 hE25 hP26 => ?_) (fun s29 E27 q28 hE25 hP26 => ?_)
  rotate_left
  · rcases hP26 with ⟨rfl, a_, rfl, hb_, hs_, h⟩
    refine XT_catch C [⟨0, 47, 48, 377⟩] ⟨0, 47, 55, 1⟩ [] rfl (List.forall_mem_cons.mpr ⟨Or.inr ⟨by decide, "java/lang/ArithmeticException", q762, by decide +kernel⟩, (fun _ h => absurd h List.not_mem_nil)⟩) (by decide) (by decide) q412 q425 ?_
    refine X_astore C dX0_price_55 (isRV_r _) (lo2 := [(4, _), (0, _), (1, _), (2, _), (3, _)]) (by decide) rfl ?_
    refine X_aload_n C dX0_price_57 rfl 1 rfl (isRV_r _) ?_
    refine X_aload C dX0_price_58 0 rfl (isRV_r _) ?_
    refine X_callVS (ci := 0) (q := (RX0, TX0, 49)) (As := [_]) (rest := []) C rfl (LX_S hX (k := 0) rfl) q745 q747 qs14 q132 q748 ⟨rfl, nm_X0_answersFar⟩ rfl dX0_price_60 (m_X0_answersFar (Cx_l C) hX (d := d - 1) (by omega) s29 a_ hs_ hb_ h) (by omega) (by decide) (Nat.le_of_ble_eq_true rfl) (fun s17 w18 hE19 hP20 => ?_) (fun s23 E21 q22 hE19 hP20 => ?_)
    rotate_left
    · exact False.elim hP20
    obtain ⟨r16, rfl, h⟩ := hP20
    refine X_tls ?_
    have hs_ := Ext_sh hE19 hs_ (by decide)
    exact X_lret C rfl dX0_price_63 (hn s17 _ h)
  obtain ⟨rfl, h⟩ := hP26
  refine X_tln ?_
  refine X_aload_n C dX0_price_37 rfl 0 rfl (isRV_r _) ?_
  refine X_iload_n C dX0_price_38 rfl 1 rfl ?_
  refine X_iload_n C dX0_price_39 rfl 2 rfl ?_
  refine X_callVS (ci := 0) (q := (RX0, TX0, 49)) (As := [_, _]) (rest := []) C rfl (LX_S hX (k := 0) rfl) q880 q882 qs31 q132 q883 ⟨rfl, nm_X0_priceOf⟩ rfl dX0_price_40 (m_X0_priceOf (Cx_l C) hX (d := d - 1) (by omega) s11 x1 x2 h) (by omega) (by decide) (Nat.le_of_ble_eq_true rfl) (fun s31 w53 hE54 hP55 => ?_) (fun s58 E56 q57 hE54 hP55 => ?_)
  rotate_left
  · rcases hP55 with ⟨rfl, a_, rfl, hb_, hs_, h⟩ | ⟨rfl, h⟩
    · refine XT_catch C [⟨0, 47, 48, 377⟩] ⟨0, 47, 55, 1⟩ [] rfl (List.forall_mem_cons.mpr ⟨Or.inr ⟨by decide, "java/lang/ArithmeticException", q762, by decide +kernel⟩, (fun _ h => absurd h List.not_mem_nil)⟩) (by decide) (by decide) q412 q425 ?_
      refine X_astore C dX0_price_55 (isRV_r _) (lo2 := [(4, _), (0, _), (1, _), (2, _), (3, _)]) (by decide) rfl ?_
      refine X_aload_n C dX0_price_57 rfl 1 rfl (isRV_r _) ?_
      refine X_aload C dX0_price_58 0 rfl (isRV_r _) ?_
      refine X_callVS (ci := 0) (q := (RX0, TX0, 49)) (As := [_]) (rest := []) C rfl (LX_S hX (k := 0) rfl) q745 q747 qs14 q132 q748 ⟨rfl, nm_X0_answersFar⟩ rfl dX0_price_60 (m_X0_answersFar (Cx_l C) hX (d := d - 1) (by omega) s58 a_ hs_ hb_ h) (by omega) (by decide) (Nat.le_of_ble_eq_true rfl) (fun s37 w38 hE39 hP40 => ?_) (fun s43 E41 q42 hE39 hP40 => ?_)
      rotate_left
      · exact False.elim hP40
      obtain ⟨r36, rfl, h⟩ := hP40
      refine X_tls ?_
      have hs_ := Ext_sh hE39 hs_ (by decide)
      exact X_lret C rfl dX0_price_63 (hn s37 _ h)
    · refine XT_catch C [] ⟨0, 47, 48, 377⟩ [⟨0, 47, 55, 1⟩] rfl (fun _ h => absurd h List.not_mem_nil) (by decide) (by decide) q762 q724 ?_
      refine X_astore C dX0_price_48 (isRV_r _) (lo2 := [(4, _), (0, _), (1, _), (2, _), (3, _)]) (by decide) rfl ?_
      refine X_aload_n C dX0_price_50 rfl 1 rfl (isRV_r _) ?_
      refine X_callVS (ci := 0) (q := (RX0, TX0, 49)) (As := []) (rest := []) C rfl (LX_S hX (k := 0) rfl) q821 q823 qs23 q132 q824 ⟨rfl, nm_X0_isFarBig⟩ rfl dX0_price_51 (m_X0_isFarBig (Cx_l C) hX (d := d - 1) (by omega) s58 h) (by omega) (by decide) (Nat.le_of_ble_eq_true rfl) (fun s46 w47 hE48 hP49 => ?_) (fun s52 E50 q51 hE48 hP49 => ?_)
      rotate_left
      · exact False.elim hP49
      obtain ⟨r45, rfl, h⟩ := hP49
      refine X_tls ?_
      exact X_lret C rfl dX0_price_54 (hn s46 _ h)
  obtain ⟨r30, rfl, hb59, hs60, h⟩ := hP55
  refine X_tls ?_
  refine X_iload_n C dX0_price_43 rfl 3 rfl ?_
  refine X_callV (ci := 2) (q := (RX2, TX2, 2)) (As := [_]) (rest := []) C rfl hs60 q741 q742 q743 q134 q744 ⟨rfl, nm_X2_part⟩ rfl dX0_price_44 (m_X2_part (Cx_l C) (d := d - 1) (by omega) s31 r30 x3 hs60 hb59 h) (by omega) (by decide) (Nat.le_of_ble_eq_true rfl) (fun s67 w62 hE63 hP64 => ?_) (fun s68 E65 q66 hE63 hP64 => ?_)
  rotate_left
  · exact False.elim hP64
  obtain ⟨r61, rfl, rfl, h⟩ := hP64
  refine X_tls ?_
  exact X_lret C rfl dX0_price_47 (hn s31 _ h)
def w_X0_price_b33 (Φ : St → Int64 → Prop) (st : St) (x1 : Int32) (x2 : Int32) (x3 : Int32) : Prop := w_X0_price_b34 Φ st x1 x2 x3 0
theorem t_X0_price_b33 {θ : Th} {κ : Kx} {Ph : Ph} (hX : LX θ) {d : Nat} (hd : 8 ≤ d) (C : Cx θ κ yX0_price cX0_price 5 (some Jvm.ClassFile.FieldType.long) [(0, 47, 48, 377), (0, 47, 55, 1)] d) {Φ : St → Int64 → Prop} (hn : ∀ st r, Φ st r → Ph.1 st (some (.long r))) (st : St) (x1 : Int32) (x2 : Int32) (x3 : Int32) (h : w_X0_price_b33 Φ st x1 x2 x3) : X θ κ Ph st 33 [(0, .ref (ad θ 0)), (1, .int x1), (2, .int x2), (3, .int x3)] [] := by
  unfold w_X0_price_b33 at h
  refine X_iconst (v := 0) C dX0_price_33 rfl ?_
  exact t_X0_price_b34 hX hd C hn st x1 x2 x3 0 h
def w_X0_price (st : St) (p1 : Int32) (p2 : Int32) (p3 : Int32) (Φ : St → Int64 → Prop) : Prop := w_X1_isPoint 2 st p1 (fun (r1 : Int32) => ((r1 = 0) → w_X0_price_b33 Φ st p1 p2 p3) ∧ ((¬ r1 = 0) → w_X1_isState 2 st p2 (fun (r69 : Int32) => ((r69 = 0) → w_X0_price_b33 Φ st p1 p2 p3) ∧ ((¬ r69 = 0) → w_X0_isPart p3 (fun (r78 : Int32) => ((r78 = 0) → w_X0_price_b33 Φ st p1 p2 p3) ∧ ((¬ r78 = 0) → w_X0_price_b34 Φ st p1 p2 p3 1))))))
theorem nm_X0_price : yX0_price.cls ≠ "java/lang/invoke/MethodHandle" ∧ yX0_price.cls ≠ "java/lang/invoke/VarHandle" ∧ (parseMethodDescriptor yX0_price.desc).map (fun d => d.parameters.length) = some 3 := by decide +kernel
theorem e_X0_price : plainFor yX0_price = true := plainFor_of_name (by decide +kernel)
theorem m_X0_price {θ : Th} {l : Launch} (hl0 : l.stackTraces = false) (hX : LX θ) {d : Nat} (hd : 8 ≤ d) (st : St) (p1 : Int32) (p2 : Int32) (p3 : Int32) {Φ : St → Int64 → Prop} (h : w_X0_price st p1 p2 p3 Φ) : Ct θ l yX0_price (wsW_ yX0_price cX0_price 5 (some Jvm.ClassFile.FieldType.long) [(0, 47, 48, 377), (0, 47, 55, 1)]) d [.ref (ad θ 0), .int p1, .int p2, .int p3] st (pL Φ, noX) := by
  refine Ct_entryW hl0 e_X0_price (Nat.le_of_ble_eq_true rfl) (fun κ hκ _ C => ?_)
  have hn : ∀ st r, Φ st r → ((pL Φ, noX) : Ph).1 st (some (.long r)) := fun st r q => ⟨r, rfl, q⟩
  change X _ _ _ _ _ [(0, .ref (ad θ 0)), (1, .int p1), (2, .int p2), (3, .int p3)] _
  unfold w_X0_price at h
  refine X_aload_n C dX0_price_0 rfl 0 rfl (isRV_r _) ?_
  refine X_getF (ci := 0) (j := 1) (q := (RX0, TX0, 49)) C rfl (by decide) q261 rfl dX0_price_1 (b := 2) (LX_S hX (k := 0) rfl) (LX_F hX (k := 0) (j := 1) rfl) rfl ?_
  refine X_iload_n C dX0_price_4 rfl 1 rfl ?_
  refine X_callVS (ci := 1) (q := (RX1, TX1, 10)) (As := [_]) (rest := []) C rfl (LH_0 (LX_H2 hX)) q619 q620 q621 q133 q622 ⟨rfl, nm_X1_isPoint⟩ rfl dX0_price_5 (m_X1_isPoint (Cx_l C) (LX_H2 hX) (d := d - 1) (by omega) st p1 h) (by omega) (by decide) (Nat.le_of_ble_eq_true rfl) (fun s7 w2 hE3 hP4 => ?_) (fun s8 E5 q6 hE3 hP4 => ?_)
  rotate_left
  · exact False.elim hP4
  obtain ⟨r1, rfl, rfl, h⟩ := hP4
  refine X_tls ?_
  refine X_if_eq (tgt := 33) C dX0_price_8 (by decide) (fun c9 => ?_) (fun c9 => ?_)
  · have h := h.1 c9
    exact t_X0_price_b33 hX hd C hn st p1 p2 p3 h
  · have h := h.2 c9
    refine X_aload_n C dX0_price_11 rfl 0 rfl (isRV_r _) ?_
    refine X_getF (ci := 0) (j := 1) (q := (RX0, TX0, 49)) C rfl (by decide) q261 rfl dX0_price_12 (b := 2) (LX_S hX (k := 0) rfl) (LX_F hX (k := 0) (j := 1) rfl) rfl ?_
    refine X_iload_n C dX0_price_15 rfl 2 rfl ?_
    refine X_callVS (ci := 1) (q := (RX1, TX1, 10)) (As := [_]) (rest := []) C rfl (LH_0 (LX_H2 hX)) q628 q629 q630 q133 q631 ⟨rfl, nm_X1_isState⟩ rfl dX0_price_16 (m_X1_isState (Cx_l C) (LX_H2 hX) (d := d - 1) (by omega) st p2 h) (by omega) (by decide) (Nat.le_of_ble_eq_true rfl) (fun s75 w70 hE71 hP72 => ?_) (fun s76 E73 q74 hE71 hP72 => ?_)
    rotate_left
    · exact False.elim hP72
    obtain ⟨r69, rfl, rfl, h⟩ := hP72
    refine X_tls ?_
    refine X_if_eq (tgt := 33) C dX0_price_19 (by decide) (fun c77 => ?_) (fun c77 => ?_)
    · have h := h.1 c77
      exact t_X0_price_b33 hX hd C hn st p1 p2 p3 h
    · have h := h.2 c77
      refine X_iload_n C dX0_price_22 rfl 3 rfl ?_
      refine X_callS (As := [_]) (rest := []) C q658 q659 q132 q660 nm_X0_isPart rfl dX0_price_23 (m_X0_isPart (Cx_l C) (d := d - 1) (by omega) st p3 h) (by omega) (by decide) (Nat.le_of_ble_eq_true rfl) (fun s84 w79 hE80 hP81 => ?_) (fun s85 E82 q83 hE80 hP81 => ?_)
      rotate_left
      · exact False.elim hP81
      obtain ⟨r78, rfl, rfl, h⟩ := hP81
      refine X_tls ?_
      refine X_if_eq (tgt := 33) C dX0_price_26 (by decide) (fun c86 => ?_) (fun c86 => ?_)
      · have h := h.1 c86
        exact t_X0_price_b33 hX hd C hn st p1 p2 p3 h
      · have h := h.2 c86
        refine X_iconst (v := 1) C dX0_price_29 rfl ?_
        refine X_goto (tgt := 34) C dX0_price_30 (by decide) ?_
        exact t_X0_price_b34 hX hd C hn st p1 p2 p3 1 h

def w_X0_laysChoices_l96 (Φ : St → Prop) (E168 : St → Int32 → Int32 → Int32 → Int64 → Prop) : Nat → St → Int32 → Int32 → Int32 → Int32 → Int64 → Int32 → Prop
  | 0, _, _, _, _, _, _, _ => False
  | n + 1, st, x1, x2, x3, x4, x5, x7 => (((sI st 2 0) ≤ x7) → E168 st x1 x2 x3 x5) ∧ ((¬ (sI st 2 0) ≤ x7) → vp_in x1 15 ∧ vp_in x7 3 ∧ ¬ (sI st 2 2) = 0 ∧ vp_in (x4 - x4 / (sI st 2 2) * (sI st 2 2)) 3 ∧ vp_in x3 3 ∧ ∀ v14 : Int64, v14 = (x5 + ((sI st (2 + (16 + x1.toNatClampNeg)) x7.toNatClampNeg) * (sI st (2 + (3 + 4 * x7.toNatClampNeg + (x4 - x4 / (sI st 2 2) * (sI st 2 2)).toNatClampNeg)) x3.toNatClampNeg)).toInt64) → ∀ v16 : Int32, v16 = (x4 / (sI st 2 2)) → w_X0_laysChoices_l96 Φ E168 n st x1 x2 x3 v16 v14 (x7 + 1))
theorem t_X0_laysChoices_l96 {θ : Th} {κ : Kx} {Ph : Ph} (hX : LX θ) {d : Nat} (hd : 0 ≤ d) (C : Cx θ κ yX0_laysChoices cX0_laysChoices 8 (none : Option Jvm.ClassFile.FieldType) [] d) {Φ : St → Prop} (hn : ∀ st, Φ st → Ph.1 st none) {E168 : St → Int32 → Int32 → Int32 → Int64 → Prop} (hE168 : ∀ (st : St) (x1 : Int32) (x2 : Int32) (x3 : Int32) (x5 : Int64), E168 st x1 x2 x3 x5 → X θ κ Ph st 168 [(0, .ref (ad θ 0)), (1, .int x1), (2, .int x2), (3, .int x3), (5, .long x5)] []) : ∀ (n : Nat) (st : St) (x1 : Int32) (x2 : Int32) (x3 : Int32) (x4 : Int32) (x5 : Int64) (x7 : Int32), w_X0_laysChoices_l96 Φ E168 n st x1 x2 x3 x4 x5 x7 → X θ κ Ph st 96 [(0, .ref (ad θ 0)), (1, .int x1), (2, .int x2), (3, .int x3), (4, .int x4), (5, .long x5), (7, .int x7)] [] := by
  intro n
  induction n with
  | zero => intro st x1 x2 x3 x4 x5 x7 h; exact h.elim
  | succ n hK96 =>
    intro st x1 x2 x3 x4 x5 x7 h
    rw [w_X0_laysChoices_l96] at h
    refine X_iload C dX0_laysChoices_96 6 rfl ?_
    refine X_aload_n C dX0_laysChoices_98 rfl 0 rfl (isRV_r _) ?_
    refine X_getF (ci := 0) (j := 1) (q := (RX0, TX0, 49)) C rfl (by decide) q261 rfl dX0_laysChoices_99 (b := 2) (LX_S hX (k := 0) rfl) (LX_F hX (k := 0) (j := 1) rfl) rfl ?_
    refine X_getNS (ci := 1) (j := 0) (q := (RX1, TX1, 10)) C rfl (by decide) q189 rfl dX0_laysChoices_102 (LH_0 (LX_H2 hX)) (v := .int (sI st 2 0)) rfl ?_
    refine X_icmp_ge (tgt := 168) C dX0_laysChoices_105 (by decide) (fun c8 => ?_) (fun c8 => ?_)
    · have h := h.1 c8
      refine X_sub [0, 1, 2, 3, 5] (lo2 := [(0, _), (1, _), (2, _), (3, _), (5, _)]) rfl ?_
      exact hE168 st x1 x2 x3 x5 h
    · have h := h.2 c8
      refine X_lload C dX0_laysChoices_108 5 rfl ?_
      refine X_aload_n C dX0_laysChoices_110 rfl 0 rfl (isRV_r _) ?_
      refine X_getF (ci := 0) (j := 1) (q := (RX0, TX0, 49)) C rfl (by decide) q261 rfl dX0_laysChoices_111 (b := 2) (LX_S hX (k := 0) rfl) (LX_F hX (k := 0) (j := 1) rfl) rfl ?_
      refine X_getNF (ci := 1) (j := 8) (q := (RX1, TX1, 10)) C rfl (by decide) q205 rfl dX0_laysChoices_114 (b := (2 + 15)) (LH_0 (LX_H2 hX)) (LH_F (LX_H2 hX) (k := 0) (j := 8) rfl) rfl ?_
      refine X_iload_n C dX0_laysChoices_117 rfl 1 rfl ?_
      have g9 := h.1
      have h := h.2
      refine X_aaldF C 6 rfl (LH_S (LX_H2 hX) (k := 15) rfl) (by decide) rfl (LH_L (LX_H2 hX) (k := 15) rfl) g9 rfl (b := (2 + (16 + x1.toNatClampNeg))) (LHf_give (LX_H2 hX) (i := x1.toNatClampNeg) (in_lt g9)).2.2 dX0_laysChoices_118 rfl ?_
      refine X_iload C dX0_laysChoices_119 6 rfl ?_
      have g10 := h.1
      have h := h.2
      refine X_ialdS C (LHf_give (LX_H2 hX) (i := x1.toNatClampNeg) (in_lt g9)).1 (LHf_give (LX_H2 hX) (i := x1.toNatClampNeg) (in_lt g9)).2.1 g10 rfl dX0_laysChoices_121 ?_
      refine X_aload_n C dX0_laysChoices_122 rfl 0 rfl (isRV_r _) ?_
      refine X_getF (ci := 0) (j := 1) (q := (RX0, TX0, 49)) C rfl (by decide) q261 rfl dX0_laysChoices_123 (b := 2) (LX_S hX (k := 0) rfl) (LX_F hX (k := 0) (j := 1) rfl) rfl ?_
      refine X_getNF (ci := 1) (j := 5) (q := (RX1, TX1, 10)) C rfl (by decide) q199 rfl dX0_laysChoices_126 (b := (2 + 1)) (LH_0 (LX_H2 hX)) (LH_F (LX_H2 hX) (k := 0) (j := 5) rfl) rfl ?_
      refine X_iload C dX0_laysChoices_129 6 rfl ?_
      refine X_aaldF C 7 rfl (LH_S (LX_H2 hX) (k := 1) rfl) (by decide) rfl (LH_L (LX_H2 hX) (k := 1) rfl) g10 rfl (b := (2 + (2 + 4 * x7.toNatClampNeg))) (LHf_sub (LX_H2 hX) (i := x7.toNatClampNeg) (in_lt g10)).2.2 dX0_laysChoices_131 rfl ?_
      refine X_iload C dX0_laysChoices_132 4 rfl ?_
      refine X_aload_n C dX0_laysChoices_134 rfl 0 rfl (isRV_r _) ?_
      refine X_getF (ci := 0) (j := 1) (q := (RX0, TX0, 49)) C rfl (by decide) q261 rfl dX0_laysChoices_135 (b := 2) (LX_S hX (k := 0) rfl) (LX_F hX (k := 0) (j := 1) rfl) rfl ?_
      refine X_getNS (ci := 1) (j := 2) (q := (RX1, TX1, 10)) C rfl (by decide) q193 rfl dX0_laysChoices_138 (LH_0 (LX_H2 hX)) (v := .int (sI st 2 2)) rfl ?_
      have g11 := h.1
      have h := h.2
      refine X_irem C dX0_laysChoices_141 g11 ?_
      have g12 := h.1
      have h := h.2
      refine X_aaldF C 6 rfl (LHf_sub (LX_H2 hX) (i := x7.toNatClampNeg) (in_lt g10)).1 (by decide) rfl (LHf_sub (LX_H2 hX) (i := x7.toNatClampNeg) (in_lt g10)).2.1 g12 rfl (b := (2 + (3 + 4 * x7.toNatClampNeg + (x4 - x4 / (sI st 2 2) * (sI st 2 2)).toNatClampNeg))) (LHf_game (LX_H2 hX) (i := x7.toNatClampNeg) (j := (x4 - x4 / (sI st 2 2) * (sI st 2 2)).toNatClampNeg) (in_lt g10) (in_lt g12)).2.2 dX0_laysChoices_142 rfl ?_
      refine X_iload_n C dX0_laysChoices_143 rfl 3 rfl ?_
      have g13 := h.1
      have h := h.2
      refine X_ialdS C (LHf_game (LX_H2 hX) (i := x7.toNatClampNeg) (j := (x4 - x4 / (sI st 2 2) * (sI st 2 2)).toNatClampNeg) (in_lt g10) (in_lt g12)).1 (LHf_game (LX_H2 hX) (i := x7.toNatClampNeg) (j := (x4 - x4 / (sI st 2 2) * (sI st 2 2)).toNatClampNeg) (in_lt g10) (in_lt g12)).2.1 g13 rfl dX0_laysChoices_144 ?_
      refine X_imul C dX0_laysChoices_145 ?_
      refine X_i2l C dX0_laysChoices_146 ?_
      refine X_ladd C dX0_laysChoices_147 ?_
      refine X_topl (fun v14 e15 => ?_)
      have h := h v14 e15
      refine X_lstore C dX0_laysChoices_148 (lo2 := [(5, _), (0, _), (1, _), (2, _), (3, _), (4, _), (7, _)]) (by decide) rfl ?_
      refine X_iload C dX0_laysChoices_150 5 rfl ?_
      refine X_aload_n C dX0_laysChoices_152 rfl 1 rfl (isRV_r _) ?_
      refine X_getF (ci := 0) (j := 1) (q := (RX0, TX0, 49)) C rfl (by decide) q261 rfl dX0_laysChoices_153 (b := 2) (LX_S hX (k := 0) rfl) (LX_F hX (k := 0) (j := 1) rfl) rfl ?_
      refine X_getNS (ci := 1) (j := 2) (q := (RX1, TX1, 10)) C rfl (by decide) q193 rfl dX0_laysChoices_156 (LH_0 (LX_H2 hX)) (v := .int (sI st 2 2)) rfl ?_
      refine X_idiv C dX0_laysChoices_159 g11 ?_
      refine X_topi (fun v16 e17 => ?_)
      have h := h v16 e17
      refine X_istore C dX0_laysChoices_160 (lo2 := [(4, _), (5, _), (0, _), (1, _), (2, _), (3, _), (7, _)]) (by decide) rfl ?_
      refine X_iinc (v := (x7 + 1)) C (j := 6) dX0_laysChoices_162 rfl rfl (lo2 := [(7, _), (4, _), (5, _), (0, _), (1, _), (2, _), (3, _)]) (by decide) rfl ?_
      refine X_goto (tgt := 96) C dX0_laysChoices_165 (by decide) ?_
      refine X_sub [3, 4, 5, 6, 1, 2, 0] (lo2 := [(0, _), (1, _), (2, _), (3, _), (4, _), (5, _), (7, _)]) rfl ?_
      exact hK96 st x1 x2 x3 v16 v14 (x7 + 1) h
def w_X0_laysChoices_b168 (Φ : St → Prop) (K79 : St → Int32 → Int32 → Int32 → Prop) (st : St) (x1 : Int32) (x2 : Int32) (x3 : Int32) (x5 : Int64) : Prop := vp_in x2 27 ∧ vp_in x3 3 ∧ ∀ s21, s21 = putL st (96 + x2.toNatClampNeg) (x3.toNatClampNeg) x5 → K79 s21 x1 x2 (x3 + 1)
theorem t_X0_laysChoices_b168 {θ : Th} {κ : Kx} {Ph : Ph} (hX : LX θ) {d : Nat} (hd : 0 ≤ d) (C : Cx θ κ yX0_laysChoices cX0_laysChoices 8 (none : Option Jvm.ClassFile.FieldType) [] d) {Φ : St → Prop} (hn : ∀ st, Φ st → Ph.1 st none) {K79 : St → Int32 → Int32 → Int32 → Prop} (hK79 : ∀ (st : St) (x1 : Int32) (x2 : Int32) (x3 : Int32), K79 st x1 x2 x3 → X θ κ Ph st 79 [(0, .ref (ad θ 0)), (1, .int x1), (2, .int x2), (3, .int x3)] []) (st : St) (x1 : Int32) (x2 : Int32) (x3 : Int32) (x5 : Int64) (h : w_X0_laysChoices_b168 Φ K79 st x1 x2 x3 x5) : X θ κ Ph st 168 [(0, .ref (ad θ 0)), (1, .int x1), (2, .int x2), (3, .int x3), (5, .long x5)] [] := by
  unfold w_X0_laysChoices_b168 at h
  refine X_aload_n C dX0_laysChoices_168 rfl 0 rfl (isRV_r _) ?_
  refine X_getF (ci := 0) (j := 7) (q := (RX0, TX0, 49)) C rfl (by decide) q267 rfl dX0_laysChoices_169 (b := 95) (LX_S hX (k := 0) rfl) (LX_F hX (k := 0) (j := 7) rfl) rfl ?_
  refine X_iload_n C dX0_laysChoices_172 rfl 2 rfl ?_
  have g19 := h.1
  have h := h.2
  refine X_aaldF C 8 rfl (LX_S hX (k := 95) rfl) (by decide) rfl (LX_L hX (k := 95) rfl) g19 rfl (b := (96 + x2.toNatClampNeg)) (LXf_row hX (i := x2.toNatClampNeg) (in_lt g19)).2.2 dX0_laysChoices_173 rfl ?_
  refine X_iload_n C dX0_laysChoices_174 rfl 3 rfl ?_
  refine X_lload C dX0_laysChoices_175 4 rfl ?_
  have g20 := h.1
  have h := h.2
  refine X_lastS C (LXf_row hX (i := x2.toNatClampNeg) (in_lt g19)).1 (LXf_row hX (i := x2.toNatClampNeg) (in_lt g19)).2.1 g20 rfl dX0_laysChoices_177 ?_
  refine X_nm (fun s21 e22 => ?_)
  have h := h s21 e22
  refine X_iinc (v := (x3 + 1)) C (j := 3) dX0_laysChoices_178 rfl rfl (lo2 := [(3, _), (0, _), (1, _), (2, _), (5, _)]) (by decide) rfl ?_
  refine X_goto (tgt := 79) C dX0_laysChoices_181 (by decide) ?_
  refine X_sub [1, 2, 3, 0] (lo2 := [(0, _), (1, _), (2, _), (3, _)]) rfl ?_
  exact hK79 s21 x1 x2 (x3 + 1) h
def w_X0_laysChoices_l79 (Φ : St → Prop) (E184 : St → Int32 → Int32 → Prop) : Nat → St → Int32 → Int32 → Int32 → Prop
  | 0, _, _, _, _ => False
  | n + 1, st, x1, x2, x3 => (((sI st 0 9) ≤ x3) → E184 st x1 x2) ∧ ((¬ (sI st 0 9) ≤ x3) → w_X0_laysChoices_l96 Φ (fun (s18 : St) (x1 : Int32) (x2 : Int32) (x3 : Int32) (x5 : Int64) => w_X0_laysChoices_b168 Φ (w_X0_laysChoices_l79 Φ E184 n) s18 x1 x2 x3 x5) gFU st x1 x2 x3 x2 0 0)
theorem t_X0_laysChoices_l79 {θ : Th} {κ : Kx} {Ph : Ph} (hX : LX θ) {d : Nat} (hd : 0 ≤ d) (C : Cx θ κ yX0_laysChoices cX0_laysChoices 8 (none : Option Jvm.ClassFile.FieldType) [] d) {Φ : St → Prop} (hn : ∀ st, Φ st → Ph.1 st none) {E184 : St → Int32 → Int32 → Prop} (hE184 : ∀ (st : St) (x1 : Int32) (x2 : Int32), E184 st x1 x2 → X θ κ Ph st 184 [(0, .ref (ad θ 0)), (1, .int x1), (2, .int x2)] []) : ∀ (n : Nat) (st : St) (x1 : Int32) (x2 : Int32) (x3 : Int32), w_X0_laysChoices_l79 Φ E184 n st x1 x2 x3 → X θ κ Ph st 79 [(0, .ref (ad θ 0)), (1, .int x1), (2, .int x2), (3, .int x3)] [] := by
  intro n
  induction n with
  | zero => intro st x1 x2 x3 h; exact h.elim
  | succ n hK79 =>
    intro st x1 x2 x3 h
    rw [w_X0_laysChoices_l79] at h
    refine X_iload_n C dX0_laysChoices_79 rfl 3 rfl ?_
    refine X_aload_n C dX0_laysChoices_80 rfl 0 rfl (isRV_r _) ?_
    refine X_getS (ci := 0) (j := 9) (q := (RX0, TX0, 49)) C rfl (by decide) q269 rfl dX0_laysChoices_81 (LX_S hX (k := 0) rfl) (v := .int (sI st 0 9)) rfl ?_
    refine X_icmp_ge (tgt := 184) C dX0_laysChoices_84 (by decide) (fun c7 => ?_) (fun c7 => ?_)
    · have h := h.1 c7
      refine X_sub [0, 1, 2] (lo2 := [(0, _), (1, _), (2, _)]) rfl ?_
      exact hE184 st x1 x2 h
    · have h := h.2 c7
      refine X_iload_n C dX0_laysChoices_87 rfl 2 rfl ?_
      refine X_istore C dX0_laysChoices_88 (lo2 := [(4, _), (0, _), (1, _), (2, _), (3, _)]) (by decide) rfl ?_
      refine X_lconst (v := 0) C dX0_laysChoices_90 rfl ?_
      refine X_lstore C dX0_laysChoices_91 (lo2 := [(5, _), (4, _), (0, _), (1, _), (2, _), (3, _)]) (by decide) rfl ?_
      refine X_iconst (v := 0) C dX0_laysChoices_93 rfl ?_
      refine X_istore C dX0_laysChoices_94 (lo2 := [(7, _), (5, _), (4, _), (0, _), (1, _), (2, _), (3, _)]) (by decide) rfl ?_
      refine X_sub [3, 4, 5, 6, 2, 1, 0] (lo2 := [(0, _), (1, _), (2, _), (3, _), (4, _), (5, _), (7, _)]) rfl ?_
      refine t_X0_laysChoices_l96 hX hd C hn ?_ gFU st x1 x2 x3 x2 0 0 h
      · intro s18 x1 x2 x3 x5 h
        exact t_X0_laysChoices_b168 hX hd C hn hK79 s18 x1 x2 x3 x5 h
def w_X0_laysChoices_b184 (Φ : St → Prop) (K69 : St → Int32 → Int32 → Prop) (st : St) (x1 : Int32) (x2 : Int32) : Prop := K69 st x1 (x2 + 1)
theorem t_X0_laysChoices_b184 {θ : Th} {κ : Kx} {Ph : Ph} (hX : LX θ) {d : Nat} (hd : 0 ≤ d) (C : Cx θ κ yX0_laysChoices cX0_laysChoices 8 (none : Option Jvm.ClassFile.FieldType) [] d) {Φ : St → Prop} (hn : ∀ st, Φ st → Ph.1 st none) {K69 : St → Int32 → Int32 → Prop} (hK69 : ∀ (st : St) (x1 : Int32) (x2 : Int32), K69 st x1 x2 → X θ κ Ph st 69 [(0, .ref (ad θ 0)), (1, .int x1), (2, .int x2)] []) (st : St) (x1 : Int32) (x2 : Int32) (h : w_X0_laysChoices_b184 Φ K69 st x1 x2) : X θ κ Ph st 184 [(0, .ref (ad θ 0)), (1, .int x1), (2, .int x2)] [] := by
  unfold w_X0_laysChoices_b184 at h
  refine X_iinc (v := (x2 + 1)) C (j := 2) dX0_laysChoices_184 rfl rfl (lo2 := [(2, _), (0, _), (1, _)]) (by decide) rfl ?_
  refine X_goto (tgt := 69) C dX0_laysChoices_187 (by decide) ?_
  refine X_sub [1, 2, 0] (lo2 := [(0, _), (1, _), (2, _)]) rfl ?_
  exact hK69 st x1 (x2 + 1) h
def w_X0_laysChoices_l69 (Φ : St → Prop) (E190 : St → Prop) : Nat → St → Int32 → Int32 → Prop
  | 0, _, _, _ => False
  | n + 1, st, x1, x2 => (((sI st 0 8) ≤ x2) → E190 st) ∧ ((¬ (sI st 0 8) ≤ x2) → w_X0_laysChoices_l79 Φ (fun (s23 : St) (x1 : Int32) (x2 : Int32) => w_X0_laysChoices_b184 Φ (w_X0_laysChoices_l69 Φ E190 n) s23 x1 x2) gFU st x1 x2 0)
theorem t_X0_laysChoices_l69 {θ : Th} {κ : Kx} {Ph : Ph} (hX : LX θ) {d : Nat} (hd : 0 ≤ d) (C : Cx θ κ yX0_laysChoices cX0_laysChoices 8 (none : Option Jvm.ClassFile.FieldType) [] d) {Φ : St → Prop} (hn : ∀ st, Φ st → Ph.1 st none) {E190 : St → Prop} (hE190 : ∀ (st : St), E190 st → X θ κ Ph st 190 [] []) : ∀ (n : Nat) (st : St) (x1 : Int32) (x2 : Int32), w_X0_laysChoices_l69 Φ E190 n st x1 x2 → X θ κ Ph st 69 [(0, .ref (ad θ 0)), (1, .int x1), (2, .int x2)] [] := by
  intro n
  induction n with
  | zero => intro st x1 x2 h; exact h.elim
  | succ n hK69 =>
    intro st x1 x2 h
    rw [w_X0_laysChoices_l69] at h
    refine X_iload_n C dX0_laysChoices_69 rfl 2 rfl ?_
    refine X_aload_n C dX0_laysChoices_70 rfl 0 rfl (isRV_r _) ?_
    refine X_getS (ci := 0) (j := 8) (q := (RX0, TX0, 49)) C rfl (by decide) q268 rfl dX0_laysChoices_71 (LX_S hX (k := 0) rfl) (v := .int (sI st 0 8)) rfl ?_
    refine X_icmp_ge (tgt := 190) C dX0_laysChoices_74 (by decide) (fun c6 => ?_) (fun c6 => ?_)
    · have h := h.1 c6
      refine X_sub [] (lo2 := []) rfl ?_
      exact hE190 st h
    · have h := h.2 c6
      refine X_iconst (v := 0) C dX0_laysChoices_77 rfl ?_
      refine X_istore_n C dX0_laysChoices_78 rfl (lo2 := [(3, _), (0, _), (1, _), (2, _)]) (by decide) rfl ?_
      refine X_sub [1, 2, 3, 0] (lo2 := [(0, _), (1, _), (2, _), (3, _)]) rfl ?_
      refine t_X0_laysChoices_l79 hX hd C hn ?_ gFU st x1 x2 0 h
      · intro s23 x1 x2 h
        exact t_X0_laysChoices_b184 hX hd C hn hK69 s23 x1 x2 h
def w_X0_laysChoices_b190 (Φ : St → Prop) (st : St) : Prop := Φ st
theorem t_X0_laysChoices_b190 {θ : Th} {κ : Kx} {Ph : Ph} (hX : LX θ) {d : Nat} (hd : 0 ≤ d) (C : Cx θ κ yX0_laysChoices cX0_laysChoices 8 (none : Option Jvm.ClassFile.FieldType) [] d) {Φ : St → Prop} (hn : ∀ st, Φ st → Ph.1 st none) (st : St) (h : w_X0_laysChoices_b190 Φ st) : X θ κ Ph st 190 [] [] := by
  unfold w_X0_laysChoices_b190 at h
  exact X_vret C rfl dX0_laysChoices_190 (hn st h)
def w_X0_laysChoices_b53 (Φ : St → Prop) (st : St) (x1 : Int32) (z0 : Int32) : Prop := ∀ s2, s2 = putI st 0 8 z0 → ∀ s4, s4 = putI s2 0 9 (sI s2 2 3) → w_X0_laysChoices_l69 Φ (fun (s24 : St) => w_X0_laysChoices_b190 Φ s24) gFU s4 x1 0
theorem t_X0_laysChoices_b53 {θ : Th} {κ : Kx} {Ph : Ph} (hX : LX θ) {d : Nat} (hd : 0 ≤ d) (C : Cx θ κ yX0_laysChoices cX0_laysChoices 8 (none : Option Jvm.ClassFile.FieldType) [] d) {Φ : St → Prop} (hn : ∀ st, Φ st → Ph.1 st none) (st : St) (x1 : Int32) (z0 : Int32) (h : w_X0_laysChoices_b53 Φ st x1 z0) : X θ κ Ph st 53 [(0, .ref (ad θ 0)), (1, .int x1)] [.int z0, .ref (ad θ 0)] := by
  unfold w_X0_laysChoices_b53 at h
  refine X_putSI (ci := 0) (j := 8) (q := (RX0, TX0, 49)) C rfl (by decide) q268 rfl rfl dX0_laysChoices_53 (LX_S hX (k := 0) rfl) rfl rfl rfl ?_
  refine X_nm (fun s2 e3 => ?_)
  have h := h s2 e3
  refine X_aload_n C dX0_laysChoices_56 rfl 0 rfl (isRV_r _) ?_
  refine X_aload_n C dX0_laysChoices_57 rfl 0 rfl (isRV_r _) ?_
  refine X_getF (ci := 0) (j := 1) (q := (RX0, TX0, 49)) C rfl (by decide) q261 rfl dX0_laysChoices_58 (b := 2) (LX_S hX (k := 0) rfl) (LX_F hX (k := 0) (j := 1) rfl) rfl ?_
  refine X_getNS (ci := 1) (j := 3) (q := (RX1, TX1, 10)) C rfl (by decide) q195 rfl dX0_laysChoices_61 (LH_0 (LX_H2 hX)) (v := .int (sI s2 2 3)) rfl ?_
  refine X_putSI (ci := 0) (j := 9) (q := (RX0, TX0, 49)) C rfl (by decide) q269 rfl rfl dX0_laysChoices_64 (LX_S hX (k := 0) rfl) rfl rfl rfl ?_
  refine X_nm (fun s4 e5 => ?_)
  have h := h s4 e5
  refine X_iconst (v := 0) C dX0_laysChoices_67 rfl ?_
  refine X_istore_n C dX0_laysChoices_68 rfl (lo2 := [(2, _), (0, _), (1, _)]) (by decide) rfl ?_
  refine X_sub [1, 2, 0] (lo2 := [(0, _), (1, _), (2, _)]) rfl ?_
  refine t_X0_laysChoices_l69 hX hd C hn ?_ gFU s4 x1 0 h
  · intro s24 h
    exact t_X0_laysChoices_b190 hX hd C hn s24 h
def w_X0_laysChoices (st : St) (p1 : Int32) (Φ : St → Prop) : Prop := (((sI st 2 0) ≠ 2) → w_X0_laysChoices_b53 Φ st p1 (((sI st 2 2) * (sI st 2 2)) * (sI st 2 2))) ∧ (((sI st 2 0) = 2) → w_X0_laysChoices_b53 Φ st p1 ((sI st 2 2) * (sI st 2 2)))
theorem nm_X0_laysChoices : yX0_laysChoices.cls ≠ "java/lang/invoke/MethodHandle" ∧ yX0_laysChoices.cls ≠ "java/lang/invoke/VarHandle" ∧ (parseMethodDescriptor yX0_laysChoices.desc).map (fun d => d.parameters.length) = some 1 := by decide +kernel
theorem e_X0_laysChoices : plainFor yX0_laysChoices = true := plainFor_of_name (by decide +kernel)
theorem m_X0_laysChoices {θ : Th} {l : Launch} (hl0 : l.stackTraces = false) (hX : LX θ) {d : Nat} (hd : 0 ≤ d) (st : St) (p1 : Int32) {Φ : St → Prop} (h : w_X0_laysChoices st p1 Φ) : Ct θ l yX0_laysChoices (ws_ yX0_laysChoices cX0_laysChoices 8 (none : Option Jvm.ClassFile.FieldType)) d [.ref (ad θ 0), .int p1] st (pV Φ, noX) := by
  refine Ct_entry hl0 e_X0_laysChoices (Nat.le_of_ble_eq_true rfl) (fun κ hκ _ C => ?_)
  have hn : ∀ st, Φ st → ((pV Φ, noX) : Ph).1 st none := fun st q => ⟨rfl, q⟩
  change X _ _ _ _ _ [(0, .ref (ad θ 0)), (1, .int p1)] _
  unfold w_X0_laysChoices at h
  refine X_aload_n C dX0_laysChoices_0 rfl 0 rfl (isRV_r _) ?_
  refine X_aload_n C dX0_laysChoices_1 rfl 0 rfl (isRV_r _) ?_
  refine X_getF (ci := 0) (j := 1) (q := (RX0, TX0, 49)) C rfl (by decide) q261 rfl dX0_laysChoices_2 (b := 2) (LX_S hX (k := 0) rfl) (LX_F hX (k := 0) (j := 1) rfl) rfl ?_
  refine X_getNS (ci := 1) (j := 0) (q := (RX1, TX1, 10)) C rfl (by decide) q189 rfl dX0_laysChoices_5 (LH_0 (LX_H2 hX)) (v := .int (sI st 2 0)) rfl ?_
  refine X_iconst (v := 2) C dX0_laysChoices_8 rfl ?_
  refine X_icmp_ne (tgt := 30) C dX0_laysChoices_9 (by decide) (fun c1 => ?_) (fun c1 => ?_)
  · have h := h.1 c1
    refine X_aload_n C dX0_laysChoices_30 rfl 0 rfl (isRV_r _) ?_
    refine X_getF (ci := 0) (j := 1) (q := (RX0, TX0, 49)) C rfl (by decide) q261 rfl dX0_laysChoices_31 (b := 2) (LX_S hX (k := 0) rfl) (LX_F hX (k := 0) (j := 1) rfl) rfl ?_
    refine X_getNS (ci := 1) (j := 2) (q := (RX1, TX1, 10)) C rfl (by decide) q193 rfl dX0_laysChoices_34 (LH_0 (LX_H2 hX)) (v := .int (sI st 2 2)) rfl ?_
    refine X_aload_n C dX0_laysChoices_37 rfl 0 rfl (isRV_r _) ?_
    refine X_getF (ci := 0) (j := 1) (q := (RX0, TX0, 49)) C rfl (by decide) q261 rfl dX0_laysChoices_38 (b := 2) (LX_S hX (k := 0) rfl) (LX_F hX (k := 0) (j := 1) rfl) rfl ?_
    refine X_getNS (ci := 1) (j := 2) (q := (RX1, TX1, 10)) C rfl (by decide) q193 rfl dX0_laysChoices_41 (LH_0 (LX_H2 hX)) (v := .int (sI st 2 2)) rfl ?_
    refine X_imul C dX0_laysChoices_44 ?_
    refine X_aload_n C dX0_laysChoices_45 rfl 0 rfl (isRV_r _) ?_
    refine X_getF (ci := 0) (j := 1) (q := (RX0, TX0, 49)) C rfl (by decide) q261 rfl dX0_laysChoices_46 (b := 2) (LX_S hX (k := 0) rfl) (LX_F hX (k := 0) (j := 1) rfl) rfl ?_
    refine X_getNS (ci := 1) (j := 2) (q := (RX1, TX1, 10)) C rfl (by decide) q193 rfl dX0_laysChoices_49 (LH_0 (LX_H2 hX)) (v := .int (sI st 2 2)) rfl ?_
    refine X_imul C dX0_laysChoices_52 ?_
    exact t_X0_laysChoices_b53 hX hd C hn st p1 (((sI st 2 2) * (sI st 2 2)) * (sI st 2 2)) h
  · have h := h.2 c1
    refine X_aload_n C dX0_laysChoices_12 rfl 0 rfl (isRV_r _) ?_
    refine X_getF (ci := 0) (j := 1) (q := (RX0, TX0, 49)) C rfl (by decide) q261 rfl dX0_laysChoices_13 (b := 2) (LX_S hX (k := 0) rfl) (LX_F hX (k := 0) (j := 1) rfl) rfl ?_
    refine X_getNS (ci := 1) (j := 2) (q := (RX1, TX1, 10)) C rfl (by decide) q193 rfl dX0_laysChoices_16 (LH_0 (LX_H2 hX)) (v := .int (sI st 2 2)) rfl ?_
    refine X_aload_n C dX0_laysChoices_19 rfl 0 rfl (isRV_r _) ?_
    refine X_getF (ci := 0) (j := 1) (q := (RX0, TX0, 49)) C rfl (by decide) q261 rfl dX0_laysChoices_20 (b := 2) (LX_S hX (k := 0) rfl) (LX_F hX (k := 0) (j := 1) rfl) rfl ?_
    refine X_getNS (ci := 1) (j := 2) (q := (RX1, TX1, 10)) C rfl (by decide) q193 rfl dX0_laysChoices_23 (LH_0 (LX_H2 hX)) (v := .int (sI st 2 2)) rfl ?_
    refine X_imul C dX0_laysChoices_26 ?_
    refine X_goto (tgt := 53) C dX0_laysChoices_27 (by decide) ?_
    exact t_X0_laysChoices_b53 hX hd C hn st p1 ((sI st 2 2) * (sI st 2 2)) h

def w_X0_onceAt (st : St) (p1 : Int32) (Φ : St → Nat → Prop) (Φw : St → Nat → Prop) (Φa : St → Prop) : Prop := w_X0_laysChoices st p1 (fun (s2 : St) => w_X0_kernel s2 (fun (s10 : St) (r9 : Int32) => w_X2_is s10 143 (sL s10 0 17) ((sL s10 0 16) * (sI s10 2 1).toInt64) (fun (s20 : St) (r19 : Nat) => Φ s20 r19) Φa) Φw)
theorem nm_X0_onceAt : yX0_onceAt.cls ≠ "java/lang/invoke/MethodHandle" ∧ yX0_onceAt.cls ≠ "java/lang/invoke/VarHandle" ∧ (parseMethodDescriptor yX0_onceAt.desc).map (fun d => d.parameters.length) = some 1 := by decide +kernel
theorem e_X0_onceAt : plainFor yX0_onceAt = true := plainFor_of_name (by decide +kernel)
theorem m_X0_onceAt {θ : Th} {l : Launch} (hl0 : l.stackTraces = false) (hX : LX θ) {d : Nat} (hd : 5 ≤ d) (st : St) (p1 : Int32) {Φ : St → Nat → Prop} {Φw : St → Nat → Prop} {Φa : St → Prop} (h : w_X0_onceAt st p1 Φ Φw Φa) : Ct θ l yX0_onceAt (ws_ yX0_onceAt cX0_onceAt 3 (some (Jvm.ClassFile.FieldType.object "SecretsWorth$Ratio"))) d [.ref (ad θ 0), .int p1] st (pN θ 3 Φ, (exOr (exW θ Φw) (exA Φa))) := by
  refine Ct_entry hl0 e_X0_onceAt (Nat.le_of_ble_eq_true rfl) (fun κ hκ _ C => ?_)
  have hn : ∀ st r, r < gBIG → sh st r = 3 → Φ st r → ((pN θ 3 Φ, (exOr (exW θ Φw) (exA Φa))) : Ph).1 st (some (.ref (ad θ r))) := fun st r q1 q2 q => ⟨r, rfl, q1, q2, q⟩
  have hw : ∀ st a, a < gBIG → sh st a = 6 → Φw st a → ((pN θ 3 Φ, (exOr (exW θ Φw) (exA Φa))) : Ph).2 st "SecretsWorth$Wrong" (ad θ a) := fun st a q1 q2 q => Or.inl ⟨rfl, a, rfl, q1, q2, q⟩
  have ha : ∀ st q, Φa st → ((pN θ 3 Φ, (exOr (exW θ Φw) (exA Φa))) : Ph).2 st "java/lang/ArithmeticException" q := fun st q2 q => Or.inr (⟨rfl, q⟩)
  change X _ _ _ _ _ [(0, .ref (ad θ 0)), (1, .int p1)] _
  unfold w_X0_onceAt at h
  refine X_aload_n C dX0_onceAt_0 rfl 0 rfl (isRV_r _) ?_
  refine X_iload_n C dX0_onceAt_1 rfl 1 rfl ?_
  refine X_callVS (ci := 0) (q := (RX0, TX0, 49)) (As := [_]) (rest := []) C rfl (LX_S hX (k := 0) rfl) q912 q914 qs36 q132 q915 ⟨rfl, nm_X0_laysChoices⟩ rfl dX0_onceAt_2 (m_X0_laysChoices (Cx_l C) hX (d := d - 1) (by omega) st p1 h) (by omega) (by decide) (Nat.le_of_ble_eq_true rfl) (fun s2 w3 hE4 hP5 => ?_) (fun s8 E6 q7 hE4 hP5 => ?_)
  rotate_left
  · exact False.elim hP5
  obtain ⟨rfl, h⟩ := hP5
  refine X_tln ?_
  refine X_aload_n C dX0_onceAt_5 rfl 0 rfl (isRV_r _) ?_
  refine X_callVS (ci := 0) (q := (RX0, TX0, 49)) (As := []) (rest := []) C rfl (LX_S hX (k := 0) rfl) q669 q671 qs7 q132 q672 ⟨rfl, nm_X0_kernel⟩ rfl dX0_onceAt_6 (m_X0_kernel (Cx_l C) hX (d := d - 1) (by omega) s2 h) (by omega) (by decide) (Nat.le_of_ble_eq_true rfl) (fun s10 w11 hE12 hP13 => ?_) (fun s16 E14 q15 hE12 hP13 => ?_)
  rotate_left
  · rcases hP13 with ⟨rfl, a_, rfl, hb_, hs_, h⟩
    exact XT_out C rfl (hw s16 a_ hb_ hs_ h)
  obtain ⟨r9, rfl, h⟩ := hP13
  refine X_tls ?_
  refine X_istore_n C dX0_onceAt_9 rfl (lo2 := [(2, _), (0, _), (1, _)]) (by decide) rfl ?_
  refine X_aload_n C dX0_onceAt_10 rfl 1 rfl (isRV_r _) ?_
  refine X_getF (ci := 0) (j := 29) (q := (RX0, TX0, 49)) C rfl (by decide) q289 rfl dX0_onceAt_11 (b := 143) (LX_S hX (k := 0) rfl) (LX_F hX (k := 0) (j := 29) rfl) rfl ?_
  refine X_aload_n C dX0_onceAt_14 rfl 1 rfl (isRV_r _) ?_
  refine X_getS (ci := 0) (j := 17) (q := (RX0, TX0, 49)) C rfl (by decide) q277 rfl dX0_onceAt_15 (LX_S hX (k := 0) rfl) (v := .long (sL s10 0 17)) rfl ?_
  refine X_aload_n C dX0_onceAt_18 rfl 1 rfl (isRV_r _) ?_
  refine X_getS (ci := 0) (j := 16) (q := (RX0, TX0, 49)) C rfl (by decide) q276 rfl dX0_onceAt_19 (LX_S hX (k := 0) rfl) (v := .long (sL s10 0 16)) rfl ?_
  refine X_aload_n C dX0_onceAt_22 rfl 1 rfl (isRV_r _) ?_
  refine X_getF (ci := 0) (j := 1) (q := (RX0, TX0, 49)) C rfl (by decide) q261 rfl dX0_onceAt_23 (b := 2) (LX_S hX (k := 0) rfl) (LX_F hX (k := 0) (j := 1) rfl) rfl ?_
  refine X_getNS (ci := 1) (j := 1) (q := (RX1, TX1, 10)) C rfl (by decide) q191 rfl dX0_onceAt_26 (LH_0 (LX_H2 hX)) (v := .int (sI s10 2 1)) rfl ?_
  refine X_i2l C dX0_onceAt_29 ?_
  refine X_lmul C dX0_onceAt_30 ?_
  refine X_sh (LX_S hX (k := 143) rfl) (by decide) (fun hs17 hb18 => ?_)
  refine X_callV (ci := 2) (q := (RX2, TX2, 2)) (As := [_, _]) (rest := []) C rfl hs17 q714 q715 q716 q134 q717 ⟨rfl, nm_X2_is⟩ rfl dX0_onceAt_31 (m_X2_is (Cx_l C) (d := d - 1) (by omega) s10 143 (sL s10 0 17) ((sL s10 0 16) * (sI s10 2 1).toInt64) hs17 hb18 h) (by omega) (by decide) (Nat.le_of_ble_eq_true rfl) (fun s20 w21 hE22 hP23 => ?_) (fun s26 E24 q25 hE22 hP23 => ?_)
  rotate_left
  · rcases hP23 with ⟨rfl, h⟩
    exact XT_out C rfl (ha s26 q25 h)
  obtain ⟨r19, rfl, hb27, hs28, h⟩ := hP23
  refine X_tls ?_
  exact X_aret C rfl (Or.inl ⟨_, rfl⟩) (isRV_r _) dX0_onceAt_34 (hn s20 _ hb27 hs28 h)

def w_X0_gap_b23 (Φ : St → Int64 → Prop) (st : St) (x1 : Int32) (x2 : Int32) (z0 : Int32) : Prop := w_X0_must st z0 (fun (s11 : St) => w_X0_onceAt s11 x1 (fun (s31 : St) (r30 : Nat) => w_X2_as s31 144 r30 (fun (s64 : St) (r63 : Nat) => w_X0_hullNow s64 x1 (fun (s74 : St) (r73 : Nat) => w_X2_less s74 145 144 r73 (fun (s109 : St) (r108 : Nat) => w_X2_part s109 145 x2 (fun (r129 : Int64) => Φ s109 r129)) (fun (s110 : St) => w_X0_isFarBig s110 (fun (s112 : St) (r111 : Int64) => Φ s112 r111))) (fun (s75 : St) (a76 : Nat) => w_X0_answersFar s75 a76 (fun (s80 : St) (r79 : Int64) => Φ s80 r79)) (fun (s87 : St) => w_X0_isFarBig s87 (fun (s89 : St) (r88 : Int64) => Φ s89 r88)))) (fun (s32 : St) (a33 : Nat) => w_X0_answersFar s32 a33 (fun (s37 : St) (r36 : Int64) => Φ s37 r36)) (fun (s44 : St) => w_X0_isFarBig s44 (fun (s46 : St) (r45 : Int64) => Φ s46 r45))) (fun (s12 : St) (a13 : Nat) => w_X0_answersFar s12 a13 (fun (s17 : St) (r16 : Int64) => Φ s17 r16))
theorem t_X0_gap_b23 {θ : Th} {κ : Kx} {Ph : Ph} (hX : LX θ) {d : Nat} (hd : 8 ≤ d) (C : Cx θ κ yX0_gap cX0_gap 4 (some Jvm.ClassFile.FieldType.long) [(0, 64, 65, 377), (0, 64, 71, 1)] d) {Φ : St → Int64 → Prop} (hn : ∀ st r, Φ st r → Ph.1 st (some (.long r))) (st : St) (x1 : Int32) (x2 : Int32) (z0 : Int32) (h : w_X0_gap_b23 Φ st x1 x2 z0) : X θ κ Ph st 23 [(0, .ref (ad θ 0)), (1, .int x1), (2, .int x2)] [.int z0] := by
  unfold w_X0_gap_b23 at h
  refine X_callS (As := [_]) (rest := []) C q418 q419 q132 q420 nm_X0_must rfl dX0_gap_23 (m_X0_must (Cx_l C) hX (d := d - 1) (by omega) st z0 h) (by omega) (by decide) (Nat.le_of_ble_eq_true rfl) (fun s11 w24 hE25 hP26 => ?_) (fun s29 E27 q28 hE25 hP26 => ?_)
  rotate_left
  · rcases hP26 with ⟨rfl, a_, rfl, hb_, hs_, h⟩
    refine XT_catch C [⟨0, 64, 65, 377⟩] ⟨0, 64, 71, 1⟩ [] rfl (List.forall_mem_cons.mpr ⟨Or.inr ⟨by decide, "java/lang/ArithmeticException", q762, by decide +kernel⟩, (fun _ h => absurd h List.not_mem_nil)⟩) (by decide) (by decide) q412 q425 ?_
    refine X_astore_n C dX0_gap_71 rfl (isRV_r _) (lo2 := [(3, _), (0, _), (1, _), (2, _)]) (by decide) rfl ?_
    refine X_aload_n C dX0_gap_72 rfl 1 rfl (isRV_r _) ?_
    refine X_aload_n C dX0_gap_73 rfl 0 rfl (isRV_r _) ?_
    refine X_callVS (ci := 0) (q := (RX0, TX0, 49)) (As := [_]) (rest := []) C rfl (LX_S hX (k := 0) rfl) q745 q747 qs14 q132 q748 ⟨rfl, nm_X0_answersFar⟩ rfl dX0_gap_74 (m_X0_answersFar (Cx_l C) hX (d := d - 1) (by omega) s29 a_ hs_ hb_ h) (by omega) (by decide) (Nat.le_of_ble_eq_true rfl) (fun s17 w18 hE19 hP20 => ?_) (fun s23 E21 q22 hE19 hP20 => ?_)
    rotate_left
    · exact False.elim hP20
    obtain ⟨r16, rfl, h⟩ := hP20
    refine X_tls ?_
    have hs_ := Ext_sh hE19 hs_ (by decide)
    exact X_lret C rfl dX0_gap_77 (hn s17 _ h)
  obtain ⟨rfl, h⟩ := hP26
  refine X_tln ?_
  refine X_aload_n C dX0_gap_26 rfl 0 rfl (isRV_r _) ?_
  refine X_getF (ci := 0) (j := 30) (q := (RX0, TX0, 49)) C rfl (by decide) q290 rfl dX0_gap_27 (b := 144) (LX_S hX (k := 0) rfl) (LX_F hX (k := 0) (j := 30) rfl) rfl ?_
  refine X_aload_n C dX0_gap_30 rfl 0 rfl (isRV_r _) ?_
  refine X_iload_n C dX0_gap_31 rfl 1 rfl ?_
  refine X_callVS (ci := 0) (q := (RX0, TX0, 49)) (As := [_]) (rest := [_]) C rfl (LX_S hX (k := 0) rfl) q908 q910 qs35 q132 q911 ⟨rfl, nm_X0_onceAt⟩ rfl dX0_gap_32 (m_X0_onceAt (Cx_l C) hX (d := d - 1) (by omega) s11 x1 h) (by omega) (by decide) (Nat.le_of_ble_eq_true rfl) (fun s31 w53 hE54 hP55 => ?_) (fun s58 E56 q57 hE54 hP55 => ?_)
  rotate_left
  · rcases hP55 with ⟨rfl, a_, rfl, hb_, hs_, h⟩ | ⟨rfl, h⟩
    · refine XT_catch C [⟨0, 64, 65, 377⟩] ⟨0, 64, 71, 1⟩ [] rfl (List.forall_mem_cons.mpr ⟨Or.inr ⟨by decide, "java/lang/ArithmeticException", q762, by decide +kernel⟩, (fun _ h => absurd h List.not_mem_nil)⟩) (by decide) (by decide) q412 q425 ?_
      refine X_astore_n C dX0_gap_71 rfl (isRV_r _) (lo2 := [(3, _), (0, _), (1, _), (2, _)]) (by decide) rfl ?_
      refine X_aload_n C dX0_gap_72 rfl 1 rfl (isRV_r _) ?_
      refine X_aload_n C dX0_gap_73 rfl 0 rfl (isRV_r _) ?_
      refine X_callVS (ci := 0) (q := (RX0, TX0, 49)) (As := [_]) (rest := []) C rfl (LX_S hX (k := 0) rfl) q745 q747 qs14 q132 q748 ⟨rfl, nm_X0_answersFar⟩ rfl dX0_gap_74 (m_X0_answersFar (Cx_l C) hX (d := d - 1) (by omega) s58 a_ hs_ hb_ h) (by omega) (by decide) (Nat.le_of_ble_eq_true rfl) (fun s37 w38 hE39 hP40 => ?_) (fun s43 E41 q42 hE39 hP40 => ?_)
      rotate_left
      · exact False.elim hP40
      obtain ⟨r36, rfl, h⟩ := hP40
      refine X_tls ?_
      have hs_ := Ext_sh hE39 hs_ (by decide)
      exact X_lret C rfl dX0_gap_77 (hn s37 _ h)
    · refine XT_catch C [] ⟨0, 64, 65, 377⟩ [⟨0, 64, 71, 1⟩] rfl (fun _ h => absurd h List.not_mem_nil) (by decide) (by decide) q762 q724 ?_
      refine X_astore_n C dX0_gap_65 rfl (isRV_r _) (lo2 := [(3, _), (0, _), (1, _), (2, _)]) (by decide) rfl ?_
      refine X_aload_n C dX0_gap_66 rfl 1 rfl (isRV_r _) ?_
      refine X_callVS (ci := 0) (q := (RX0, TX0, 49)) (As := []) (rest := []) C rfl (LX_S hX (k := 0) rfl) q821 q823 qs23 q132 q824 ⟨rfl, nm_X0_isFarBig⟩ rfl dX0_gap_67 (m_X0_isFarBig (Cx_l C) hX (d := d - 1) (by omega) s58 h) (by omega) (by decide) (Nat.le_of_ble_eq_true rfl) (fun s46 w47 hE48 hP49 => ?_) (fun s52 E50 q51 hE48 hP49 => ?_)
      rotate_left
      · exact False.elim hP49
      obtain ⟨r45, rfl, h⟩ := hP49
      refine X_tls ?_
      exact X_lret C rfl dX0_gap_70 (hn s46 _ h)
  obtain ⟨r30, rfl, hb59, hs60, h⟩ := hP55
  refine X_tls ?_
  refine X_sh (LX_S hX (k := 144) rfl) (by decide) (fun hs61 hb62 => ?_)
  refine X_callV (ci := 2) (q := (RX2, TX2, 2)) (As := [_]) (rest := []) C rfl hs61 q798 q799 q800 q134 q801 ⟨rfl, nm_X2_as⟩ rfl dX0_gap_35 (m_X2_as (Cx_l C) (d := d - 1) (by omega) s31 144 r30 hs61 hb62 hs60 hb59 h) (by omega) (by decide) (Nat.le_of_ble_eq_true rfl) (fun s64 w65 hE66 hP67 => ?_) (fun s70 E68 q69 hE66 hP67 => ?_)
  rotate_left
  · exact False.elim hP67
  obtain ⟨r63, rfl, hb71, hs72, h⟩ := hP67
  refine X_tls ?_
  have hs60 := Ext_sh hE66 hs60 (by decide)
  refine X_pop C dX0_gap_38 rfl ?_
  refine X_aload_n C dX0_gap_39 rfl 0 rfl (isRV_r _) ?_
  refine X_getF (ci := 0) (j := 31) (q := (RX0, TX0, 49)) C rfl (by decide) q291 rfl dX0_gap_40 (b := 145) (LX_S hX (k := 0) rfl) (LX_F hX (k := 0) (j := 31) rfl) rfl ?_
  refine X_aload_n C dX0_gap_43 rfl 0 rfl (isRV_r _) ?_
  refine X_getF (ci := 0) (j := 30) (q := (RX0, TX0, 49)) C rfl (by decide) q290 rfl dX0_gap_44 (b := 144) (LX_S hX (k := 0) rfl) (LX_F hX (k := 0) (j := 30) rfl) rfl ?_
  refine X_aload_n C dX0_gap_47 rfl 0 rfl (isRV_r _) ?_
  refine X_iload_n C dX0_gap_48 rfl 1 rfl ?_
  refine X_callVS (ci := 0) (q := (RX0, TX0, 49)) (As := [_]) (rest := [_, _]) C rfl (LX_S hX (k := 0) rfl) q829 q831 qs24 q132 q832 ⟨rfl, nm_X0_hullNow⟩ rfl dX0_gap_49 (m_X0_hullNow (Cx_l C) hX (d := d - 1) (by omega) s64 x1 h) (by omega) (by decide) (Nat.le_of_ble_eq_true rfl) (fun s74 w96 hE97 hP98 => ?_) (fun s101 E99 q100 hE97 hP98 => ?_)
  rotate_left
  · rcases hP98 with ⟨rfl, a_, rfl, hb_, hs_, h⟩ | ⟨rfl, h⟩
    · have hs60 := Ext_sh hE97 hs60 (by decide)
      have hs72 := Ext_sh hE97 hs72 (by decide)
      refine XT_catch C [⟨0, 64, 65, 377⟩] ⟨0, 64, 71, 1⟩ [] rfl (List.forall_mem_cons.mpr ⟨Or.inr ⟨by decide, "java/lang/ArithmeticException", q762, by decide +kernel⟩, (fun _ h => absurd h List.not_mem_nil)⟩) (by decide) (by decide) q412 q425 ?_
      refine X_astore_n C dX0_gap_71 rfl (isRV_r _) (lo2 := [(3, _), (0, _), (1, _), (2, _)]) (by decide) rfl ?_
      refine X_aload_n C dX0_gap_72 rfl 1 rfl (isRV_r _) ?_
      refine X_aload_n C dX0_gap_73 rfl 0 rfl (isRV_r _) ?_
      refine X_callVS (ci := 0) (q := (RX0, TX0, 49)) (As := [_]) (rest := []) C rfl (LX_S hX (k := 0) rfl) q745 q747 qs14 q132 q748 ⟨rfl, nm_X0_answersFar⟩ rfl dX0_gap_74 (m_X0_answersFar (Cx_l C) hX (d := d - 1) (by omega) s101 a_ hs_ hb_ h) (by omega) (by decide) (Nat.le_of_ble_eq_true rfl) (fun s80 w81 hE82 hP83 => ?_) (fun s86 E84 q85 hE82 hP83 => ?_)
      rotate_left
      · exact False.elim hP83
      obtain ⟨r79, rfl, h⟩ := hP83
      refine X_tls ?_
      have hs60 := Ext_sh hE82 hs60 (by decide)
      have hs72 := Ext_sh hE82 hs72 (by decide)
      have hs_ := Ext_sh hE82 hs_ (by decide)
      exact X_lret C rfl dX0_gap_77 (hn s80 _ h)
    · have hs60 := Ext_sh hE97 hs60 (by decide)
      have hs72 := Ext_sh hE97 hs72 (by decide)
      refine XT_catch C [] ⟨0, 64, 65, 377⟩ [⟨0, 64, 71, 1⟩] rfl (fun _ h => absurd h List.not_mem_nil) (by decide) (by decide) q762 q724 ?_
      refine X_astore_n C dX0_gap_65 rfl (isRV_r _) (lo2 := [(3, _), (0, _), (1, _), (2, _)]) (by decide) rfl ?_
      refine X_aload_n C dX0_gap_66 rfl 1 rfl (isRV_r _) ?_
      refine X_callVS (ci := 0) (q := (RX0, TX0, 49)) (As := []) (rest := []) C rfl (LX_S hX (k := 0) rfl) q821 q823 qs23 q132 q824 ⟨rfl, nm_X0_isFarBig⟩ rfl dX0_gap_67 (m_X0_isFarBig (Cx_l C) hX (d := d - 1) (by omega) s101 h) (by omega) (by decide) (Nat.le_of_ble_eq_true rfl) (fun s89 w90 hE91 hP92 => ?_) (fun s95 E93 q94 hE91 hP92 => ?_)
      rotate_left
      · exact False.elim hP92
      obtain ⟨r88, rfl, h⟩ := hP92
      refine X_tls ?_
      have hs60 := Ext_sh hE91 hs60 (by decide)
      have hs72 := Ext_sh hE91 hs72 (by decide)
      exact X_lret C rfl dX0_gap_70 (hn s89 _ h)
  obtain ⟨r73, rfl, hb102, hs103, h⟩ := hP98
  refine X_tls ?_
  have hs60 := Ext_sh hE97 hs60 (by decide)
  have hs72 := Ext_sh hE97 hs72 (by decide)
  refine X_sh (LX_S hX (k := 145) rfl) (by decide) (fun hs104 hb105 => ?_)
  refine X_sh (LX_S hX (k := 144) rfl) (by decide) (fun hs106 hb107 => ?_)
  refine X_callV (ci := 2) (q := (RX2, TX2, 2)) (As := [_, _]) (rest := []) C rfl hs104 q841 q842 q843 q134 q844 ⟨rfl, nm_X2_less⟩ rfl dX0_gap_52 (m_X2_less (Cx_l C) (d := d - 1) (by omega) s74 145 144 r73 hs104 hb105 hs106 hb107 hs103 hb102 h) (by omega) (by decide) (Nat.le_of_ble_eq_true rfl) (fun s109 w119 hE120 hP121 => ?_) (fun s124 E122 q123 hE120 hP121 => ?_)
  rotate_left
  · rcases hP121 with ⟨rfl, h⟩
    have hs60 := Ext_sh hE120 hs60 (by decide)
    have hs72 := Ext_sh hE120 hs72 (by decide)
    have hs103 := Ext_sh hE120 hs103 (by decide)
    refine XT_catch C [] ⟨0, 64, 65, 377⟩ [⟨0, 64, 71, 1⟩] rfl (fun _ h => absurd h List.not_mem_nil) (by decide) (by decide) q762 q724 ?_
    refine X_astore_n C dX0_gap_65 rfl (isRV_r _) (lo2 := [(3, _), (0, _), (1, _), (2, _)]) (by decide) rfl ?_
    refine X_aload_n C dX0_gap_66 rfl 1 rfl (isRV_r _) ?_
    refine X_callVS (ci := 0) (q := (RX0, TX0, 49)) (As := []) (rest := []) C rfl (LX_S hX (k := 0) rfl) q821 q823 qs23 q132 q824 ⟨rfl, nm_X0_isFarBig⟩ rfl dX0_gap_67 (m_X0_isFarBig (Cx_l C) hX (d := d - 1) (by omega) s124 h) (by omega) (by decide) (Nat.le_of_ble_eq_true rfl) (fun s112 w113 hE114 hP115 => ?_) (fun s118 E116 q117 hE114 hP115 => ?_)
    rotate_left
    · exact False.elim hP115
    obtain ⟨r111, rfl, h⟩ := hP115
    refine X_tls ?_
    have hs60 := Ext_sh hE114 hs60 (by decide)
    have hs72 := Ext_sh hE114 hs72 (by decide)
    have hs103 := Ext_sh hE114 hs103 (by decide)
    exact X_lret C rfl dX0_gap_70 (hn s112 _ h)
  obtain ⟨r108, rfl, hb125, hs126, h⟩ := hP121
  refine X_tls ?_
  have hs60 := Ext_sh hE120 hs60 (by decide)
  have hs72 := Ext_sh hE120 hs72 (by decide)
  have hs103 := Ext_sh hE120 hs103 (by decide)
  refine X_pop C dX0_gap_55 rfl ?_
  refine X_aload_n C dX0_gap_56 rfl 0 rfl (isRV_r _) ?_
  refine X_getF (ci := 0) (j := 31) (q := (RX0, TX0, 49)) C rfl (by decide) q291 rfl dX0_gap_57 (b := 145) (LX_S hX (k := 0) rfl) (LX_F hX (k := 0) (j := 31) rfl) rfl ?_
  refine X_iload_n C dX0_gap_60 rfl 2 rfl ?_
  refine X_sh (LX_S hX (k := 145) rfl) (by decide) (fun hs127 hb128 => ?_)
  refine X_callV (ci := 2) (q := (RX2, TX2, 2)) (As := [_]) (rest := []) C rfl hs127 q741 q742 q743 q134 q744 ⟨rfl, nm_X2_part⟩ rfl dX0_gap_61 (m_X2_part (Cx_l C) (d := d - 1) (by omega) s109 145 x2 hs127 hb128 h) (by omega) (by decide) (Nat.le_of_ble_eq_true rfl) (fun s135 w130 hE131 hP132 => ?_) (fun s136 E133 q134 hE131 hP132 => ?_)
  rotate_left
  · exact False.elim hP132
  obtain ⟨r129, rfl, rfl, h⟩ := hP132
  refine X_tls ?_
  exact X_lret C rfl dX0_gap_64 (hn s109 _ h)
def w_X0_gap_b22 (Φ : St → Int64 → Prop) (st : St) (x1 : Int32) (x2 : Int32) : Prop := w_X0_gap_b23 Φ st x1 x2 0
theorem t_X0_gap_b22 {θ : Th} {κ : Kx} {Ph : Ph} (hX : LX θ) {d : Nat} (hd : 8 ≤ d) (C : Cx θ κ yX0_gap cX0_gap 4 (some Jvm.ClassFile.FieldType.long) [(0, 64, 65, 377), (0, 64, 71, 1)] d) {Φ : St → Int64 → Prop} (hn : ∀ st r, Φ st r → Ph.1 st (some (.long r))) (st : St) (x1 : Int32) (x2 : Int32) (h : w_X0_gap_b22 Φ st x1 x2) : X θ κ Ph st 22 [(0, .ref (ad θ 0)), (1, .int x1), (2, .int x2)] [] := by
  unfold w_X0_gap_b22 at h
  refine X_iconst (v := 0) C dX0_gap_22 rfl ?_
  exact t_X0_gap_b23 hX hd C hn st x1 x2 0 h
def w_X0_gap (st : St) (p1 : Int32) (p2 : Int32) (Φ : St → Int64 → Prop) : Prop := w_X1_isPoint 2 st p1 (fun (r1 : Int32) => ((r1 = 0) → w_X0_gap_b22 Φ st p1 p2) ∧ ((¬ r1 = 0) → w_X0_isPart p2 (fun (r137 : Int32) => ((r137 = 0) → w_X0_gap_b22 Φ st p1 p2) ∧ ((¬ r137 = 0) → w_X0_gap_b23 Φ st p1 p2 1))))
theorem nm_X0_gap : yX0_gap.cls ≠ "java/lang/invoke/MethodHandle" ∧ yX0_gap.cls ≠ "java/lang/invoke/VarHandle" ∧ (parseMethodDescriptor yX0_gap.desc).map (fun d => d.parameters.length) = some 2 := by decide +kernel
theorem e_X0_gap : plainFor yX0_gap = true := plainFor_of_name (by decide +kernel)
theorem m_X0_gap {θ : Th} {l : Launch} (hl0 : l.stackTraces = false) (hX : LX θ) {d : Nat} (hd : 8 ≤ d) (st : St) (p1 : Int32) (p2 : Int32) {Φ : St → Int64 → Prop} (h : w_X0_gap st p1 p2 Φ) : Ct θ l yX0_gap (wsW_ yX0_gap cX0_gap 4 (some Jvm.ClassFile.FieldType.long) [(0, 64, 65, 377), (0, 64, 71, 1)]) d [.ref (ad θ 0), .int p1, .int p2] st (pL Φ, noX) := by
  refine Ct_entryW hl0 e_X0_gap (Nat.le_of_ble_eq_true rfl) (fun κ hκ _ C => ?_)
  have hn : ∀ st r, Φ st r → ((pL Φ, noX) : Ph).1 st (some (.long r)) := fun st r q => ⟨r, rfl, q⟩
  change X _ _ _ _ _ [(0, .ref (ad θ 0)), (1, .int p1), (2, .int p2)] _
  unfold w_X0_gap at h
  refine X_aload_n C dX0_gap_0 rfl 0 rfl (isRV_r _) ?_
  refine X_getF (ci := 0) (j := 1) (q := (RX0, TX0, 49)) C rfl (by decide) q261 rfl dX0_gap_1 (b := 2) (LX_S hX (k := 0) rfl) (LX_F hX (k := 0) (j := 1) rfl) rfl ?_
  refine X_iload_n C dX0_gap_4 rfl 1 rfl ?_
  refine X_callVS (ci := 1) (q := (RX1, TX1, 10)) (As := [_]) (rest := []) C rfl (LH_0 (LX_H2 hX)) q619 q620 q621 q133 q622 ⟨rfl, nm_X1_isPoint⟩ rfl dX0_gap_5 (m_X1_isPoint (Cx_l C) (LX_H2 hX) (d := d - 1) (by omega) st p1 h) (by omega) (by decide) (Nat.le_of_ble_eq_true rfl) (fun s7 w2 hE3 hP4 => ?_) (fun s8 E5 q6 hE3 hP4 => ?_)
  rotate_left
  · exact False.elim hP4
  obtain ⟨r1, rfl, rfl, h⟩ := hP4
  refine X_tls ?_
  refine X_if_eq (tgt := 22) C dX0_gap_8 (by decide) (fun c9 => ?_) (fun c9 => ?_)
  · have h := h.1 c9
    exact t_X0_gap_b22 hX hd C hn st p1 p2 h
  · have h := h.2 c9
    refine X_iload_n C dX0_gap_11 rfl 2 rfl ?_
    refine X_callS (As := [_]) (rest := []) C q658 q659 q132 q660 nm_X0_isPart rfl dX0_gap_12 (m_X0_isPart (Cx_l C) (d := d - 1) (by omega) st p2 h) (by omega) (by decide) (Nat.le_of_ble_eq_true rfl) (fun s143 w138 hE139 hP140 => ?_) (fun s144 E141 q142 hE139 hP140 => ?_)
    rotate_left
    · exact False.elim hP140
    obtain ⟨r137, rfl, rfl, h⟩ := hP140
    refine X_tls ?_
    refine X_if_eq (tgt := 22) C dX0_gap_15 (by decide) (fun c145 => ?_) (fun c145 => ?_)
    · have h := h.1 c145
      exact t_X0_gap_b22 hX hd C hn st p1 p2 h
    · have h := h.2 c145
      refine X_iconst (v := 1) C dX0_gap_18 rfl ?_
      refine X_goto (tgt := 23) C dX0_gap_19 (by decide) ?_
      exact t_X0_gap_b23 hX hd C hn st p1 p2 1 h

def w_X0_shareOf (st : St) (p1 : Int64) (p2 : Int64) (Φ : St → Nat → Prop) (Φw : St → Nat → Prop) (Φa : St → Prop) : Prop := ((p2 = 0) → sN st + 3 ≤ gCAP ∧ sS st + 40 ≤ gCAPS ∧ ∀ a4 b5, a4 ≤ 3 → b5 ≤ 40 → ∀ s7, s7 = jk st a4 b5 → sN s7 + 1 ≤ gCAP ∧ sS s7 + 7 ≤ gCAPS ∧ ∀ s11, s11 = mk s7 6 7 → w_X5_init s11 (sN s7) 7 (fun (s17 : St) => Φw s17 (sN s7))) ∧ (¬ p2 = 0 → ∀ v25 : Int64, v25 = (p1 - p1 / p2 * p2) → w_X2_is st 143 p1 p2 (fun (s30 : St) (r29 : Nat) => Φ s30 r29) (fun (s31 : St) => sN s31 + 1 ≤ gCAP ∧ sS s31 + 7 ≤ gCAPS ∧ ∀ s34, s34 = mk s31 6 7 → w_X5_init s34 (sN s31) 7 (fun (s40 : St) => Φw s40 (sN s31))))
theorem nm_X0_shareOf : yX0_shareOf.cls ≠ "java/lang/invoke/MethodHandle" ∧ yX0_shareOf.cls ≠ "java/lang/invoke/VarHandle" ∧ (parseMethodDescriptor yX0_shareOf.desc).map (fun d => d.parameters.length) = some 2 := by decide +kernel
theorem e_X0_shareOf : plainFor yX0_shareOf = true := plainFor_of_name (by decide +kernel)
theorem m_X0_shareOf {θ : Th} {l : Launch} (hl0 : l.stackTraces = false) (hX : LX θ) {d : Nat} (hd : 4 ≤ d) (st : St) (p1 : Int64) (p2 : Int64) {Φ : St → Nat → Prop} {Φw : St → Nat → Prop} {Φa : St → Prop} (h : w_X0_shareOf st p1 p2 Φ Φw Φa) : Ct θ l yX0_shareOf (wsW_ yX0_shareOf cX0_shareOf 7 (some (Jvm.ClassFile.FieldType.object "SecretsWorth$Ratio")) [(0, 14, 15, 377)]) d [.ref (ad θ 0), .long p1, .long p2] st (pN θ 3 Φ, (exOr (exW θ Φw) (exA Φa))) := by
  refine Ct_entryW hl0 e_X0_shareOf (Nat.le_of_ble_eq_true rfl) (fun κ hκ _ C => ?_)
  have hn : ∀ st r, r < gBIG → sh st r = 3 → Φ st r → ((pN θ 3 Φ, (exOr (exW θ Φw) (exA Φa))) : Ph).1 st (some (.ref (ad θ r))) := fun st r q1 q2 q => ⟨r, rfl, q1, q2, q⟩
  have hw : ∀ st a, a < gBIG → sh st a = 6 → Φw st a → ((pN θ 3 Φ, (exOr (exW θ Φw) (exA Φa))) : Ph).2 st "SecretsWorth$Wrong" (ad θ a) := fun st a q1 q2 q => Or.inl ⟨rfl, a, rfl, q1, q2, q⟩
  have ha : ∀ st q, Φa st → ((pN θ 3 Φ, (exOr (exW θ Φw) (exA Φa))) : Ph).2 st "java/lang/ArithmeticException" q := fun st q2 q => Or.inr (⟨rfl, q⟩)
  change X _ _ _ _ _ [(0, .ref (ad θ 0)), (1, .long p1), (3, .long p2)] _
  unfold w_X0_shareOf at h
  refine X_lload_n C dX0_shareOf_0 rfl 1 rfl ?_
  refine X_lload_n C dX0_shareOf_1 rfl 2 rfl ?_
  by_cases c24 : p2 = 0
  · have h := h.1 c24
    have g2 := h.1
    have h := h.2
    have g3 := h.1
    have h := h.2
    refine X_lremZ C c24 dX0_shareOf_2 (Nat.le_of_ble_eq_true rfl) g2 g3 (fun a4 b5 q6 haa4 hbb5 => ?_)
    refine XT_nm (fun s7 e8 => ?_)
    have h := h a4 b5 haa4 hbb5 s7 e8
    refine XT_catch C [] ⟨0, 14, 15, 377⟩ [] rfl (fun _ h => absurd h List.not_mem_nil) (by decide) (by decide) q762 q724 ?_
    refine X_astore C dX0_shareOf_15 (isRV_r _) (lo2 := [(5, _), (0, _), (1, _), (3, _)]) (by decide) rfl ?_
    have g9 := h.1
    have h := h.2
    have g10 := h.1
    have h := h.2
    refine X_new (ci := 5) (q := (RX5, TX5, 7)) C rfl q412 q424 q140 g9 g10 dX0_shareOf_17 (fun hE13 => ?_)
    refine X_nm (fun s11 e12 => ?_)
    have h := h s11 e12
    rw [← e12] at hE13
    have hs14 : sh s11 (sN s7) = 6 := by rw [e12]; exact sh_mk
    have hb15 := nb_N g9
    refine X_dup C dX0_shareOf_20 rfl ?_
    refine X_bipush (v := 7) C dX0_shareOf_21 rfl ?_
    refine X_callI (As := [_]) (rest := [_]) C q479 q480 q140 q481 rfl nm_X5_init rfl dX0_shareOf_23 (m_X5_init (Cx_l C) hX (d := d - 1) (by omega) s11 (sN s7) 7 hs14 hb15 h) (by omega) (by decide) (Nat.le_of_ble_eq_true rfl) (fun s17 w18 hE19 hP20 => ?_) (fun s23 E21 q22 hE19 hP20 => ?_)
    rotate_left
    · exact False.elim hP20
    obtain ⟨rfl, h⟩ := hP20
    refine X_tln ?_
    have hs14 := Ext_sh hE19 hs14 (by decide)
    refine X_athrow C (ci := 5) rfl hs14 dX0_shareOf_26 ?_
    exact XT_out C rfl (hw s17 (sN s7) hb15 hs14 h)
  · have h := h.2 c24
    refine X_lrem C dX0_shareOf_2 c24 ?_
    refine X_topl (fun v25 e26 => ?_)
    have h := h v25 e26
    refine X_lstore C dX0_shareOf_3 (lo2 := [(5, _), (0, _), (1, _), (3, _)]) (by decide) rfl ?_
    refine X_aload_n C dX0_shareOf_5 rfl 1 rfl (isRV_r _) ?_
    refine X_getF (ci := 0) (j := 29) (q := (RX0, TX0, 49)) C rfl (by decide) q289 rfl dX0_shareOf_6 (b := 143) (LX_S hX (k := 0) rfl) (LX_F hX (k := 0) (j := 29) rfl) rfl ?_
    refine X_lload_n C dX0_shareOf_9 rfl 2 rfl ?_
    refine X_lload_n C dX0_shareOf_10 rfl 3 rfl ?_
    refine X_sh (LX_S hX (k := 143) rfl) (by decide) (fun hs27 hb28 => ?_)
    refine X_callV (ci := 2) (q := (RX2, TX2, 2)) (As := [_, _]) (rest := []) C rfl hs27 q714 q715 q716 q134 q717 ⟨rfl, nm_X2_is⟩ rfl dX0_shareOf_11 (m_X2_is (Cx_l C) (d := d - 1) (by omega) st 143 p1 p2 hs27 hb28 h) (by omega) (by decide) (Nat.le_of_ble_eq_true rfl) (fun s30 w47 hE48 hP49 => ?_) (fun s52 E50 q51 hE48 hP49 => ?_)
    rotate_left
    · rcases hP49 with ⟨rfl, h⟩
      refine XT_catch C [] ⟨0, 14, 15, 377⟩ [] rfl (fun _ h => absurd h List.not_mem_nil) (by decide) (by decide) q762 q724 ?_
      refine X_astore C dX0_shareOf_15 (isRV_r _) (lo2 := [(5, _), (0, _), (1, _), (3, _)]) (by decide) rfl ?_
      have g32 := h.1
      have h := h.2
      have g33 := h.1
      have h := h.2
      refine X_new (ci := 5) (q := (RX5, TX5, 7)) C rfl q412 q424 q140 g32 g33 dX0_shareOf_17 (fun hE36 => ?_)
      refine X_nm (fun s34 e35 => ?_)
      have h := h s34 e35
      rw [← e35] at hE36
      have hs37 : sh s34 (sN s52) = 6 := by rw [e35]; exact sh_mk
      have hb38 := nb_N g32
      refine X_dup C dX0_shareOf_20 rfl ?_
      refine X_bipush (v := 7) C dX0_shareOf_21 rfl ?_
      refine X_callI (As := [_]) (rest := [_]) C q479 q480 q140 q481 rfl nm_X5_init rfl dX0_shareOf_23 (m_X5_init (Cx_l C) hX (d := d - 1) (by omega) s34 (sN s52) 7 hs37 hb38 h) (by omega) (by decide) (Nat.le_of_ble_eq_true rfl) (fun s40 w41 hE42 hP43 => ?_) (fun s46 E44 q45 hE42 hP43 => ?_)
      rotate_left
      · exact False.elim hP43
      obtain ⟨rfl, h⟩ := hP43
      refine X_tln ?_
      have hs37 := Ext_sh hE42 hs37 (by decide)
      refine X_athrow C (ci := 5) rfl hs37 dX0_shareOf_26 ?_
      exact XT_out C rfl (hw s40 (sN s52) hb38 hs37 h)
    obtain ⟨r29, rfl, hb53, hs54, h⟩ := hP49
    refine X_tls ?_
    exact X_aret C rfl (Or.inl ⟨_, rfl⟩) (isRV_r _) dX0_shareOf_14 (hn s30 _ hb53 hs54 h)

def w_X0_feed_b27 (Φ : St → Int32 → Prop) (st : St) (x1 : Int32) (z0 : Int32) : Prop := w_X0_need st z0 4 (fun (s31 : St) => vp_in (sI s31 0 33) 200 ∧ ∀ s51, s51 = putI s31 146 ((sI s31 0 33).toNatClampNeg) x1 → ∀ s53, s53 = putI s51 0 33 ((sI s51 0 33) + 1) → Φ s53 (sI s53 0 33)) (fun (s32 : St) (a33 : Nat) => w_X0_answers s32 a33 (fun (s37 : St) (r36 : Int32) => Φ s37 r36))
theorem t_X0_feed_b27 {θ : Th} {κ : Kx} {Ph : Ph} (hX : LX θ) {d : Nat} (hd : 6 ≤ d) (C : Cx θ κ yX0_feed cX0_feed 3 (some Jvm.ClassFile.FieldType.int) [(0, 55, 56, 1)] d) {Φ : St → Int32 → Prop} (hn : ∀ st r, Φ st r → Ph.1 st (some (.int r))) (st : St) (x1 : Int32) (z0 : Int32) (h : w_X0_feed_b27 Φ st x1 z0) : X θ κ Ph st 27 [(0, .ref (ad θ 0)), (1, .int x1)] [.int z0] := by
  unfold w_X0_feed_b27 at h
  refine X_iconst (v := 4) C dX0_feed_27 rfl ?_
  refine X_callS (As := [_, _]) (rest := []) C q421 q422 q132 q423 nm_X0_need rfl dX0_feed_28 (m_X0_need (Cx_l C) hX (d := d - 1) (by omega) st z0 4 h) (by omega) (by decide) (Nat.le_of_ble_eq_true rfl) (fun s31 w44 hE45 hP46 => ?_) (fun s49 E47 q48 hE45 hP46 => ?_)
  rotate_left
  · rcases hP46 with ⟨rfl, a_, rfl, hb_, hs_, h⟩
    refine XT_catch C [] ⟨0, 55, 56, 1⟩ [] rfl (fun _ h => absurd h List.not_mem_nil) (by decide) (by decide) q412 q425 ?_
    refine X_astore_n C dX0_feed_56 rfl (isRV_r _) (lo2 := [(2, _), (0, _), (1, _)]) (by decide) rfl ?_
    refine X_aload_n C dX0_feed_57 rfl 1 rfl (isRV_r _) ?_
    refine X_aload_n C dX0_feed_58 rfl 0 rfl (isRV_r _) ?_
    refine X_callVS (ci := 0) (q := (RX0, TX0, 49)) (As := [_]) (rest := []) C rfl (LX_S hX (k := 0) rfl) q512 q514 qs4 q132 q515 ⟨rfl, nm_X0_answers⟩ rfl dX0_feed_59 (m_X0_answers (Cx_l C) hX (d := d - 1) (by omega) s49 a_ hs_ hb_ h) (by omega) (by decide) (Nat.le_of_ble_eq_true rfl) (fun s37 w38 hE39 hP40 => ?_) (fun s43 E41 q42 hE39 hP40 => ?_)
    rotate_left
    · exact False.elim hP40
    obtain ⟨r36, rfl, h⟩ := hP40
    refine X_tls ?_
    have hs_ := Ext_sh hE39 hs_ (by decide)
    exact X_iret C rfl dX0_feed_62 (hn s37 _ h)
  obtain ⟨rfl, h⟩ := hP46
  refine X_tln ?_
  refine X_aload_n C dX0_feed_31 rfl 0 rfl (isRV_r _) ?_
  refine X_getF (ci := 0) (j := 32) (q := (RX0, TX0, 49)) C rfl (by decide) q292 rfl dX0_feed_32 (b := 146) (LX_S hX (k := 0) rfl) (LX_F hX (k := 0) (j := 32) rfl) rfl ?_
  refine X_aload_n C dX0_feed_35 rfl 0 rfl (isRV_r _) ?_
  refine X_getS (ci := 0) (j := 33) (q := (RX0, TX0, 49)) C rfl (by decide) q293 rfl dX0_feed_36 (LX_S hX (k := 0) rfl) (v := .int (sI s31 0 33)) rfl ?_
  refine X_iload_n C dX0_feed_39 rfl 1 rfl ?_
  have g50 := h.1
  have h := h.2
  refine X_iastS C (LX_S hX (k := 146) rfl) (LX_L hX (k := 146) rfl) g50 rfl dX0_feed_40 ?_
  refine X_nm (fun s51 e52 => ?_)
  have h := h s51 e52
  refine X_aload_n C dX0_feed_41 rfl 0 rfl (isRV_r _) ?_
  refine X_dup C dX0_feed_42 rfl ?_
  refine X_getS (ci := 0) (j := 33) (q := (RX0, TX0, 49)) C rfl (by decide) q293 rfl dX0_feed_43 (LX_S hX (k := 0) rfl) (v := .int (sI s51 0 33)) rfl ?_
  refine X_iconst (v := 1) C dX0_feed_46 rfl ?_
  refine X_iadd C dX0_feed_47 ?_
  refine X_putSI (ci := 0) (j := 33) (q := (RX0, TX0, 49)) C rfl (by decide) q293 rfl rfl dX0_feed_48 (LX_S hX (k := 0) rfl) rfl rfl rfl ?_
  refine X_nm (fun s53 e54 => ?_)
  have h := h s53 e54
  refine X_aload_n C dX0_feed_51 rfl 0 rfl (isRV_r _) ?_
  refine X_getS (ci := 0) (j := 33) (q := (RX0, TX0, 49)) C rfl (by decide) q293 rfl dX0_feed_52 (LX_S hX (k := 0) rfl) (v := .int (sI s53 0 33)) rfl ?_
  exact X_iret C rfl dX0_feed_55 (hn s53 _ h)
def w_X0_feed (st : St) (p1 : Int32) (Φ : St → Int32 → Prop) : Prop := w_X0_in p1.toInt64 0 255 (fun (r1 : Int32) => w_X0_must st r1 (fun (s10 : St) => ((200 ≤ (sI s10 0 33)) → w_X0_feed_b27 Φ s10 p1 0) ∧ ((¬ 200 ≤ (sI s10 0 33)) → w_X0_feed_b27 Φ s10 p1 1)) (fun (s11 : St) (a12 : Nat) => w_X0_answers s11 a12 (fun (s16 : St) (r15 : Int32) => Φ s16 r15)))
theorem nm_X0_feed : yX0_feed.cls ≠ "java/lang/invoke/MethodHandle" ∧ yX0_feed.cls ≠ "java/lang/invoke/VarHandle" ∧ (parseMethodDescriptor yX0_feed.desc).map (fun d => d.parameters.length) = some 1 := by decide +kernel
theorem e_X0_feed : plainFor yX0_feed = true := plainFor_of_name (by decide +kernel)
theorem m_X0_feed {θ : Th} {l : Launch} (hl0 : l.stackTraces = false) (hX : LX θ) {d : Nat} (hd : 6 ≤ d) (st : St) (p1 : Int32) {Φ : St → Int32 → Prop} (h : w_X0_feed st p1 Φ) : Ct θ l yX0_feed (wsW_ yX0_feed cX0_feed 3 (some Jvm.ClassFile.FieldType.int) [(0, 55, 56, 1)]) d [.ref (ad θ 0), .int p1] st (pI Φ, noX) := by
  refine Ct_entryW hl0 e_X0_feed (Nat.le_of_ble_eq_true rfl) (fun κ hκ _ C => ?_)
  have hn : ∀ st r, Φ st r → ((pI Φ, noX) : Ph).1 st (some (.int r)) := fun st r q => ⟨r, rfl, q⟩
  change X _ _ _ _ _ [(0, .ref (ad θ 0)), (1, .int p1)] _
  unfold w_X0_feed at h
  refine X_iload_n C dX0_feed_0 rfl 1 rfl ?_
  refine X_i2l C dX0_feed_1 ?_
  refine X_lconst (v := 0) C dX0_feed_2 rfl ?_
  refine X_ldc2 C q933 dX0_feed_3 ?_
  refine X_callS (As := [_, _, _]) (rest := []) C q415 q416 q132 q417 nm_X0_in rfl dX0_feed_6 (m_X0_in (Cx_l C) (d := d - 1) (by omega) st p1.toInt64 0 255 h) (by omega) (by decide) (Nat.le_of_ble_eq_true rfl) (fun s7 w2 hE3 hP4 => ?_) (fun s8 E5 q6 hE3 hP4 => ?_)
  rotate_left
  · exact False.elim hP4
  obtain ⟨r1, rfl, rfl, h⟩ := hP4
  refine X_tls ?_
  refine X_callS (As := [_]) (rest := []) C q418 q419 q132 q420 nm_X0_must rfl dX0_feed_9 (m_X0_must (Cx_l C) hX (d := d - 1) (by omega) st r1 h) (by omega) (by decide) (Nat.le_of_ble_eq_true rfl) (fun s10 w23 hE24 hP25 => ?_) (fun s28 E26 q27 hE24 hP25 => ?_)
  rotate_left
  · rcases hP25 with ⟨rfl, a_, rfl, hb_, hs_, h⟩
    refine XT_catch C [] ⟨0, 55, 56, 1⟩ [] rfl (fun _ h => absurd h List.not_mem_nil) (by decide) (by decide) q412 q425 ?_
    refine X_astore_n C dX0_feed_56 rfl (isRV_r _) (lo2 := [(2, _), (0, _), (1, _)]) (by decide) rfl ?_
    refine X_aload_n C dX0_feed_57 rfl 1 rfl (isRV_r _) ?_
    refine X_aload_n C dX0_feed_58 rfl 0 rfl (isRV_r _) ?_
    refine X_callVS (ci := 0) (q := (RX0, TX0, 49)) (As := [_]) (rest := []) C rfl (LX_S hX (k := 0) rfl) q512 q514 qs4 q132 q515 ⟨rfl, nm_X0_answers⟩ rfl dX0_feed_59 (m_X0_answers (Cx_l C) hX (d := d - 1) (by omega) s28 a_ hs_ hb_ h) (by omega) (by decide) (Nat.le_of_ble_eq_true rfl) (fun s16 w17 hE18 hP19 => ?_) (fun s22 E20 q21 hE18 hP19 => ?_)
    rotate_left
    · exact False.elim hP19
    obtain ⟨r15, rfl, h⟩ := hP19
    refine X_tls ?_
    have hs_ := Ext_sh hE18 hs_ (by decide)
    exact X_iret C rfl dX0_feed_62 (hn s16 _ h)
  obtain ⟨rfl, h⟩ := hP25
  refine X_tln ?_
  refine X_aload_n C dX0_feed_12 rfl 0 rfl (isRV_r _) ?_
  refine X_getS (ci := 0) (j := 33) (q := (RX0, TX0, 49)) C rfl (by decide) q293 rfl dX0_feed_13 (LX_S hX (k := 0) rfl) (v := .int (sI s10 0 33)) rfl ?_
  refine X_sipush (v := 200) C dX0_feed_16 rfl ?_
  refine X_icmp_ge (tgt := 26) C dX0_feed_19 (by decide) (fun c29 => ?_) (fun c29 => ?_)
  · have h := h.1 c29
    refine X_iconst (v := 0) C dX0_feed_26 rfl ?_
    exact t_X0_feed_b27 hX hd C hn s10 p1 0 h
  · have h := h.2 c29
    refine X_iconst (v := 1) C dX0_feed_22 rfl ?_
    refine X_goto (tgt := 27) C dX0_feed_23 (by decide) ?_
    exact t_X0_feed_b27 hX hd C hn s10 p1 1 h

def w_X0_here (st0 : St) (Φ : Int32 → Prop) : Prop := (((sI st0 0 33) ≤ (sI st0 0 34)) → Φ (-1)) ∧ ((¬ (sI st0 0 33) ≤ (sI st0 0 34)) → vp_in (sI st0 0 34) 200 ∧ Φ (sI st0 146 (sI st0 0 34).toNatClampNeg))
theorem nm_X0_here : yX0_here.cls ≠ "java/lang/invoke/MethodHandle" ∧ yX0_here.cls ≠ "java/lang/invoke/VarHandle" ∧ (parseMethodDescriptor yX0_here.desc).map (fun d => d.parameters.length) = some 0 := by decide +kernel
theorem e_X0_here : plainFor yX0_here = true := plainFor_of_name (by decide +kernel)
theorem m_X0_here {θ : Th} {l : Launch} (hl0 : l.stackTraces = false) (hX : LX θ) {d : Nat} (hd : 0 ≤ d) (st0 : St) {Φ : Int32 → Prop} (h : w_X0_here st0 Φ) : Ct θ l yX0_here (ws_ yX0_here cX0_here 1 (some Jvm.ClassFile.FieldType.int)) d [.ref (ad θ 0)] st0 (rI st0 Φ, noX) := by
  refine Ct_entry hl0 e_X0_here (Nat.le_of_ble_eq_true rfl) (fun κ hκ _ C => ?_)
  have hn : ∀ r, Φ r → ((rI st0 Φ, noX) : Ph).1 st0 (some (.int r)) := fun r q => ⟨r, rfl, rfl, q⟩
  change X _ _ _ _ _ [(0, .ref (ad θ 0))] _
  unfold w_X0_here at h
  refine X_aload_n C dX0_here_0 rfl 0 rfl (isRV_r _) ?_
  refine X_getS (ci := 0) (j := 34) (q := (RX0, TX0, 49)) C rfl (by decide) q294 rfl dX0_here_1 (LX_S hX (k := 0) rfl) (v := .int (sI st0 0 34)) rfl ?_
  refine X_aload_n C dX0_here_4 rfl 0 rfl (isRV_r _) ?_
  refine X_getS (ci := 0) (j := 33) (q := (RX0, TX0, 49)) C rfl (by decide) q293 rfl dX0_here_5 (LX_S hX (k := 0) rfl) (v := .int (sI st0 0 33)) rfl ?_
  refine X_icmp_ge (tgt := 23) C dX0_here_8 (by decide) (fun c1 => ?_) (fun c1 => ?_)
  · have h := h.1 c1
    refine X_iconst (v := (-1)) C dX0_here_23 rfl ?_
    exact X_iret C rfl dX0_here_24 (hn _ h)
  · have h := h.2 c1
    refine X_aload_n C dX0_here_11 rfl 0 rfl (isRV_r _) ?_
    refine X_getF (ci := 0) (j := 32) (q := (RX0, TX0, 49)) C rfl (by decide) q292 rfl dX0_here_12 (b := 146) (LX_S hX (k := 0) rfl) (LX_F hX (k := 0) (j := 32) rfl) rfl ?_
    refine X_aload_n C dX0_here_15 rfl 0 rfl (isRV_r _) ?_
    refine X_getS (ci := 0) (j := 34) (q := (RX0, TX0, 49)) C rfl (by decide) q294 rfl dX0_here_16 (LX_S hX (k := 0) rfl) (v := .int (sI st0 0 34)) rfl ?_
    have g2 := h.1
    have h := h.2
    refine X_ialdS C (LX_S hX (k := 146) rfl) (LX_L hX (k := 146) rfl) g2 rfl dX0_here_19 ?_
    refine X_goto (tgt := 24) C dX0_here_20 (by decide) ?_
    exact X_iret C rfl dX0_here_24 (hn _ h)

def w_X0_isIn (st0 : St) (p1 : Int32) (p2 : Int32) (Φ : Int32 → Prop) : Prop := w_X0_here st0 (fun (r1 : Int32) => ((r1 < p1) → Φ 0) ∧ ((¬ r1 < p1) → w_X0_here st0 (fun (r10 : Int32) => ((p2 < r10) → Φ 0) ∧ ((¬ p2 < r10) → Φ 1))))
theorem nm_X0_isIn : yX0_isIn.cls ≠ "java/lang/invoke/MethodHandle" ∧ yX0_isIn.cls ≠ "java/lang/invoke/VarHandle" ∧ (parseMethodDescriptor yX0_isIn.desc).map (fun d => d.parameters.length) = some 2 := by decide +kernel
theorem e_X0_isIn : plainFor yX0_isIn = true := plainFor_of_name (by decide +kernel)
theorem m_X0_isIn {θ : Th} {l : Launch} (hl0 : l.stackTraces = false) (hX : LX θ) {d : Nat} (hd : 1 ≤ d) (st0 : St) (p1 : Int32) (p2 : Int32) {Φ : Int32 → Prop} (h : w_X0_isIn st0 p1 p2 Φ) : Ct θ l yX0_isIn (ws_ yX0_isIn cX0_isIn 3 (some Jvm.ClassFile.FieldType.boolean)) d [.ref (ad θ 0), .int p1, .int p2] st0 (rI st0 Φ, noX) := by
  refine Ct_entry hl0 e_X0_isIn (Nat.le_of_ble_eq_true rfl) (fun κ hκ _ C => ?_)
  have hn : ∀ r, Φ r → ((rI st0 Φ, noX) : Ph).1 st0 (some (.int r)) := fun r q => ⟨r, rfl, rfl, q⟩
  change X _ _ _ _ _ [(0, .ref (ad θ 0)), (1, .int p1), (2, .int p2)] _
  unfold w_X0_isIn at h
  refine X_aload_n C dX0_isIn_0 rfl 0 rfl (isRV_r _) ?_
  refine X_callVS (ci := 0) (q := (RX0, TX0, 49)) (As := []) (rest := []) C rfl (LX_S hX (k := 0) rfl) q954 q956 qs40 q132 q957 ⟨rfl, nm_X0_here⟩ rfl dX0_isIn_1 (m_X0_here (Cx_l C) hX (d := d - 1) (by omega) st0 h) (by omega) (by decide) (Nat.le_of_ble_eq_true rfl) (fun s7 w2 hE3 hP4 => ?_) (fun s8 E5 q6 hE3 hP4 => ?_)
  rotate_left
  · exact False.elim hP4
  obtain ⟨r1, rfl, rfl, h⟩ := hP4
  refine X_tls ?_
  refine X_iload_n C dX0_isIn_4 rfl 1 rfl ?_
  refine X_icmp_lt (tgt := 20) C dX0_isIn_5 (by decide) (fun c9 => ?_) (fun c9 => ?_)
  · have h := h.1 c9
    refine X_iconst (v := 0) C dX0_isIn_20 rfl ?_
    exact X_zret C rfl rfl dX0_isIn_21 (hn _ h)
  · have h := h.2 c9
    refine X_aload_n C dX0_isIn_8 rfl 0 rfl (isRV_r _) ?_
    refine X_callVS (ci := 0) (q := (RX0, TX0, 49)) (As := []) (rest := []) C rfl (LX_S hX (k := 0) rfl) q954 q956 qs40 q132 q957 ⟨rfl, nm_X0_here⟩ rfl dX0_isIn_9 (m_X0_here (Cx_l C) hX (d := d - 1) (by omega) st0 h) (by omega) (by decide) (Nat.le_of_ble_eq_true rfl) (fun s16 w11 hE12 hP13 => ?_) (fun s17 E14 q15 hE12 hP13 => ?_)
    rotate_left
    · exact False.elim hP13
    obtain ⟨r10, rfl, rfl, h⟩ := hP13
    refine X_tls ?_
    refine X_iload_n C dX0_isIn_12 rfl 2 rfl ?_
    refine X_icmp_gt (tgt := 20) C dX0_isIn_13 (by decide) (fun c18 => ?_) (fun c18 => ?_)
    · have h := h.1 c18
      refine X_iconst (v := 0) C dX0_isIn_20 rfl ?_
      exact X_zret C rfl rfl dX0_isIn_21 (hn _ h)
    · have h := h.2 c18
      refine X_iconst (v := 1) C dX0_isIn_16 rfl ?_
      refine X_goto (tgt := 21) C dX0_isIn_17 (by decide) ?_
      exact X_zret C rfl rfl dX0_isIn_21 (hn _ h)

def w_X0_begin_l22 (Φ : St → Int32 → Prop) (E40 : St → Prop) : Nat → St → Int32 → Prop
  | 0, _, _ => False
  | n + 1, st, x1 => ((3 ≤ x1) → E40 st) ∧ ((¬ 3 ≤ x1) → vp_in x1 3 ∧ ∀ s11, s11 = putI st 147 (x1.toNatClampNeg) 0 → w_X0_begin_l22 Φ E40 n s11 (x1 + 1))
theorem t_X0_begin_l22 {θ : Th} {κ : Kx} {Ph : Ph} (hX : LX θ) {d : Nat} (hd : 0 ≤ d) (C : Cx θ κ yX0_begin cX0_begin 2 (some Jvm.ClassFile.FieldType.int) [] d) {Φ : St → Int32 → Prop} (hn : ∀ st r, Φ st r → Ph.1 st (some (.int r))) {E40 : St → Prop} (hE40 : ∀ (st : St), E40 st → X θ κ Ph st 40 [] []) : ∀ (n : Nat) (st : St) (x1 : Int32), w_X0_begin_l22 Φ E40 n st x1 → X θ κ Ph st 22 [(0, .ref (ad θ 0)), (1, .int x1)] [] := by
  intro n
  induction n with
  | zero => intro st x1 h; exact h.elim
  | succ n hK22 =>
    intro st x1 h
    rw [w_X0_begin_l22] at h
    refine X_iload_n C dX0_begin_22 rfl 1 rfl ?_
    refine X_iconst (v := 3) C dX0_begin_23 rfl ?_
    refine X_icmp_ge (tgt := 40) C dX0_begin_24 (by decide) (fun c9 => ?_) (fun c9 => ?_)
    · have h := h.1 c9
      refine X_sub [] (lo2 := []) rfl ?_
      exact hE40 st h
    · have h := h.2 c9
      refine X_aload_n C dX0_begin_27 rfl 0 rfl (isRV_r _) ?_
      refine X_getF (ci := 0) (j := 45) (q := (RX0, TX0, 49)) C rfl (by decide) q305 rfl dX0_begin_28 (b := 147) (LX_S hX (k := 0) rfl) (LX_F hX (k := 0) (j := 45) rfl) rfl ?_
      refine X_iload_n C dX0_begin_31 rfl 1 rfl ?_
      refine X_iconst (v := 0) C dX0_begin_32 rfl ?_
      have g10 := h.1
      have h := h.2
      refine X_iastS C (LX_S hX (k := 147) rfl) (LX_L hX (k := 147) rfl) g10 rfl dX0_begin_33 ?_
      refine X_nm (fun s11 e12 => ?_)
      have h := h s11 e12
      refine X_iinc (v := (x1 + 1)) C (j := 1) dX0_begin_34 rfl rfl (lo2 := [(1, _), (0, _)]) (by decide) rfl ?_
      refine X_goto (tgt := 22) C dX0_begin_37 (by decide) ?_
      refine X_sub [1, 0] (lo2 := [(0, _), (1, _)]) rfl ?_
      exact hK22 s11 (x1 + 1) h
def w_X0_begin_b40 (Φ : St → Int32 → Prop) (st : St) : Prop := Φ st 1
theorem t_X0_begin_b40 {θ : Th} {κ : Kx} {Ph : Ph} (hX : LX θ) {d : Nat} (hd : 0 ≤ d) (C : Cx θ κ yX0_begin cX0_begin 2 (some Jvm.ClassFile.FieldType.int) [] d) {Φ : St → Int32 → Prop} (hn : ∀ st r, Φ st r → Ph.1 st (some (.int r))) (st : St) (h : w_X0_begin_b40 Φ st) : X θ κ Ph st 40 [] [] := by
  unfold w_X0_begin_b40 at h
  refine X_iconst (v := 1) C dX0_begin_40 rfl ?_
  exact X_iret C rfl dX0_begin_41 (hn st _ h)
def w_X0_begin (st : St) (Φ : St → Int32 → Prop) : Prop := ∀ s1, s1 = putI st 0 43 1 → ∀ s3, s3 = putI s1 0 44 0 → ∀ s5, s5 = putR s3 0 47 none → ∀ s7, s7 = putI s5 0 46 (-1) → w_X0_begin_l22 Φ (fun (s13 : St) => w_X0_begin_b40 Φ s13) gFU s7 0
theorem nm_X0_begin : yX0_begin.cls ≠ "java/lang/invoke/MethodHandle" ∧ yX0_begin.cls ≠ "java/lang/invoke/VarHandle" ∧ (parseMethodDescriptor yX0_begin.desc).map (fun d => d.parameters.length) = some 0 := by decide +kernel
theorem e_X0_begin : plainFor yX0_begin = true := plainFor_of_name (by decide +kernel)
theorem m_X0_begin {θ : Th} {l : Launch} (hl0 : l.stackTraces = false) (hX : LX θ) {d : Nat} (hd : 0 ≤ d) (st : St) {Φ : St → Int32 → Prop} (h : w_X0_begin st Φ) : Ct θ l yX0_begin (ws_ yX0_begin cX0_begin 2 (some Jvm.ClassFile.FieldType.int)) d [.ref (ad θ 0)] st (pI Φ, noX) := by
  refine Ct_entry hl0 e_X0_begin (Nat.le_of_ble_eq_true rfl) (fun κ hκ _ C => ?_)
  have hn : ∀ st r, Φ st r → ((pI Φ, noX) : Ph).1 st (some (.int r)) := fun st r q => ⟨r, rfl, q⟩
  change X _ _ _ _ _ [(0, .ref (ad θ 0))] _
  unfold w_X0_begin at h
  refine X_aload_n C dX0_begin_0 rfl 0 rfl (isRV_r _) ?_
  refine X_iconst (v := 1) C dX0_begin_1 rfl ?_
  refine X_putSI (ci := 0) (j := 43) (q := (RX0, TX0, 49)) C rfl (by decide) q303 rfl rfl dX0_begin_2 (LX_S hX (k := 0) rfl) rfl rfl rfl ?_
  refine X_nm (fun s1 e2 => ?_)
  have h := h s1 e2
  refine X_aload_n C dX0_begin_5 rfl 0 rfl (isRV_r _) ?_
  refine X_iconst (v := 0) C dX0_begin_6 rfl ?_
  refine X_putSI (ci := 0) (j := 44) (q := (RX0, TX0, 49)) C rfl (by decide) q304 rfl rfl dX0_begin_7 (LX_S hX (k := 0) rfl) rfl rfl rfl ?_
  refine X_nm (fun s3 e4 => ?_)
  have h := h s3 e4
  refine X_aload_n C dX0_begin_10 rfl 0 rfl (isRV_r _) ?_
  refine X_null C dX0_begin_11 ?_
  refine X_putSR (v := none) (ci := 0) (j := 47) (q := (RX0, TX0, 49)) C rfl (by decide) q307 rfl rfl dX0_begin_12 (LX_S hX (k := 0) rfl) (sv_R (Or.inl ⟨_, rfl⟩) _ _) (LX_N hX (k := 0) (j := 47) rfl) (nr_ref (Or.inl ⟨_, rfl⟩)).1 (nr_ref (Or.inl ⟨_, rfl⟩)).2 ?_
  refine X_nm (fun s5 e6 => ?_)
  have h := h s5 e6
  refine X_aload_n C dX0_begin_15 rfl 0 rfl (isRV_r _) ?_
  refine X_iconst (v := (-1)) C dX0_begin_16 rfl ?_
  refine X_putSI (ci := 0) (j := 46) (q := (RX0, TX0, 49)) C rfl (by decide) q306 rfl rfl dX0_begin_17 (LX_S hX (k := 0) rfl) rfl rfl rfl ?_
  refine X_nm (fun s7 e8 => ?_)
  have h := h s7 e8
  refine X_iconst (v := 0) C dX0_begin_20 rfl ?_
  refine X_istore_n C dX0_begin_21 rfl (lo2 := [(1, _), (0, _)]) (by decide) rfl ?_
  refine X_sub [1, 0] (lo2 := [(0, _), (1, _)]) rfl ?_
  refine t_X0_begin_l22 hX hd C hn ?_ gFU s7 0 h
  · intro s13 h
    exact t_X0_begin_b40 hX hd C hn s13 h

def w_X0_excess (st0 : St) (p1 : Int32) (Φ : Int32 → Prop) : Prop := (((sI st0 2 0) ≤ p1) → Φ 0) ∧ ((¬ (sI st0 2 0) ≤ p1) → vp_in p1 3 ∧ w_J8_max 0 ((sI st0 147 p1.toNatClampNeg) - ((sI st0 0 44) * (sI st0 (2 + 14) p1.toNatClampNeg))) (fun (r3 : Int32) => Φ r3))
theorem nm_X0_excess : yX0_excess.cls ≠ "java/lang/invoke/MethodHandle" ∧ yX0_excess.cls ≠ "java/lang/invoke/VarHandle" ∧ (parseMethodDescriptor yX0_excess.desc).map (fun d => d.parameters.length) = some 1 := by decide +kernel
theorem e_X0_excess : plainFor yX0_excess = true := plainFor_of_name (by decide +kernel)
theorem m_X0_excess {θ : Th} {l : Launch} (hl0 : l.stackTraces = false) (hX : LX θ) {d : Nat} (hd : 1 ≤ d) (st0 : St) (p1 : Int32) {Φ : Int32 → Prop} (h : w_X0_excess st0 p1 Φ) : Ct θ l yX0_excess (ws_ yX0_excess cX0_excess 2 (some Jvm.ClassFile.FieldType.int)) d [.ref (ad θ 0), .int p1] st0 (rI st0 Φ, noX) := by
  refine Ct_entry hl0 e_X0_excess (Nat.le_of_ble_eq_true rfl) (fun κ hκ _ C => ?_)
  have hn : ∀ r, Φ r → ((rI st0 Φ, noX) : Ph).1 st0 (some (.int r)) := fun r q => ⟨r, rfl, rfl, q⟩
  change X _ _ _ _ _ [(0, .ref (ad θ 0)), (1, .int p1)] _
  unfold w_X0_excess at h
  refine X_iload_n C dX0_excess_0 rfl 1 rfl ?_
  refine X_aload_n C dX0_excess_1 rfl 0 rfl (isRV_r _) ?_
  refine X_getF (ci := 0) (j := 1) (q := (RX0, TX0, 49)) C rfl (by decide) q261 rfl dX0_excess_2 (b := 2) (LX_S hX (k := 0) rfl) (LX_F hX (k := 0) (j := 1) rfl) rfl ?_
  refine X_getNS (ci := 1) (j := 0) (q := (RX1, TX1, 10)) C rfl (by decide) q189 rfl dX0_excess_5 (LH_0 (LX_H2 hX)) (v := .int (sI st0 2 0)) rfl ?_
  refine X_icmp_ge (tgt := 39) C dX0_excess_8 (by decide) (fun c1 => ?_) (fun c1 => ?_)
  · have h := h.1 c1
    refine X_iconst (v := 0) C dX0_excess_39 rfl ?_
    exact X_iret C rfl dX0_excess_40 (hn _ h)
  · have h := h.2 c1
    refine X_iconst (v := 0) C dX0_excess_11 rfl ?_
    refine X_aload_n C dX0_excess_12 rfl 0 rfl (isRV_r _) ?_
    refine X_getF (ci := 0) (j := 45) (q := (RX0, TX0, 49)) C rfl (by decide) q305 rfl dX0_excess_13 (b := 147) (LX_S hX (k := 0) rfl) (LX_F hX (k := 0) (j := 45) rfl) rfl ?_
    refine X_iload_n C dX0_excess_16 rfl 1 rfl ?_
    have g2 := h.1
    have h := h.2
    refine X_ialdS C (LX_S hX (k := 147) rfl) (LX_L hX (k := 147) rfl) g2 rfl dX0_excess_17 ?_
    refine X_aload_n C dX0_excess_18 rfl 0 rfl (isRV_r _) ?_
    refine X_getS (ci := 0) (j := 44) (q := (RX0, TX0, 49)) C rfl (by decide) q304 rfl dX0_excess_19 (LX_S hX (k := 0) rfl) (v := .int (sI st0 0 44)) rfl ?_
    refine X_aload_n C dX0_excess_22 rfl 0 rfl (isRV_r _) ?_
    refine X_getF (ci := 0) (j := 1) (q := (RX0, TX0, 49)) C rfl (by decide) q261 rfl dX0_excess_23 (b := 2) (LX_S hX (k := 0) rfl) (LX_F hX (k := 0) (j := 1) rfl) rfl ?_
    refine X_getNF (ci := 1) (j := 6) (q := (RX1, TX1, 10)) C rfl (by decide) q201 rfl dX0_excess_26 (b := (2 + 14)) (LH_0 (LX_H2 hX)) (LH_F (LX_H2 hX) (k := 0) (j := 6) rfl) rfl ?_
    refine X_iload_n C dX0_excess_29 rfl 1 rfl ?_
    refine X_ialdS C (LH_S (LX_H2 hX) (k := 14) rfl) (LH_L (LX_H2 hX) (k := 14) rfl) g2 rfl dX0_excess_30 ?_
    refine X_imul C dX0_excess_31 ?_
    refine X_isub C dX0_excess_32 ?_
    refine X_callS (As := [_, _]) (rest := []) C q1685 q1012 q147 q1013 nm_J8_max rfl dX0_excess_33 (m_J8_max (Cx_l C) (d := d - 1) (by omega) st0 0 ((sI st0 147 p1.toNatClampNeg) - ((sI st0 0 44) * (sI st0 (2 + 14) p1.toNatClampNeg))) h) (by omega) (by decide) (Nat.le_of_ble_eq_true rfl) (fun s9 w4 hE5 hP6 => ?_) (fun s10 E7 q8 hE5 hP6 => ?_)
    rotate_left
    · exact False.elim hP6
    obtain ⟨r3, rfl, rfl, h⟩ := hP6
    refine X_tls ?_
    refine X_goto (tgt := 40) C dX0_excess_36 (by decide) ?_
    exact X_iret C rfl dX0_excess_40 (hn _ h)

def w_X0_allExcess (st0 : St) (Φ : Int32 → Prop) : Prop := w_X0_excess st0 0 (fun (r1 : Int32) => w_X0_excess st0 1 (fun (r9 : Int32) => w_X0_excess st0 2 (fun (r17 : Int32) => Φ ((r1 + r9) + r17))))
theorem nm_X0_allExcess : yX0_allExcess.cls ≠ "java/lang/invoke/MethodHandle" ∧ yX0_allExcess.cls ≠ "java/lang/invoke/VarHandle" ∧ (parseMethodDescriptor yX0_allExcess.desc).map (fun d => d.parameters.length) = some 0 := by decide +kernel
theorem e_X0_allExcess : plainFor yX0_allExcess = true := plainFor_of_name (by decide +kernel)
theorem m_X0_allExcess {θ : Th} {l : Launch} (hl0 : l.stackTraces = false) (hX : LX θ) {d : Nat} (hd : 2 ≤ d) (st0 : St) {Φ : Int32 → Prop} (h : w_X0_allExcess st0 Φ) : Ct θ l yX0_allExcess (ws_ yX0_allExcess cX0_allExcess 1 (some Jvm.ClassFile.FieldType.int)) d [.ref (ad θ 0)] st0 (rI st0 Φ, noX) := by
  refine Ct_entry hl0 e_X0_allExcess (Nat.le_of_ble_eq_true rfl) (fun κ hκ _ C => ?_)
  have hn : ∀ r, Φ r → ((rI st0 Φ, noX) : Ph).1 st0 (some (.int r)) := fun r q => ⟨r, rfl, rfl, q⟩
  change X _ _ _ _ _ [(0, .ref (ad θ 0))] _
  unfold w_X0_allExcess at h
  refine X_aload_n C dX0_allExcess_0 rfl 0 rfl (isRV_r _) ?_
  refine X_iconst (v := 0) C dX0_allExcess_1 rfl ?_
  refine X_callVS (ci := 0) (q := (RX0, TX0, 49)) (As := [_]) (rest := []) C rfl (LX_S hX (k := 0) rfl) q1681 q1683 qs59 q132 q1684 ⟨rfl, nm_X0_excess⟩ rfl dX0_allExcess_2 (m_X0_excess (Cx_l C) hX (d := d - 1) (by omega) st0 0 h) (by omega) (by decide) (Nat.le_of_ble_eq_true rfl) (fun s7 w2 hE3 hP4 => ?_) (fun s8 E5 q6 hE3 hP4 => ?_)
  rotate_left
  · exact False.elim hP4
  obtain ⟨r1, rfl, rfl, h⟩ := hP4
  refine X_tls ?_
  refine X_aload_n C dX0_allExcess_5 rfl 0 rfl (isRV_r _) ?_
  refine X_iconst (v := 1) C dX0_allExcess_6 rfl ?_
  refine X_callVS (ci := 0) (q := (RX0, TX0, 49)) (As := [_]) (rest := [_]) C rfl (LX_S hX (k := 0) rfl) q1681 q1683 qs59 q132 q1684 ⟨rfl, nm_X0_excess⟩ rfl dX0_allExcess_7 (m_X0_excess (Cx_l C) hX (d := d - 1) (by omega) st0 1 h) (by omega) (by decide) (Nat.le_of_ble_eq_true rfl) (fun s15 w10 hE11 hP12 => ?_) (fun s16 E13 q14 hE11 hP12 => ?_)
  rotate_left
  · exact False.elim hP12
  obtain ⟨r9, rfl, rfl, h⟩ := hP12
  refine X_tls ?_
  refine X_iadd C dX0_allExcess_10 ?_
  refine X_aload_n C dX0_allExcess_11 rfl 0 rfl (isRV_r _) ?_
  refine X_iconst (v := 2) C dX0_allExcess_12 rfl ?_
  refine X_callVS (ci := 0) (q := (RX0, TX0, 49)) (As := [_]) (rest := [_]) C rfl (LX_S hX (k := 0) rfl) q1681 q1683 qs59 q132 q1684 ⟨rfl, nm_X0_excess⟩ rfl dX0_allExcess_13 (m_X0_excess (Cx_l C) hX (d := d - 1) (by omega) st0 2 h) (by omega) (by decide) (Nat.le_of_ble_eq_true rfl) (fun s23 w18 hE19 hP20 => ?_) (fun s24 E21 q22 hE19 hP20 => ?_)
  rotate_left
  · exact False.elim hP20
  obtain ⟨r17, rfl, rfl, h⟩ := hP20
  refine X_tls ?_
  refine X_iadd C dX0_allExcess_16 ?_
  exact X_iret C rfl dX0_allExcess_17 (hn _ h)

def w_X0_laysExcess_l47 (Φ : St → Prop) (E91 : St → Int32 → Int32 → Int64 → Prop) : Nat → St → Int32 → Int32 → Int64 → Int32 → Prop
  | 0, _, _, _, _, _ => False
  | n + 1, st, x1, x2, x3, x5 => (((sI st 2 0) ≤ x5) → E91 st x1 x2 x3) ∧ ((¬ (sI st 2 0) ≤ x5) → w_X0_excess st x5 (fun (r8 : Int32) => vp_in x5 3 ∧ vp_in x1 3 ∧ vp_in x2 3 ∧ ∀ v19 : Int64, v19 = (x3 + (r8.toInt64 * (sI st (2 + (3 + 4 * x5.toNatClampNeg + x1.toNatClampNeg)) x2.toNatClampNeg).toInt64)) → w_X0_laysExcess_l47 Φ E91 n st x1 x2 v19 (x5 + 1)))
theorem t_X0_laysExcess_l47 {θ : Th} {κ : Kx} {Ph : Ph} (hX : LX θ) {d : Nat} (hd : 2 ≤ d) (C : Cx θ κ yX0_laysExcess cX0_laysExcess 6 (none : Option Jvm.ClassFile.FieldType) [] d) {Φ : St → Prop} (hn : ∀ st, Φ st → Ph.1 st none) {E91 : St → Int32 → Int32 → Int64 → Prop} (hE91 : ∀ (st : St) (x1 : Int32) (x2 : Int32) (x3 : Int64), E91 st x1 x2 x3 → X θ κ Ph st 91 [(0, .ref (ad θ 0)), (1, .int x1), (2, .int x2), (3, .long x3)] []) : ∀ (n : Nat) (st : St) (x1 : Int32) (x2 : Int32) (x3 : Int64) (x5 : Int32), w_X0_laysExcess_l47 Φ E91 n st x1 x2 x3 x5 → X θ κ Ph st 47 [(0, .ref (ad θ 0)), (1, .int x1), (2, .int x2), (3, .long x3), (5, .int x5)] [] := by
  intro n
  induction n with
  | zero => intro st x1 x2 x3 x5 h; exact h.elim
  | succ n hK47 =>
    intro st x1 x2 x3 x5 h
    rw [w_X0_laysExcess_l47] at h
    refine X_iload C dX0_laysExcess_47 4 rfl ?_
    refine X_aload_n C dX0_laysExcess_49 rfl 0 rfl (isRV_r _) ?_
    refine X_getF (ci := 0) (j := 1) (q := (RX0, TX0, 49)) C rfl (by decide) q261 rfl dX0_laysExcess_50 (b := 2) (LX_S hX (k := 0) rfl) (LX_F hX (k := 0) (j := 1) rfl) rfl ?_
    refine X_getNS (ci := 1) (j := 0) (q := (RX1, TX1, 10)) C rfl (by decide) q189 rfl dX0_laysExcess_53 (LH_0 (LX_H2 hX)) (v := .int (sI st 2 0)) rfl ?_
    refine X_icmp_ge (tgt := 91) C dX0_laysExcess_56 (by decide) (fun c7 => ?_) (fun c7 => ?_)
    · have h := h.1 c7
      refine X_sub [0, 1, 2, 3] (lo2 := [(0, _), (1, _), (2, _), (3, _)]) rfl ?_
      exact hE91 st x1 x2 x3 h
    · have h := h.2 c7
      refine X_lload_n C dX0_laysExcess_59 rfl 3 rfl ?_
      refine X_aload_n C dX0_laysExcess_60 rfl 0 rfl (isRV_r _) ?_
      refine X_iload C dX0_laysExcess_61 4 rfl ?_
      refine X_callVS (ci := 0) (q := (RX0, TX0, 49)) (As := [_]) (rest := [_]) C rfl (LX_S hX (k := 0) rfl) q1681 q1683 qs59 q132 q1684 ⟨rfl, nm_X0_excess⟩ rfl dX0_laysExcess_63 (m_X0_excess (Cx_l C) hX (d := d - 1) (by omega) st x5 h) (by omega) (by decide) (Nat.le_of_ble_eq_true rfl) (fun s14 w9 hE10 hP11 => ?_) (fun s15 E12 q13 hE10 hP11 => ?_)
      rotate_left
      · exact False.elim hP11
      obtain ⟨r8, rfl, rfl, h⟩ := hP11
      refine X_tls ?_
      refine X_i2l C dX0_laysExcess_66 ?_
      refine X_aload_n C dX0_laysExcess_67 rfl 0 rfl (isRV_r _) ?_
      refine X_getF (ci := 0) (j := 1) (q := (RX0, TX0, 49)) C rfl (by decide) q261 rfl dX0_laysExcess_68 (b := 2) (LX_S hX (k := 0) rfl) (LX_F hX (k := 0) (j := 1) rfl) rfl ?_
      refine X_getNF (ci := 1) (j := 5) (q := (RX1, TX1, 10)) C rfl (by decide) q199 rfl dX0_laysExcess_71 (b := (2 + 1)) (LH_0 (LX_H2 hX)) (LH_F (LX_H2 hX) (k := 0) (j := 5) rfl) rfl ?_
      refine X_iload C dX0_laysExcess_74 4 rfl ?_
      have g16 := h.1
      have h := h.2
      refine X_aaldF C 7 rfl (LH_S (LX_H2 hX) (k := 1) rfl) (by decide) rfl (LH_L (LX_H2 hX) (k := 1) rfl) g16 rfl (b := (2 + (2 + 4 * x5.toNatClampNeg))) (LHf_sub (LX_H2 hX) (i := x5.toNatClampNeg) (in_lt g16)).2.2 dX0_laysExcess_76 rfl ?_
      refine X_iload_n C dX0_laysExcess_77 rfl 1 rfl ?_
      have g17 := h.1
      have h := h.2
      refine X_aaldF C 6 rfl (LHf_sub (LX_H2 hX) (i := x5.toNatClampNeg) (in_lt g16)).1 (by decide) rfl (LHf_sub (LX_H2 hX) (i := x5.toNatClampNeg) (in_lt g16)).2.1 g17 rfl (b := (2 + (3 + 4 * x5.toNatClampNeg + x1.toNatClampNeg))) (LHf_game (LX_H2 hX) (i := x5.toNatClampNeg) (j := x1.toNatClampNeg) (in_lt g16) (in_lt g17)).2.2 dX0_laysExcess_78 rfl ?_
      refine X_iload_n C dX0_laysExcess_79 rfl 2 rfl ?_
      have g18 := h.1
      have h := h.2
      refine X_ialdS C (LHf_game (LX_H2 hX) (i := x5.toNatClampNeg) (j := x1.toNatClampNeg) (in_lt g16) (in_lt g17)).1 (LHf_game (LX_H2 hX) (i := x5.toNatClampNeg) (j := x1.toNatClampNeg) (in_lt g16) (in_lt g17)).2.1 g18 rfl dX0_laysExcess_80 ?_
      refine X_i2l C dX0_laysExcess_81 ?_
      refine X_lmul C dX0_laysExcess_82 ?_
      refine X_ladd C dX0_laysExcess_83 ?_
      refine X_topl (fun v19 e20 => ?_)
      have h := h v19 e20
      refine X_lstore_n C dX0_laysExcess_84 rfl (lo2 := [(3, _), (0, _), (1, _), (2, _), (5, _)]) (by decide) rfl ?_
      refine X_iinc (v := (x5 + 1)) C (j := 4) dX0_laysExcess_85 rfl rfl (lo2 := [(5, _), (3, _), (0, _), (1, _), (2, _)]) (by decide) rfl ?_
      refine X_goto (tgt := 47) C dX0_laysExcess_88 (by decide) ?_
      refine X_sub [2, 3, 4, 1, 0] (lo2 := [(0, _), (1, _), (2, _), (3, _), (5, _)]) rfl ?_
      exact hK47 st x1 x2 v19 (x5 + 1) h
def w_X0_laysExcess_b91 (Φ : St → Prop) (K34 : St → Int32 → Int32 → Prop) (st : St) (x1 : Int32) (x2 : Int32) (x3 : Int64) : Prop := vp_in x1 27 ∧ vp_in x2 3 ∧ ∀ s24, s24 = putL st (96 + x1.toNatClampNeg) (x2.toNatClampNeg) x3 → K34 s24 x1 (x2 + 1)
theorem t_X0_laysExcess_b91 {θ : Th} {κ : Kx} {Ph : Ph} (hX : LX θ) {d : Nat} (hd : 2 ≤ d) (C : Cx θ κ yX0_laysExcess cX0_laysExcess 6 (none : Option Jvm.ClassFile.FieldType) [] d) {Φ : St → Prop} (hn : ∀ st, Φ st → Ph.1 st none) {K34 : St → Int32 → Int32 → Prop} (hK34 : ∀ (st : St) (x1 : Int32) (x2 : Int32), K34 st x1 x2 → X θ κ Ph st 34 [(0, .ref (ad θ 0)), (1, .int x1), (2, .int x2)] []) (st : St) (x1 : Int32) (x2 : Int32) (x3 : Int64) (h : w_X0_laysExcess_b91 Φ K34 st x1 x2 x3) : X θ κ Ph st 91 [(0, .ref (ad θ 0)), (1, .int x1), (2, .int x2), (3, .long x3)] [] := by
  unfold w_X0_laysExcess_b91 at h
  refine X_aload_n C dX0_laysExcess_91 rfl 0 rfl (isRV_r _) ?_
  refine X_getF (ci := 0) (j := 7) (q := (RX0, TX0, 49)) C rfl (by decide) q267 rfl dX0_laysExcess_92 (b := 95) (LX_S hX (k := 0) rfl) (LX_F hX (k := 0) (j := 7) rfl) rfl ?_
  refine X_iload_n C dX0_laysExcess_95 rfl 1 rfl ?_
  have g22 := h.1
  have h := h.2
  refine X_aaldF C 8 rfl (LX_S hX (k := 95) rfl) (by decide) rfl (LX_L hX (k := 95) rfl) g22 rfl (b := (96 + x1.toNatClampNeg)) (LXf_row hX (i := x1.toNatClampNeg) (in_lt g22)).2.2 dX0_laysExcess_96 rfl ?_
  refine X_iload_n C dX0_laysExcess_97 rfl 2 rfl ?_
  refine X_lload_n C dX0_laysExcess_98 rfl 3 rfl ?_
  have g23 := h.1
  have h := h.2
  refine X_lastS C (LXf_row hX (i := x1.toNatClampNeg) (in_lt g22)).1 (LXf_row hX (i := x1.toNatClampNeg) (in_lt g22)).2.1 g23 rfl dX0_laysExcess_99 ?_
  refine X_nm (fun s24 e25 => ?_)
  have h := h s24 e25
  refine X_iinc (v := (x2 + 1)) C (j := 2) dX0_laysExcess_100 rfl rfl (lo2 := [(2, _), (0, _), (1, _), (3, _)]) (by decide) rfl ?_
  refine X_goto (tgt := 34) C dX0_laysExcess_103 (by decide) ?_
  refine X_sub [1, 2, 0] (lo2 := [(0, _), (1, _), (2, _)]) rfl ?_
  exact hK34 s24 x1 (x2 + 1) h
def w_X0_laysExcess_l34 (Φ : St → Prop) (E106 : St → Int32 → Prop) : Nat → St → Int32 → Int32 → Prop
  | 0, _, _, _ => False
  | n + 1, st, x1, x2 => (((sI st 0 9) ≤ x2) → E106 st x1) ∧ ((¬ (sI st 0 9) ≤ x2) → w_X0_laysExcess_l47 Φ (fun (s21 : St) (x1 : Int32) (x2 : Int32) (x3 : Int64) => w_X0_laysExcess_b91 Φ (w_X0_laysExcess_l34 Φ E106 n) s21 x1 x2 x3) gFU st x1 x2 0 0)
theorem t_X0_laysExcess_l34 {θ : Th} {κ : Kx} {Ph : Ph} (hX : LX θ) {d : Nat} (hd : 2 ≤ d) (C : Cx θ κ yX0_laysExcess cX0_laysExcess 6 (none : Option Jvm.ClassFile.FieldType) [] d) {Φ : St → Prop} (hn : ∀ st, Φ st → Ph.1 st none) {E106 : St → Int32 → Prop} (hE106 : ∀ (st : St) (x1 : Int32), E106 st x1 → X θ κ Ph st 106 [(0, .ref (ad θ 0)), (1, .int x1)] []) : ∀ (n : Nat) (st : St) (x1 : Int32) (x2 : Int32), w_X0_laysExcess_l34 Φ E106 n st x1 x2 → X θ κ Ph st 34 [(0, .ref (ad θ 0)), (1, .int x1), (2, .int x2)] [] := by
  intro n
  induction n with
  | zero => intro st x1 x2 h; exact h.elim
  | succ n hK34 =>
    intro st x1 x2 h
    rw [w_X0_laysExcess_l34] at h
    refine X_iload_n C dX0_laysExcess_34 rfl 2 rfl ?_
    refine X_aload_n C dX0_laysExcess_35 rfl 0 rfl (isRV_r _) ?_
    refine X_getS (ci := 0) (j := 9) (q := (RX0, TX0, 49)) C rfl (by decide) q269 rfl dX0_laysExcess_36 (LX_S hX (k := 0) rfl) (v := .int (sI st 0 9)) rfl ?_
    refine X_icmp_ge (tgt := 106) C dX0_laysExcess_39 (by decide) (fun c6 => ?_) (fun c6 => ?_)
    · have h := h.1 c6
      refine X_sub [0, 1] (lo2 := [(0, _), (1, _)]) rfl ?_
      exact hE106 st x1 h
    · have h := h.2 c6
      refine X_lconst (v := 0) C dX0_laysExcess_42 rfl ?_
      refine X_lstore_n C dX0_laysExcess_43 rfl (lo2 := [(3, _), (0, _), (1, _), (2, _)]) (by decide) rfl ?_
      refine X_iconst (v := 0) C dX0_laysExcess_44 rfl ?_
      refine X_istore C dX0_laysExcess_45 (lo2 := [(5, _), (3, _), (0, _), (1, _), (2, _)]) (by decide) rfl ?_
      refine X_sub [2, 3, 4, 1, 0] (lo2 := [(0, _), (1, _), (2, _), (3, _), (5, _)]) rfl ?_
      refine t_X0_laysExcess_l47 hX hd C hn ?_ gFU st x1 x2 0 0 h
      · intro s21 x1 x2 x3 h
        exact t_X0_laysExcess_b91 hX hd C hn hK34 s21 x1 x2 x3 h
def w_X0_laysExcess_b106 (Φ : St → Prop) (K24 : St → Int32 → Prop) (st : St) (x1 : Int32) : Prop := K24 st (x1 + 1)
theorem t_X0_laysExcess_b106 {θ : Th} {κ : Kx} {Ph : Ph} (hX : LX θ) {d : Nat} (hd : 2 ≤ d) (C : Cx θ κ yX0_laysExcess cX0_laysExcess 6 (none : Option Jvm.ClassFile.FieldType) [] d) {Φ : St → Prop} (hn : ∀ st, Φ st → Ph.1 st none) {K24 : St → Int32 → Prop} (hK24 : ∀ (st : St) (x1 : Int32), K24 st x1 → X θ κ Ph st 24 [(0, .ref (ad θ 0)), (1, .int x1)] []) (st : St) (x1 : Int32) (h : w_X0_laysExcess_b106 Φ K24 st x1) : X θ κ Ph st 106 [(0, .ref (ad θ 0)), (1, .int x1)] [] := by
  unfold w_X0_laysExcess_b106 at h
  refine X_iinc (v := (x1 + 1)) C (j := 1) dX0_laysExcess_106 rfl rfl (lo2 := [(1, _), (0, _)]) (by decide) rfl ?_
  refine X_goto (tgt := 24) C dX0_laysExcess_109 (by decide) ?_
  refine X_sub [1, 0] (lo2 := [(0, _), (1, _)]) rfl ?_
  exact hK24 st (x1 + 1) h
def w_X0_laysExcess_l24 (Φ : St → Prop) (E112 : St → Prop) : Nat → St → Int32 → Prop
  | 0, _, _ => False
  | n + 1, st, x1 => (((sI st 0 8) ≤ x1) → E112 st) ∧ ((¬ (sI st 0 8) ≤ x1) → w_X0_laysExcess_l34 Φ (fun (s26 : St) (x1 : Int32) => w_X0_laysExcess_b106 Φ (w_X0_laysExcess_l24 Φ E112 n) s26 x1) gFU st x1 0)
theorem t_X0_laysExcess_l24 {θ : Th} {κ : Kx} {Ph : Ph} (hX : LX θ) {d : Nat} (hd : 2 ≤ d) (C : Cx θ κ yX0_laysExcess cX0_laysExcess 6 (none : Option Jvm.ClassFile.FieldType) [] d) {Φ : St → Prop} (hn : ∀ st, Φ st → Ph.1 st none) {E112 : St → Prop} (hE112 : ∀ (st : St), E112 st → X θ κ Ph st 112 [] []) : ∀ (n : Nat) (st : St) (x1 : Int32), w_X0_laysExcess_l24 Φ E112 n st x1 → X θ κ Ph st 24 [(0, .ref (ad θ 0)), (1, .int x1)] [] := by
  intro n
  induction n with
  | zero => intro st x1 h; exact h.elim
  | succ n hK24 =>
    intro st x1 h
    rw [w_X0_laysExcess_l24] at h
    refine X_iload_n C dX0_laysExcess_24 rfl 1 rfl ?_
    refine X_aload_n C dX0_laysExcess_25 rfl 0 rfl (isRV_r _) ?_
    refine X_getS (ci := 0) (j := 8) (q := (RX0, TX0, 49)) C rfl (by decide) q268 rfl dX0_laysExcess_26 (LX_S hX (k := 0) rfl) (v := .int (sI st 0 8)) rfl ?_
    refine X_icmp_ge (tgt := 112) C dX0_laysExcess_29 (by decide) (fun c5 => ?_) (fun c5 => ?_)
    · have h := h.1 c5
      refine X_sub [] (lo2 := []) rfl ?_
      exact hE112 st h
    · have h := h.2 c5
      refine X_iconst (v := 0) C dX0_laysExcess_32 rfl ?_
      refine X_istore_n C dX0_laysExcess_33 rfl (lo2 := [(2, _), (0, _), (1, _)]) (by decide) rfl ?_
      refine X_sub [1, 2, 0] (lo2 := [(0, _), (1, _), (2, _)]) rfl ?_
      refine t_X0_laysExcess_l34 hX hd C hn ?_ gFU st x1 0 h
      · intro s26 x1 h
        exact t_X0_laysExcess_b106 hX hd C hn hK24 s26 x1 h
def w_X0_laysExcess_b112 (Φ : St → Prop) (st : St) : Prop := Φ st
theorem t_X0_laysExcess_b112 {θ : Th} {κ : Kx} {Ph : Ph} (hX : LX θ) {d : Nat} (hd : 2 ≤ d) (C : Cx θ κ yX0_laysExcess cX0_laysExcess 6 (none : Option Jvm.ClassFile.FieldType) [] d) {Φ : St → Prop} (hn : ∀ st, Φ st → Ph.1 st none) (st : St) (h : w_X0_laysExcess_b112 Φ st) : X θ κ Ph st 112 [] [] := by
  unfold w_X0_laysExcess_b112 at h
  exact X_vret C rfl dX0_laysExcess_112 (hn st h)
def w_X0_laysExcess (st : St) (Φ : St → Prop) : Prop := ∀ s1, s1 = putI st 0 8 (sI st 2 2) → ∀ s3, s3 = putI s1 0 9 (sI s1 2 3) → w_X0_laysExcess_l24 Φ (fun (s27 : St) => w_X0_laysExcess_b112 Φ s27) gFU s3 0
theorem nm_X0_laysExcess : yX0_laysExcess.cls ≠ "java/lang/invoke/MethodHandle" ∧ yX0_laysExcess.cls ≠ "java/lang/invoke/VarHandle" ∧ (parseMethodDescriptor yX0_laysExcess.desc).map (fun d => d.parameters.length) = some 0 := by decide +kernel
theorem e_X0_laysExcess : plainFor yX0_laysExcess = true := plainFor_of_name (by decide +kernel)
theorem m_X0_laysExcess {θ : Th} {l : Launch} (hl0 : l.stackTraces = false) (hX : LX θ) {d : Nat} (hd : 2 ≤ d) (st : St) {Φ : St → Prop} (h : w_X0_laysExcess st Φ) : Ct θ l yX0_laysExcess (ws_ yX0_laysExcess cX0_laysExcess 6 (none : Option Jvm.ClassFile.FieldType)) d [.ref (ad θ 0)] st (pV Φ, noX) := by
  refine Ct_entry hl0 e_X0_laysExcess (Nat.le_of_ble_eq_true rfl) (fun κ hκ _ C => ?_)
  have hn : ∀ st, Φ st → ((pV Φ, noX) : Ph).1 st none := fun st q => ⟨rfl, q⟩
  change X _ _ _ _ _ [(0, .ref (ad θ 0))] _
  unfold w_X0_laysExcess at h
  refine X_aload_n C dX0_laysExcess_0 rfl 0 rfl (isRV_r _) ?_
  refine X_aload_n C dX0_laysExcess_1 rfl 0 rfl (isRV_r _) ?_
  refine X_getF (ci := 0) (j := 1) (q := (RX0, TX0, 49)) C rfl (by decide) q261 rfl dX0_laysExcess_2 (b := 2) (LX_S hX (k := 0) rfl) (LX_F hX (k := 0) (j := 1) rfl) rfl ?_
  refine X_getNS (ci := 1) (j := 2) (q := (RX1, TX1, 10)) C rfl (by decide) q193 rfl dX0_laysExcess_5 (LH_0 (LX_H2 hX)) (v := .int (sI st 2 2)) rfl ?_
  refine X_putSI (ci := 0) (j := 8) (q := (RX0, TX0, 49)) C rfl (by decide) q268 rfl rfl dX0_laysExcess_8 (LX_S hX (k := 0) rfl) rfl rfl rfl ?_
  refine X_nm (fun s1 e2 => ?_)
  have h := h s1 e2
  refine X_aload_n C dX0_laysExcess_11 rfl 0 rfl (isRV_r _) ?_
  refine X_aload_n C dX0_laysExcess_12 rfl 0 rfl (isRV_r _) ?_
  refine X_getF (ci := 0) (j := 1) (q := (RX0, TX0, 49)) C rfl (by decide) q261 rfl dX0_laysExcess_13 (b := 2) (LX_S hX (k := 0) rfl) (LX_F hX (k := 0) (j := 1) rfl) rfl ?_
  refine X_getNS (ci := 1) (j := 3) (q := (RX1, TX1, 10)) C rfl (by decide) q195 rfl dX0_laysExcess_16 (LH_0 (LX_H2 hX)) (v := .int (sI s1 2 3)) rfl ?_
  refine X_putSI (ci := 0) (j := 9) (q := (RX0, TX0, 49)) C rfl (by decide) q269 rfl rfl dX0_laysExcess_19 (LX_S hX (k := 0) rfl) rfl rfl rfl ?_
  refine X_nm (fun s3 e4 => ?_)
  have h := h s3 e4
  refine X_iconst (v := 0) C dX0_laysExcess_22 rfl ?_
  refine X_istore_n C dX0_laysExcess_23 rfl (lo2 := [(1, _), (0, _)]) (by decide) rfl ?_
  refine X_sub [1, 0] (lo2 := [(0, _), (1, _)]) rfl ?_
  refine t_X0_laysExcess_l24 hX hd C hn ?_ gFU s3 0 h
  · intro s27 h
    exact t_X0_laysExcess_b112 hX hd C hn s27 h

def w_X0_approaches_l44 (Φ : St → Int32 → Prop) (Φw : St → Nat → Prop) (E78 : St → Int32 → Prop) (E92 : St → Int32 → Prop) : Nat → St → Int32 → Int64 → Int64 → Int32 → Prop
  | 0, _, _, _, _, _ => False
  | n + 1, st, x1, x2, x4, x6 => ((x1 ≤ x6) → E92 st x1) ∧ ((¬ x1 ≤ x6) → vp_in x6 3 ∧ ∀ v23 : Int64, v23 = (x4 + (sL st 132 x6.toNatClampNeg)) → (((1000 * v23) ≤ (x2 * (sL st 0 16))) → w_X0_approaches_l44 Φ Φw E78 E92 n st x1 x2 v23 (x6 + 1)) ∧ ((¬ (1000 * v23) ≤ (x2 * (sL st 0 16))) → E78 st x6))
theorem t_X0_approaches_l44 {θ : Th} {κ : Kx} {Ph : Ph} (hX : LX θ) {d : Nat} (hd : 5 ≤ d) (C : Cx θ κ yX0_approaches cX0_approaches 7 (some Jvm.ClassFile.FieldType.int) [] d) {Φ : St → Int32 → Prop} {Φw : St → Nat → Prop} (hn : ∀ st r, Φ st r → Ph.1 st (some (.int r))) (hw : ∀ st a, a < gBIG → sh st a = 6 → Φw st a → Ph.2 st "SecretsWorth$Wrong" (ad θ a)) {E78 : St → Int32 → Prop} {E92 : St → Int32 → Prop} (hE78 : ∀ (st : St) (x6 : Int32), E78 st x6 → X θ κ Ph st 78 [(0, .ref (ad θ 0)), (6, .int x6)] []) (hE92 : ∀ (st : St) (x1 : Int32), E92 st x1 → X θ κ Ph st 92 [(0, .ref (ad θ 0)), (1, .int x1)] []) : ∀ (n : Nat) (st : St) (x1 : Int32) (x2 : Int64) (x4 : Int64) (x6 : Int32), w_X0_approaches_l44 Φ Φw E78 E92 n st x1 x2 x4 x6 → X θ κ Ph st 44 [(0, .ref (ad θ 0)), (1, .int x1), (2, .long x2), (4, .long x4), (6, .int x6)] [] := by
  intro n
  induction n with
  | zero => intro st x1 x2 x4 x6 h; exact h.elim
  | succ n hK44 =>
    intro st x1 x2 x4 x6 h
    rw [w_X0_approaches_l44] at h
    refine X_iload C dX0_approaches_44 4 rfl ?_
    refine X_iload_n C dX0_approaches_46 rfl 1 rfl ?_
    refine X_icmp_ge (tgt := 92) C dX0_approaches_47 (by decide) (fun c21 => ?_) (fun c21 => ?_)
    · have h := h.1 c21
      refine X_sub [0, 1] (lo2 := [(0, _), (1, _)]) rfl ?_
      exact hE92 st x1 h
    · have h := h.2 c21
      refine X_lload C dX0_approaches_50 3 rfl ?_
      refine X_aload_n C dX0_approaches_52 rfl 0 rfl (isRV_r _) ?_
      refine X_getF (ci := 0) (j := 15) (q := (RX0, TX0, 49)) C rfl (by decide) q275 rfl dX0_approaches_53 (b := 132) (LX_S hX (k := 0) rfl) (LX_F hX (k := 0) (j := 15) rfl) rfl ?_
      refine X_iload C dX0_approaches_56 4 rfl ?_
      have g22 := h.1
      have h := h.2
      refine X_laldS C (LX_S hX (k := 132) rfl) (LX_L hX (k := 132) rfl) g22 rfl dX0_approaches_58 ?_
      refine X_ladd C dX0_approaches_59 ?_
      refine X_topl (fun v23 e24 => ?_)
      have h := h v23 e24
      refine X_lstore C dX0_approaches_60 (lo2 := [(4, _), (0, _), (1, _), (2, _), (6, _)]) (by decide) rfl ?_
      refine X_ldc2 C q1695 dX0_approaches_62 ?_
      refine X_lload C dX0_approaches_65 0 rfl ?_
      refine X_lmul C dX0_approaches_67 ?_
      refine X_lload_n C dX0_approaches_68 rfl 3 rfl ?_
      refine X_aload_n C dX0_approaches_69 rfl 1 rfl (isRV_r _) ?_
      refine X_getS (ci := 0) (j := 16) (q := (RX0, TX0, 49)) C rfl (by decide) q276 rfl dX0_approaches_70 (LX_S hX (k := 0) rfl) (v := .long (sL st 0 16)) rfl ?_
      refine X_lmul C dX0_approaches_73 ?_
      refine X_lcmp_le (tgt := 86) C dX0_approaches_74 dX0_approaches_75 (by decide) (fun c25 => ?_) (fun c25 => ?_)
      · have h := h.1 c25
        refine X_iinc (v := (x6 + 1)) C (j := 4) dX0_approaches_86 rfl rfl (lo2 := [(6, _), (4, _), (0, _), (1, _), (2, _)]) (by decide) rfl ?_
        refine X_goto (tgt := 44) C dX0_approaches_89 (by decide) ?_
        refine X_sub [2, 3, 4, 1, 0] (lo2 := [(0, _), (1, _), (2, _), (4, _), (6, _)]) rfl ?_
        exact hK44 st x1 x2 v23 (x6 + 1) h
      · have h := h.2 c25
        refine X_sub [1, 4] (lo2 := [(0, _), (6, _)]) rfl ?_
        exact hE78 st x6 h
def w_X0_approaches_b78 (Φ : St → Int32 → Prop) (Φw : St → Nat → Prop) (st : St) (x6 : Int32) : Prop := vp_in x6 3 ∧ Φ st (sI st 130 x6.toNatClampNeg)
theorem t_X0_approaches_b78 {θ : Th} {κ : Kx} {Ph : Ph} (hX : LX θ) {d : Nat} (hd : 5 ≤ d) (C : Cx θ κ yX0_approaches cX0_approaches 7 (some Jvm.ClassFile.FieldType.int) [] d) {Φ : St → Int32 → Prop} {Φw : St → Nat → Prop} (hn : ∀ st r, Φ st r → Ph.1 st (some (.int r))) (hw : ∀ st a, a < gBIG → sh st a = 6 → Φw st a → Ph.2 st "SecretsWorth$Wrong" (ad θ a)) (st : St) (x6 : Int32) (h : w_X0_approaches_b78 Φ Φw st x6) : X θ κ Ph st 78 [(0, .ref (ad θ 0)), (6, .int x6)] [] := by
  unfold w_X0_approaches_b78 at h
  refine X_aload_n C dX0_approaches_78 rfl 0 rfl (isRV_r _) ?_
  refine X_getF (ci := 0) (j := 13) (q := (RX0, TX0, 49)) C rfl (by decide) q273 rfl dX0_approaches_79 (b := 130) (LX_S hX (k := 0) rfl) (LX_F hX (k := 0) (j := 13) rfl) rfl ?_
  refine X_iload C dX0_approaches_82 1 rfl ?_
  have g27 := h.1
  have h := h.2
  refine X_ialdS C (LX_S hX (k := 130) rfl) (LX_L hX (k := 130) rfl) g27 rfl dX0_approaches_84 ?_
  exact X_iret C rfl dX0_approaches_85 (hn st _ h)
def w_X0_approaches_b92 (Φ : St → Int32 → Prop) (Φw : St → Nat → Prop) (st : St) (x1 : Int32) : Prop := vp_in (x1 - 1) 3 ∧ Φ st (sI st 130 (x1 - 1).toNatClampNeg)
theorem t_X0_approaches_b92 {θ : Th} {κ : Kx} {Ph : Ph} (hX : LX θ) {d : Nat} (hd : 5 ≤ d) (C : Cx θ κ yX0_approaches cX0_approaches 7 (some Jvm.ClassFile.FieldType.int) [] d) {Φ : St → Int32 → Prop} {Φw : St → Nat → Prop} (hn : ∀ st r, Φ st r → Ph.1 st (some (.int r))) (hw : ∀ st a, a < gBIG → sh st a = 6 → Φw st a → Ph.2 st "SecretsWorth$Wrong" (ad θ a)) (st : St) (x1 : Int32) (h : w_X0_approaches_b92 Φ Φw st x1) : X θ κ Ph st 92 [(0, .ref (ad θ 0)), (1, .int x1)] [] := by
  unfold w_X0_approaches_b92 at h
  refine X_aload_n C dX0_approaches_92 rfl 0 rfl (isRV_r _) ?_
  refine X_getF (ci := 0) (j := 13) (q := (RX0, TX0, 49)) C rfl (by decide) q273 rfl dX0_approaches_93 (b := 130) (LX_S hX (k := 0) rfl) (LX_F hX (k := 0) (j := 13) rfl) rfl ?_
  refine X_iload_n C dX0_approaches_96 rfl 1 rfl ?_
  refine X_iconst (v := 1) C dX0_approaches_97 rfl ?_
  refine X_isub C dX0_approaches_98 ?_
  have g29 := h.1
  have h := h.2
  refine X_ialdS C (LX_S hX (k := 130) rfl) (LX_L hX (k := 130) rfl) g29 rfl dX0_approaches_99 ?_
  exact X_iret C rfl dX0_approaches_100 (hn st _ h)
def w_X0_approaches (st : St) (Φ : St → Int32 → Prop) (Φw : St → Nat → Prop) : Prop := w_X0_laysExcess st (fun (s2 : St) => w_X0_kernel s2 (fun (s10 : St) (r9 : Int32) => ∀ s17, s17 = putI s10 0 6 (((sI s10 0 6) * 1103515245) + 12345) → ∀ v19 : Int64, v19 = ((((sI s17 0 6).toUInt32 >>> ((8 : Int32).toUInt32 &&& Int32.toUInt32 31)).toInt32) - (((sI s17 0 6).toUInt32 >>> ((8 : Int32).toUInt32 &&& Int32.toUInt32 31)).toInt32) / 1000 * 1000).toInt64 → w_X0_approaches_l44 Φ Φw (fun (s26 : St) (x6 : Int32) => w_X0_approaches_b78 Φ Φw s26 x6) (fun (s28 : St) (x1 : Int32) => w_X0_approaches_b92 Φ Φw s28 x1) gFU s17 r9 v19 0 0) Φw)
theorem nm_X0_approaches : yX0_approaches.cls ≠ "java/lang/invoke/MethodHandle" ∧ yX0_approaches.cls ≠ "java/lang/invoke/VarHandle" ∧ (parseMethodDescriptor yX0_approaches.desc).map (fun d => d.parameters.length) = some 0 := by decide +kernel
theorem e_X0_approaches : plainFor yX0_approaches = true := plainFor_of_name (by decide +kernel)
theorem m_X0_approaches {θ : Th} {l : Launch} (hl0 : l.stackTraces = false) (hX : LX θ) {d : Nat} (hd : 5 ≤ d) (st : St) {Φ : St → Int32 → Prop} {Φw : St → Nat → Prop} (h : w_X0_approaches st Φ Φw) : Ct θ l yX0_approaches (ws_ yX0_approaches cX0_approaches 7 (some Jvm.ClassFile.FieldType.int)) d [.ref (ad θ 0)] st (pI Φ, (exW θ Φw)) := by
  refine Ct_entry hl0 e_X0_approaches (Nat.le_of_ble_eq_true rfl) (fun κ hκ _ C => ?_)
  have hn : ∀ st r, Φ st r → ((pI Φ, (exW θ Φw)) : Ph).1 st (some (.int r)) := fun st r q => ⟨r, rfl, q⟩
  have hw : ∀ st a, a < gBIG → sh st a = 6 → Φw st a → ((pI Φ, (exW θ Φw)) : Ph).2 st "SecretsWorth$Wrong" (ad θ a) := fun st a q1 q2 q => ⟨rfl, a, rfl, q1, q2, q⟩
  change X _ _ _ _ _ [(0, .ref (ad θ 0))] _
  unfold w_X0_approaches at h
  refine X_aload_n C dX0_approaches_0 rfl 0 rfl (isRV_r _) ?_
  refine X_callVS (ci := 0) (q := (RX0, TX0, 49)) (As := []) (rest := []) C rfl (LX_S hX (k := 0) rfl) q1690 q1692 qs61 q132 q1693 ⟨rfl, nm_X0_laysExcess⟩ rfl dX0_approaches_1 (m_X0_laysExcess (Cx_l C) hX (d := d - 1) (by omega) st h) (by omega) (by decide) (Nat.le_of_ble_eq_true rfl) (fun s2 w3 hE4 hP5 => ?_) (fun s8 E6 q7 hE4 hP5 => ?_)
  rotate_left
  · exact False.elim hP5
  obtain ⟨rfl, h⟩ := hP5
  refine X_tln ?_
  refine X_aload_n C dX0_approaches_4 rfl 0 rfl (isRV_r _) ?_
  refine X_callVS (ci := 0) (q := (RX0, TX0, 49)) (As := []) (rest := []) C rfl (LX_S hX (k := 0) rfl) q669 q671 qs7 q132 q672 ⟨rfl, nm_X0_kernel⟩ rfl dX0_approaches_5 (m_X0_kernel (Cx_l C) hX (d := d - 1) (by omega) s2 h) (by omega) (by decide) (Nat.le_of_ble_eq_true rfl) (fun s10 w11 hE12 hP13 => ?_) (fun s16 E14 q15 hE12 hP13 => ?_)
  rotate_left
  · rcases hP13 with ⟨rfl, a_, rfl, hb_, hs_, h⟩
    exact XT_out C rfl (hw s16 a_ hb_ hs_ h)
  obtain ⟨r9, rfl, h⟩ := hP13
  refine X_tls ?_
  refine X_istore_n C dX0_approaches_8 rfl (lo2 := [(1, _), (0, _)]) (by decide) rfl ?_
  refine X_aload_n C dX0_approaches_9 rfl 1 rfl (isRV_r _) ?_
  refine X_aload_n C dX0_approaches_10 rfl 1 rfl (isRV_r _) ?_
  refine X_getS (ci := 0) (j := 6) (q := (RX0, TX0, 49)) C rfl (by decide) q266 rfl dX0_approaches_11 (LX_S hX (k := 0) rfl) (v := .int (sI s10 0 6)) rfl ?_
  refine X_ldcw C q1694 dX0_approaches_14 ?_
  refine X_imul C dX0_approaches_17 ?_
  refine X_sipush (v := 12345) C dX0_approaches_18 rfl ?_
  refine X_iadd C dX0_approaches_21 ?_
  refine X_putSI (ci := 0) (j := 6) (q := (RX0, TX0, 49)) C rfl (by decide) q266 rfl rfl dX0_approaches_22 (LX_S hX (k := 0) rfl) rfl rfl rfl ?_
  refine X_nm (fun s17 e18 => ?_)
  have h := h s17 e18
  refine X_aload_n C dX0_approaches_25 rfl 1 rfl (isRV_r _) ?_
  refine X_getS (ci := 0) (j := 6) (q := (RX0, TX0, 49)) C rfl (by decide) q266 rfl dX0_approaches_26 (LX_S hX (k := 0) rfl) (v := .int (sI s17 0 6)) rfl ?_
  refine X_bipush (v := 8) C dX0_approaches_29 rfl ?_
  refine X_iushr C dX0_approaches_31 ?_
  refine X_sipush (v := 1000) C dX0_approaches_32 rfl ?_
  refine X_irem C dX0_approaches_35 (by decide) ?_
  refine X_i2l C dX0_approaches_36 ?_
  refine X_topl (fun v19 e20 => ?_)
  have h := h v19 e20
  refine X_lstore_n C dX0_approaches_37 rfl (lo2 := [(2, _), (1, _), (0, _)]) (by decide) rfl ?_
  refine X_lconst (v := 0) C dX0_approaches_38 rfl ?_
  refine X_lstore C dX0_approaches_39 (lo2 := [(4, _), (2, _), (1, _), (0, _)]) (by decide) rfl ?_
  refine X_iconst (v := 0) C dX0_approaches_41 rfl ?_
  refine X_istore C dX0_approaches_42 (lo2 := [(6, _), (4, _), (2, _), (1, _), (0, _)]) (by decide) rfl ?_
  refine X_sub [4, 3, 2, 1, 0] (lo2 := [(0, _), (1, _), (2, _), (4, _), (6, _)]) rfl ?_
  refine t_X0_approaches_l44 hX hd C hn hw ?_ ?_ gFU s17 r9 v19 0 0 h
  · intro s26 x6 h
    exact t_X0_approaches_b78 hX hd C hn hw s26 x6 h
  · intro s28 x1 h
    exact t_X0_approaches_b92 hX hd C hn hw s28 x1 h

def w_X0_back_b19 (Φ : St → Int32 → Prop) (st : St) (z0 : Int32) : Prop := w_X0_need st z0 2 (fun (s3 : St) => ∃ r22, (sR s3 0 47) = some r22 ∧ r22 < gBIG ∧ sh s3 r22 = 9 ∧ ∀ s26, s26 = putI s3 147 0 (sI s3 r22 0) → ∃ r28, (sR s26 0 47) = some r28 ∧ r28 < gBIG ∧ sh s26 r28 = 9 ∧ ∀ s32, s32 = putI s26 147 1 (sI s26 r28 1) → ∃ r34, (sR s32 0 47) = some r34 ∧ r34 < gBIG ∧ sh s32 r34 = 9 ∧ ∀ s38, s38 = putI s32 147 2 (sI s32 r34 2) → ∃ r40, (sR s38 0 47) = some r40 ∧ r40 < gBIG ∧ sh s38 r40 = 9 ∧ ∀ s44, s44 = putI s38 0 6 (sI s38 r40 3) → ∃ r46, (sR s44 0 47) = some r46 ∧ r46 < gBIG ∧ sh s44 r46 = 9 ∧ ∀ s50, s50 = putI s44 0 46 (sI s44 r46 4) → ∃ r52, (sR s50 0 47) = some r52 ∧ r52 < gBIG ∧ sh s50 r52 = 9 ∧ ∀ s56, s56 = putR s50 0 47 (sR s50 r52 5) → ∀ s58, s58 = putI s56 0 44 ((sI s56 0 44) - 1) → Φ s58 (sI s58 0 44)) (fun (s4 : St) (a5 : Nat) => w_X0_answers s4 a5 (fun (s9 : St) (r8 : Int32) => Φ s9 r8))
theorem t_X0_back_b19 {θ : Th} {κ : Kx} {Ph : Ph} (hX : LX θ) {d : Nat} (hd : 5 ≤ d) (C : Cx θ κ yX0_back cX0_back 2 (some Jvm.ClassFile.FieldType.int) [(0, 109, 110, 1)] d) {Φ : St → Int32 → Prop} (hn : ∀ st r, Φ st r → Ph.1 st (some (.int r))) (st : St) (z0 : Int32) (h : w_X0_back_b19 Φ st z0) : X θ κ Ph st 19 [(0, .ref (ad θ 0))] [.int z0] := by
  unfold w_X0_back_b19 at h
  refine X_iconst (v := 2) C dX0_back_19 rfl ?_
  refine X_callS (As := [_, _]) (rest := []) C q421 q422 q132 q423 nm_X0_need rfl dX0_back_20 (m_X0_need (Cx_l C) hX (d := d - 1) (by omega) st z0 2 h) (by omega) (by decide) (Nat.le_of_ble_eq_true rfl) (fun s3 w16 hE17 hP18 => ?_) (fun s21 E19 q20 hE17 hP18 => ?_)
  rotate_left
  · rcases hP18 with ⟨rfl, a_, rfl, hb_, hs_, h⟩
    refine XT_catch C [] ⟨0, 109, 110, 1⟩ [] rfl (fun _ h => absurd h List.not_mem_nil) (by decide) (by decide) q412 q425 ?_
    refine X_astore_n C dX0_back_110 rfl (isRV_r _) (lo2 := [(1, _), (0, _)]) (by decide) rfl ?_
    refine X_aload_n C dX0_back_111 rfl 1 rfl (isRV_r _) ?_
    refine X_aload_n C dX0_back_112 rfl 0 rfl (isRV_r _) ?_
    refine X_callVS (ci := 0) (q := (RX0, TX0, 49)) (As := [_]) (rest := []) C rfl (LX_S hX (k := 0) rfl) q512 q514 qs4 q132 q515 ⟨rfl, nm_X0_answers⟩ rfl dX0_back_113 (m_X0_answers (Cx_l C) hX (d := d - 1) (by omega) s21 a_ hs_ hb_ h) (by omega) (by decide) (Nat.le_of_ble_eq_true rfl) (fun s9 w10 hE11 hP12 => ?_) (fun s15 E13 q14 hE11 hP12 => ?_)
    rotate_left
    · exact False.elim hP12
    obtain ⟨r8, rfl, h⟩ := hP12
    refine X_tls ?_
    have hs_ := Ext_sh hE11 hs_ (by decide)
    exact X_iret C rfl dX0_back_116 (hn s9 _ h)
  obtain ⟨rfl, h⟩ := hP18
  refine X_tln ?_
  refine X_aload_n C dX0_back_23 rfl 0 rfl (isRV_r _) ?_
  refine X_getF (ci := 0) (j := 45) (q := (RX0, TX0, 49)) C rfl (by decide) q305 rfl dX0_back_24 (b := 147) (LX_S hX (k := 0) rfl) (LX_F hX (k := 0) (j := 45) rfl) rfl ?_
  refine X_iconst (v := 0) C dX0_back_27 rfl ?_
  refine X_aload_n C dX0_back_28 rfl 0 rfl (isRV_r _) ?_
  refine X_getS (ci := 0) (j := 47) (q := (RX0, TX0, 49)) C rfl (by decide) q307 rfl dX0_back_29 (LX_S hX (k := 0) rfl) (v := rv θ (sR s3 0 47)) rfl ?_
  obtain ⟨r22, q25, hb24, hs23, h⟩ := h
  rw [q25]
  refine X_tor ?_
  refine X_get (ci := 8) (j := 0) (q := (RX9, TX9, 6)) C rfl (by decide) q1653 rfl dX0_back_32 hs23 (v := .int (sI s3 r22 0)) rfl ?_
  refine X_iastS C (LX_S hX (k := 147) rfl) (LX_L hX (k := 147) rfl) (vp_dec rfl) rfl dX0_back_35 ?_
  refine X_nm (fun s26 e27 => ?_)
  have h := h s26 e27
  have hs23 : sh s26 r22 = 9 := by rw [e27]; exact hs23
  refine X_aload_n C dX0_back_36 rfl 0 rfl (isRV_r _) ?_
  refine X_getF (ci := 0) (j := 45) (q := (RX0, TX0, 49)) C rfl (by decide) q305 rfl dX0_back_37 (b := 147) (LX_S hX (k := 0) rfl) (LX_F hX (k := 0) (j := 45) rfl) rfl ?_
  refine X_iconst (v := 1) C dX0_back_40 rfl ?_
  refine X_aload_n C dX0_back_41 rfl 0 rfl (isRV_r _) ?_
  refine X_getS (ci := 0) (j := 47) (q := (RX0, TX0, 49)) C rfl (by decide) q307 rfl dX0_back_42 (LX_S hX (k := 0) rfl) (v := rv θ (sR s26 0 47)) rfl ?_
  obtain ⟨r28, q31, hb30, hs29, h⟩ := h
  rw [q31]
  refine X_tor ?_
  refine X_get (ci := 8) (j := 1) (q := (RX9, TX9, 6)) C rfl (by decide) q1655 rfl dX0_back_45 hs29 (v := .int (sI s26 r28 1)) rfl ?_
  refine X_iastS C (LX_S hX (k := 147) rfl) (LX_L hX (k := 147) rfl) (vp_dec rfl) rfl dX0_back_48 ?_
  refine X_nm (fun s32 e33 => ?_)
  have h := h s32 e33
  have hs23 : sh s32 r22 = 9 := by rw [e33]; exact hs23
  have hs29 : sh s32 r28 = 9 := by rw [e33]; exact hs29
  refine X_aload_n C dX0_back_49 rfl 0 rfl (isRV_r _) ?_
  refine X_getF (ci := 0) (j := 45) (q := (RX0, TX0, 49)) C rfl (by decide) q305 rfl dX0_back_50 (b := 147) (LX_S hX (k := 0) rfl) (LX_F hX (k := 0) (j := 45) rfl) rfl ?_
  refine X_iconst (v := 2) C dX0_back_53 rfl ?_
  refine X_aload_n C dX0_back_54 rfl 0 rfl (isRV_r _) ?_
  refine X_getS (ci := 0) (j := 47) (q := (RX0, TX0, 49)) C rfl (by decide) q307 rfl dX0_back_55 (LX_S hX (k := 0) rfl) (v := rv θ (sR s32 0 47)) rfl ?_
  obtain ⟨r34, q37, hb36, hs35, h⟩ := h
  rw [q37]
  refine X_tor ?_
  refine X_get (ci := 8) (j := 2) (q := (RX9, TX9, 6)) C rfl (by decide) q1657 rfl dX0_back_58 hs35 (v := .int (sI s32 r34 2)) rfl ?_
  refine X_iastS C (LX_S hX (k := 147) rfl) (LX_L hX (k := 147) rfl) (vp_dec rfl) rfl dX0_back_61 ?_
  refine X_nm (fun s38 e39 => ?_)
  have h := h s38 e39
  have hs23 : sh s38 r22 = 9 := by rw [e39]; exact hs23
  have hs29 : sh s38 r28 = 9 := by rw [e39]; exact hs29
  have hs35 : sh s38 r34 = 9 := by rw [e39]; exact hs35
  refine X_aload_n C dX0_back_62 rfl 0 rfl (isRV_r _) ?_
  refine X_aload_n C dX0_back_63 rfl 0 rfl (isRV_r _) ?_
  refine X_getS (ci := 0) (j := 47) (q := (RX0, TX0, 49)) C rfl (by decide) q307 rfl dX0_back_64 (LX_S hX (k := 0) rfl) (v := rv θ (sR s38 0 47)) rfl ?_
  obtain ⟨r40, q43, hb42, hs41, h⟩ := h
  rw [q43]
  refine X_tor ?_
  refine X_get (ci := 8) (j := 3) (q := (RX9, TX9, 6)) C rfl (by decide) q1659 rfl dX0_back_67 hs41 (v := .int (sI s38 r40 3)) rfl ?_
  refine X_putSI (ci := 0) (j := 6) (q := (RX0, TX0, 49)) C rfl (by decide) q266 rfl rfl dX0_back_70 (LX_S hX (k := 0) rfl) rfl rfl rfl ?_
  refine X_nm (fun s44 e45 => ?_)
  have h := h s44 e45
  have hs23 : sh s44 r22 = 9 := by rw [e45]; exact hs23
  have hs29 : sh s44 r28 = 9 := by rw [e45]; exact hs29
  have hs35 : sh s44 r34 = 9 := by rw [e45]; exact hs35
  have hs41 : sh s44 r40 = 9 := by rw [e45]; exact hs41
  refine X_aload_n C dX0_back_73 rfl 0 rfl (isRV_r _) ?_
  refine X_aload_n C dX0_back_74 rfl 0 rfl (isRV_r _) ?_
  refine X_getS (ci := 0) (j := 47) (q := (RX0, TX0, 49)) C rfl (by decide) q307 rfl dX0_back_75 (LX_S hX (k := 0) rfl) (v := rv θ (sR s44 0 47)) rfl ?_
  obtain ⟨r46, q49, hb48, hs47, h⟩ := h
  rw [q49]
  refine X_tor ?_
  refine X_get (ci := 8) (j := 4) (q := (RX9, TX9, 6)) C rfl (by decide) q1661 rfl dX0_back_78 hs47 (v := .int (sI s44 r46 4)) rfl ?_
  refine X_putSI (ci := 0) (j := 46) (q := (RX0, TX0, 49)) C rfl (by decide) q306 rfl rfl dX0_back_81 (LX_S hX (k := 0) rfl) rfl rfl rfl ?_
  refine X_nm (fun s50 e51 => ?_)
  have h := h s50 e51
  have hs23 : sh s50 r22 = 9 := by rw [e51]; exact hs23
  have hs29 : sh s50 r28 = 9 := by rw [e51]; exact hs29
  have hs35 : sh s50 r34 = 9 := by rw [e51]; exact hs35
  have hs41 : sh s50 r40 = 9 := by rw [e51]; exact hs41
  have hs47 : sh s50 r46 = 9 := by rw [e51]; exact hs47
  refine X_aload_n C dX0_back_84 rfl 0 rfl (isRV_r _) ?_
  refine X_aload_n C dX0_back_85 rfl 0 rfl (isRV_r _) ?_
  refine X_getS (ci := 0) (j := 47) (q := (RX0, TX0, 49)) C rfl (by decide) q307 rfl dX0_back_86 (LX_S hX (k := 0) rfl) (v := rv θ (sR s50 0 47)) rfl ?_
  obtain ⟨r52, q55, hb54, hs53, h⟩ := h
  rw [q55]
  refine X_tor ?_
  refine X_get (ci := 8) (j := 5) (q := (RX9, TX9, 6)) C rfl (by decide) q1663 rfl dX0_back_89 hs53 (v := rv θ (sR s50 r52 5)) rfl ?_
  refine X_putSR (v := (sR s50 r52 5)) (ci := 0) (j := 47) (q := (RX0, TX0, 49)) C rfl (by decide) q307 rfl rfl dX0_back_92 (LX_S hX (k := 0) rfl) (sv_R (Or.inl ⟨_, rfl⟩) _ _) (LX_N hX (k := 0) (j := 47) rfl) (nr_ref (Or.inl ⟨_, rfl⟩)).1 (nr_ref (Or.inl ⟨_, rfl⟩)).2 ?_
  refine X_nm (fun s56 e57 => ?_)
  have h := h s56 e57
  have hs23 : sh s56 r22 = 9 := by rw [e57]; exact hs23
  have hs29 : sh s56 r28 = 9 := by rw [e57]; exact hs29
  have hs35 : sh s56 r34 = 9 := by rw [e57]; exact hs35
  have hs41 : sh s56 r40 = 9 := by rw [e57]; exact hs41
  have hs47 : sh s56 r46 = 9 := by rw [e57]; exact hs47
  have hs53 : sh s56 r52 = 9 := by rw [e57]; exact hs53
  refine X_aload_n C dX0_back_95 rfl 0 rfl (isRV_r _) ?_
  refine X_dup C dX0_back_96 rfl ?_
  refine X_getS (ci := 0) (j := 44) (q := (RX0, TX0, 49)) C rfl (by decide) q304 rfl dX0_back_97 (LX_S hX (k := 0) rfl) (v := .int (sI s56 0 44)) rfl ?_
  refine X_iconst (v := 1) C dX0_back_100 rfl ?_
  refine X_isub C dX0_back_101 ?_
  refine X_putSI (ci := 0) (j := 44) (q := (RX0, TX0, 49)) C rfl (by decide) q304 rfl rfl dX0_back_102 (LX_S hX (k := 0) rfl) rfl rfl rfl ?_
  refine X_nm (fun s58 e59 => ?_)
  have h := h s58 e59
  have hs23 : sh s58 r22 = 9 := by rw [e59]; exact hs23
  have hs29 : sh s58 r28 = 9 := by rw [e59]; exact hs29
  have hs35 : sh s58 r34 = 9 := by rw [e59]; exact hs35
  have hs41 : sh s58 r40 = 9 := by rw [e59]; exact hs41
  have hs47 : sh s58 r46 = 9 := by rw [e59]; exact hs47
  have hs53 : sh s58 r52 = 9 := by rw [e59]; exact hs53
  refine X_aload_n C dX0_back_105 rfl 0 rfl (isRV_r _) ?_
  refine X_getS (ci := 0) (j := 44) (q := (RX0, TX0, 49)) C rfl (by decide) q304 rfl dX0_back_106 (LX_S hX (k := 0) rfl) (v := .int (sI s58 0 44)) rfl ?_
  exact X_iret C rfl dX0_back_109 (hn s58 _ h)
def w_X0_back_b18 (Φ : St → Int32 → Prop) (st : St) : Prop := w_X0_back_b19 Φ st 0
theorem t_X0_back_b18 {θ : Th} {κ : Kx} {Ph : Ph} (hX : LX θ) {d : Nat} (hd : 5 ≤ d) (C : Cx θ κ yX0_back cX0_back 2 (some Jvm.ClassFile.FieldType.int) [(0, 109, 110, 1)] d) {Φ : St → Int32 → Prop} (hn : ∀ st r, Φ st r → Ph.1 st (some (.int r))) (st : St) (h : w_X0_back_b18 Φ st) : X θ κ Ph st 18 [(0, .ref (ad θ 0))] [] := by
  unfold w_X0_back_b18 at h
  refine X_iconst (v := 0) C dX0_back_18 rfl ?_
  exact t_X0_back_b19 hX hd C hn st 0 h
def w_X0_back (st : St) (Φ : St → Int32 → Prop) : Prop := (((sI st 0 43) = 0) → w_X0_back_b18 Φ st) ∧ ((¬ (sI st 0 43) = 0) → (((sR st 0 47) = none) → w_X0_back_b18 Φ st) ∧ ((¬ (sR st 0 47) = none) → w_X0_back_b19 Φ st 1))
theorem nm_X0_back : yX0_back.cls ≠ "java/lang/invoke/MethodHandle" ∧ yX0_back.cls ≠ "java/lang/invoke/VarHandle" ∧ (parseMethodDescriptor yX0_back.desc).map (fun d => d.parameters.length) = some 0 := by decide +kernel
theorem e_X0_back : plainFor yX0_back = true := plainFor_of_name (by decide +kernel)
theorem m_X0_back {θ : Th} {l : Launch} (hl0 : l.stackTraces = false) (hX : LX θ) {d : Nat} (hd : 5 ≤ d) (st : St) {Φ : St → Int32 → Prop} (h : w_X0_back st Φ) : Ct θ l yX0_back (wsW_ yX0_back cX0_back 2 (some Jvm.ClassFile.FieldType.int) [(0, 109, 110, 1)]) d [.ref (ad θ 0)] st (pI Φ, noX) := by
  refine Ct_entryW hl0 e_X0_back (Nat.le_of_ble_eq_true rfl) (fun κ hκ _ C => ?_)
  have hn : ∀ st r, Φ st r → ((pI Φ, noX) : Ph).1 st (some (.int r)) := fun st r q => ⟨r, rfl, q⟩
  change X _ _ _ _ _ [(0, .ref (ad θ 0))] _
  unfold w_X0_back at h
  refine X_aload_n C dX0_back_0 rfl 0 rfl (isRV_r _) ?_
  refine X_getS (ci := 0) (j := 43) (q := (RX0, TX0, 49)) C rfl (by decide) q303 rfl dX0_back_1 (LX_S hX (k := 0) rfl) (v := .int (sI st 0 43)) rfl ?_
  refine X_if_eq (tgt := 18) C dX0_back_4 (by decide) (fun c1 => ?_) (fun c1 => ?_)
  · have h := h.1 c1
    exact t_X0_back_b18 hX hd C hn st h
  · have h := h.2 c1
    refine X_aload_n C dX0_back_7 rfl 0 rfl (isRV_r _) ?_
    refine X_getS (ci := 0) (j := 47) (q := (RX0, TX0, 49)) C rfl (by decide) q307 rfl dX0_back_8 (LX_S hX (k := 0) rfl) (v := rv θ (sR st 0 47)) rfl ?_
    refine X_ifnull (tgt := 18) C (isRV_v _ _) dX0_back_11 (by decide) (fun c60 => ?_) (fun c60 => ?_)
    · have h := h.1 (rv_none.mp c60)
      exact t_X0_back_b18 hX hd C hn st h
    · have h := h.2 (fun q => c60 (rv_none.mpr q))
      refine X_iconst (v := 1) C dX0_back_14 rfl ?_
      refine X_goto (tgt := 19) C dX0_back_15 (by decide) ?_
      exact t_X0_back_b19 hX hd C hn st 1 h

def w_X0_played_b36 (Φ : St → Int32 → Prop) (st : St) (x1 : Int32) (z0 : Int32) : Prop := w_X0_need st z0 2 (fun (s31 : St) => (x1 = 0 → Φ s31 (sI s31 0 44)) ∧ (x1 = 1 → vp_in (x1 - 1) 3 ∧ Φ s31 (sI s31 147 (x1 - 1).toNatClampNeg)) ∧ (x1 = 2 → vp_in (x1 - 1) 3 ∧ Φ s31 (sI s31 147 (x1 - 1).toNatClampNeg)) ∧ (x1 = 3 → vp_in (x1 - 1) 3 ∧ Φ s31 (sI s31 147 (x1 - 1).toNatClampNeg)) ∧ (x1 = 4 → w_X0_allExcess s31 (fun (r57 : Int32) => Φ s31 r57)) ∧ (x1.toInt < 0 ∨ 4 < x1.toInt → Φ s31 (sI s31 0 46))) (fun (s32 : St) (a33 : Nat) => w_X0_answers s32 a33 (fun (s37 : St) (r36 : Int32) => Φ s37 r36))
theorem t_X0_played_b36 {θ : Th} {κ : Kx} {Ph : Ph} (hX : LX θ) {d : Nat} (hd : 6 ≤ d) (C : Cx θ κ yX0_played cX0_played 3 (some Jvm.ClassFile.FieldType.int) [(0, 105, 106, 1)] d) {Φ : St → Int32 → Prop} (hn : ∀ st r, Φ st r → Ph.1 st (some (.int r))) (st : St) (x1 : Int32) (z0 : Int32) (h : w_X0_played_b36 Φ st x1 z0) : X θ κ Ph st 36 [(0, .ref (ad θ 0)), (1, .int x1)] [.int z0] := by
  unfold w_X0_played_b36 at h
  refine X_iconst (v := 2) C dX0_played_36 rfl ?_
  refine X_callS (As := [_, _]) (rest := []) C q421 q422 q132 q423 nm_X0_need rfl dX0_played_37 (m_X0_need (Cx_l C) hX (d := d - 1) (by omega) st z0 2 h) (by omega) (by decide) (Nat.le_of_ble_eq_true rfl) (fun s31 w44 hE45 hP46 => ?_) (fun s49 E47 q48 hE45 hP46 => ?_)
  rotate_left
  · rcases hP46 with ⟨rfl, a_, rfl, hb_, hs_, h⟩
    refine XT_catch C [] ⟨0, 105, 106, 1⟩ [] rfl (fun _ h => absurd h List.not_mem_nil) (by decide) (by decide) q412 q425 ?_
    refine X_astore_n C dX0_played_106 rfl (isRV_r _) (lo2 := [(2, _), (0, _), (1, _)]) (by decide) rfl ?_
    refine X_aload_n C dX0_played_107 rfl 1 rfl (isRV_r _) ?_
    refine X_aload_n C dX0_played_108 rfl 0 rfl (isRV_r _) ?_
    refine X_callVS (ci := 0) (q := (RX0, TX0, 49)) (As := [_]) (rest := []) C rfl (LX_S hX (k := 0) rfl) q512 q514 qs4 q132 q515 ⟨rfl, nm_X0_answers⟩ rfl dX0_played_109 (m_X0_answers (Cx_l C) hX (d := d - 1) (by omega) s49 a_ hs_ hb_ h) (by omega) (by decide) (Nat.le_of_ble_eq_true rfl) (fun s37 w38 hE39 hP40 => ?_) (fun s43 E41 q42 hE39 hP40 => ?_)
    rotate_left
    · exact False.elim hP40
    obtain ⟨r36, rfl, h⟩ := hP40
    refine X_tls ?_
    have hs_ := Ext_sh hE39 hs_ (by decide)
    exact X_iret C rfl dX0_played_112 (hn s37 _ h)
  obtain ⟨rfl, h⟩ := hP46
  refine X_tln ?_
  refine X_iload_n C dX0_played_40 rfl 1 rfl ?_
  by_cases c50 : x1 = 0
  · have h := h.1 c50
    refine X_tableIn (tgt := 76) C dX0_played_41 (by rw [c50]; decide) (by rw [c50]; decide) (off := 35) (by rw [c50]; rfl) (by decide) ?_
    refine X_aload_n C dX0_played_76 rfl 0 rfl (isRV_r _) ?_
    refine X_getS (ci := 0) (j := 44) (q := (RX0, TX0, 49)) C rfl (by decide) q304 rfl dX0_played_77 (LX_S hX (k := 0) rfl) (v := .int (sI s31 0 44)) rfl ?_
    refine X_goto (tgt := 105) C dX0_played_80 (by decide) ?_
    exact X_iret C rfl dX0_played_105 (hn s31 _ h)
  have h := h.2
  by_cases c52 : x1 = 1
  · have h := h.1 c52
    refine X_tableIn (tgt := 83) C dX0_played_41 (by rw [c52]; decide) (by rw [c52]; decide) (off := 42) (by rw [c52]; rfl) (by decide) ?_
    refine X_aload_n C dX0_played_83 rfl 0 rfl (isRV_r _) ?_
    refine X_getF (ci := 0) (j := 45) (q := (RX0, TX0, 49)) C rfl (by decide) q305 rfl dX0_played_84 (b := 147) (LX_S hX (k := 0) rfl) (LX_F hX (k := 0) (j := 45) rfl) rfl ?_
    refine X_iload_n C dX0_played_87 rfl 1 rfl ?_
    refine X_iconst (v := 1) C dX0_played_88 rfl ?_
    refine X_isub C dX0_played_89 ?_
    have g51 := h.1
    have h := h.2
    refine X_ialdS C (LX_S hX (k := 147) rfl) (LX_L hX (k := 147) rfl) g51 rfl dX0_played_90 ?_
    refine X_goto (tgt := 105) C dX0_played_91 (by decide) ?_
    exact X_iret C rfl dX0_played_105 (hn s31 _ h)
  have h := h.2
  by_cases c54 : x1 = 2
  · have h := h.1 c54
    refine X_tableIn (tgt := 83) C dX0_played_41 (by rw [c54]; decide) (by rw [c54]; decide) (off := 42) (by rw [c54]; rfl) (by decide) ?_
    refine X_aload_n C dX0_played_83 rfl 0 rfl (isRV_r _) ?_
    refine X_getF (ci := 0) (j := 45) (q := (RX0, TX0, 49)) C rfl (by decide) q305 rfl dX0_played_84 (b := 147) (LX_S hX (k := 0) rfl) (LX_F hX (k := 0) (j := 45) rfl) rfl ?_
    refine X_iload_n C dX0_played_87 rfl 1 rfl ?_
    refine X_iconst (v := 1) C dX0_played_88 rfl ?_
    refine X_isub C dX0_played_89 ?_
    have g53 := h.1
    have h := h.2
    refine X_ialdS C (LX_S hX (k := 147) rfl) (LX_L hX (k := 147) rfl) g53 rfl dX0_played_90 ?_
    refine X_goto (tgt := 105) C dX0_played_91 (by decide) ?_
    exact X_iret C rfl dX0_played_105 (hn s31 _ h)
  have h := h.2
  by_cases c56 : x1 = 3
  · have h := h.1 c56
    refine X_tableIn (tgt := 83) C dX0_played_41 (by rw [c56]; decide) (by rw [c56]; decide) (off := 42) (by rw [c56]; rfl) (by decide) ?_
    refine X_aload_n C dX0_played_83 rfl 0 rfl (isRV_r _) ?_
    refine X_getF (ci := 0) (j := 45) (q := (RX0, TX0, 49)) C rfl (by decide) q305 rfl dX0_played_84 (b := 147) (LX_S hX (k := 0) rfl) (LX_F hX (k := 0) (j := 45) rfl) rfl ?_
    refine X_iload_n C dX0_played_87 rfl 1 rfl ?_
    refine X_iconst (v := 1) C dX0_played_88 rfl ?_
    refine X_isub C dX0_played_89 ?_
    have g55 := h.1
    have h := h.2
    refine X_ialdS C (LX_S hX (k := 147) rfl) (LX_L hX (k := 147) rfl) g55 rfl dX0_played_90 ?_
    refine X_goto (tgt := 105) C dX0_played_91 (by decide) ?_
    exact X_iret C rfl dX0_played_105 (hn s31 _ h)
  have h := h.2
  by_cases c65 : x1 = 4
  · have h := h.1 c65
    refine X_tableIn (tgt := 94) C dX0_played_41 (by rw [c65]; decide) (by rw [c65]; decide) (off := 53) (by rw [c65]; rfl) (by decide) ?_
    refine X_aload_n C dX0_played_94 rfl 0 rfl (isRV_r _) ?_
    refine X_callVS (ci := 0) (q := (RX0, TX0, 49)) (As := []) (rest := []) C rfl (LX_S hX (k := 0) rfl) q1677 q1679 qs58 q132 q1680 ⟨rfl, nm_X0_allExcess⟩ rfl dX0_played_95 (m_X0_allExcess (Cx_l C) hX (d := d - 1) (by omega) s31 h) (by omega) (by decide) (Nat.le_of_ble_eq_true rfl) (fun s63 w58 hE59 hP60 => ?_) (fun s64 E61 q62 hE59 hP60 => ?_)
    rotate_left
    · exact False.elim hP60
    obtain ⟨r57, rfl, rfl, h⟩ := hP60
    refine X_tls ?_
    refine X_goto (tgt := 105) C dX0_played_98 (by decide) ?_
    exact X_iret C rfl dX0_played_105 (hn s31 _ h)
  have h := h.2
  have c66 : x1.toInt < 0 ∨ 4 < x1.toInt := by
    have qc50 := ne_toInt c50
    have qc52 := ne_toInt c52
    have qc54 := ne_toInt c54
    have qc56 := ne_toInt c56
    have qc65 := ne_toInt c65
    simp only [Int32.reduceToInt] at qc50 qc52 qc54 qc56 qc65
    omega
  refine X_tableOut (tgt := 101) C dX0_played_41 c66 (by decide) ?_
  have h := h c66
  refine X_aload_n C dX0_played_101 rfl 0 rfl (isRV_r _) ?_
  refine X_getS (ci := 0) (j := 46) (q := (RX0, TX0, 49)) C rfl (by decide) q306 rfl dX0_played_102 (LX_S hX (k := 0) rfl) (v := .int (sI s31 0 46)) rfl ?_
  exact X_iret C rfl dX0_played_105 (hn s31 _ h)
def w_X0_played_b35 (Φ : St → Int32 → Prop) (st : St) (x1 : Int32) : Prop := w_X0_played_b36 Φ st x1 0
theorem t_X0_played_b35 {θ : Th} {κ : Kx} {Ph : Ph} (hX : LX θ) {d : Nat} (hd : 6 ≤ d) (C : Cx θ κ yX0_played cX0_played 3 (some Jvm.ClassFile.FieldType.int) [(0, 105, 106, 1)] d) {Φ : St → Int32 → Prop} (hn : ∀ st r, Φ st r → Ph.1 st (some (.int r))) (st : St) (x1 : Int32) (h : w_X0_played_b35 Φ st x1) : X θ κ Ph st 35 [(0, .ref (ad θ 0)), (1, .int x1)] [] := by
  unfold w_X0_played_b35 at h
  refine X_iconst (v := 0) C dX0_played_35 rfl ?_
  exact t_X0_played_b36 hX hd C hn st x1 0 h
def w_X0_played_b31 (Φ : St → Int32 → Prop) (st : St) (x1 : Int32) : Prop := w_X0_played_b36 Φ st x1 1
theorem t_X0_played_b31 {θ : Th} {κ : Kx} {Ph : Ph} (hX : LX θ) {d : Nat} (hd : 6 ≤ d) (C : Cx θ κ yX0_played cX0_played 3 (some Jvm.ClassFile.FieldType.int) [(0, 105, 106, 1)] d) {Φ : St → Int32 → Prop} (hn : ∀ st r, Φ st r → Ph.1 st (some (.int r))) (st : St) (x1 : Int32) (h : w_X0_played_b31 Φ st x1) : X θ κ Ph st 31 [(0, .ref (ad θ 0)), (1, .int x1)] [] := by
  unfold w_X0_played_b31 at h
  refine X_iconst (v := 1) C dX0_played_31 rfl ?_
  refine X_goto (tgt := 36) C dX0_played_32 (by decide) ?_
  exact t_X0_played_b36 hX hd C hn st x1 1 h
def w_X0_played (st : St) (p1 : Int32) (Φ : St → Int32 → Prop) : Prop := w_X0_in p1.toInt64 0 5 (fun (r1 : Int32) => w_X0_must st r1 (fun (s10 : St) => (((sI s10 0 43) = 0) → w_X0_played_b35 Φ s10 p1) ∧ ((¬ (sI s10 0 43) = 0) → ((p1 < 5) → w_X0_played_b31 Φ s10 p1) ∧ ((¬ p1 < 5) → (((sI s10 0 44) ≤ 0) → w_X0_played_b35 Φ s10 p1) ∧ ((¬ (sI s10 0 44) ≤ 0) → w_X0_played_b31 Φ s10 p1)))) (fun (s11 : St) (a12 : Nat) => w_X0_answers s11 a12 (fun (s16 : St) (r15 : Int32) => Φ s16 r15)))
theorem nm_X0_played : yX0_played.cls ≠ "java/lang/invoke/MethodHandle" ∧ yX0_played.cls ≠ "java/lang/invoke/VarHandle" ∧ (parseMethodDescriptor yX0_played.desc).map (fun d => d.parameters.length) = some 1 := by decide +kernel
theorem e_X0_played : plainFor yX0_played = true := plainFor_of_name (by decide +kernel)
theorem m_X0_played {θ : Th} {l : Launch} (hl0 : l.stackTraces = false) (hX : LX θ) {d : Nat} (hd : 6 ≤ d) (st : St) (p1 : Int32) {Φ : St → Int32 → Prop} (h : w_X0_played st p1 Φ) : Ct θ l yX0_played (wsW_ yX0_played cX0_played 3 (some Jvm.ClassFile.FieldType.int) [(0, 105, 106, 1)]) d [.ref (ad θ 0), .int p1] st (pI Φ, noX) := by
  refine Ct_entryW hl0 e_X0_played (Nat.le_of_ble_eq_true rfl) (fun κ hκ _ C => ?_)
  have hn : ∀ st r, Φ st r → ((pI Φ, noX) : Ph).1 st (some (.int r)) := fun st r q => ⟨r, rfl, q⟩
  change X _ _ _ _ _ [(0, .ref (ad θ 0)), (1, .int p1)] _
  unfold w_X0_played at h
  refine X_iload_n C dX0_played_0 rfl 1 rfl ?_
  refine X_i2l C dX0_played_1 ?_
  refine X_lconst (v := 0) C dX0_played_2 rfl ?_
  refine X_ldc2 C q1704 dX0_played_3 ?_
  refine X_callS (As := [_, _, _]) (rest := []) C q415 q416 q132 q417 nm_X0_in rfl dX0_played_6 (m_X0_in (Cx_l C) (d := d - 1) (by omega) st p1.toInt64 0 5 h) (by omega) (by decide) (Nat.le_of_ble_eq_true rfl) (fun s7 w2 hE3 hP4 => ?_) (fun s8 E5 q6 hE3 hP4 => ?_)
  rotate_left
  · exact False.elim hP4
  obtain ⟨r1, rfl, rfl, h⟩ := hP4
  refine X_tls ?_
  refine X_callS (As := [_]) (rest := []) C q418 q419 q132 q420 nm_X0_must rfl dX0_played_9 (m_X0_must (Cx_l C) hX (d := d - 1) (by omega) st r1 h) (by omega) (by decide) (Nat.le_of_ble_eq_true rfl) (fun s10 w23 hE24 hP25 => ?_) (fun s28 E26 q27 hE24 hP25 => ?_)
  rotate_left
  · rcases hP25 with ⟨rfl, a_, rfl, hb_, hs_, h⟩
    refine XT_catch C [] ⟨0, 105, 106, 1⟩ [] rfl (fun _ h => absurd h List.not_mem_nil) (by decide) (by decide) q412 q425 ?_
    refine X_astore_n C dX0_played_106 rfl (isRV_r _) (lo2 := [(2, _), (0, _), (1, _)]) (by decide) rfl ?_
    refine X_aload_n C dX0_played_107 rfl 1 rfl (isRV_r _) ?_
    refine X_aload_n C dX0_played_108 rfl 0 rfl (isRV_r _) ?_
    refine X_callVS (ci := 0) (q := (RX0, TX0, 49)) (As := [_]) (rest := []) C rfl (LX_S hX (k := 0) rfl) q512 q514 qs4 q132 q515 ⟨rfl, nm_X0_answers⟩ rfl dX0_played_109 (m_X0_answers (Cx_l C) hX (d := d - 1) (by omega) s28 a_ hs_ hb_ h) (by omega) (by decide) (Nat.le_of_ble_eq_true rfl) (fun s16 w17 hE18 hP19 => ?_) (fun s22 E20 q21 hE18 hP19 => ?_)
    rotate_left
    · exact False.elim hP19
    obtain ⟨r15, rfl, h⟩ := hP19
    refine X_tls ?_
    have hs_ := Ext_sh hE18 hs_ (by decide)
    exact X_iret C rfl dX0_played_112 (hn s16 _ h)
  obtain ⟨rfl, h⟩ := hP25
  refine X_tln ?_
  refine X_aload_n C dX0_played_12 rfl 0 rfl (isRV_r _) ?_
  refine X_getS (ci := 0) (j := 43) (q := (RX0, TX0, 49)) C rfl (by decide) q303 rfl dX0_played_13 (LX_S hX (k := 0) rfl) (v := .int (sI s10 0 43)) rfl ?_
  refine X_if_eq (tgt := 35) C dX0_played_16 (by decide) (fun c29 => ?_) (fun c29 => ?_)
  · have h := h.1 c29
    exact t_X0_played_b35 hX hd C hn s10 p1 h
  · have h := h.2 c29
    refine X_iload_n C dX0_played_19 rfl 1 rfl ?_
    refine X_iconst (v := 5) C dX0_played_20 rfl ?_
    refine X_icmp_lt (tgt := 31) C dX0_played_21 (by decide) (fun c67 => ?_) (fun c67 => ?_)
    · have h := h.1 c67
      exact t_X0_played_b31 hX hd C hn s10 p1 h
    · have h := h.2 c67
      refine X_aload_n C dX0_played_24 rfl 0 rfl (isRV_r _) ?_
      refine X_getS (ci := 0) (j := 44) (q := (RX0, TX0, 49)) C rfl (by decide) q304 rfl dX0_played_25 (LX_S hX (k := 0) rfl) (v := .int (sI s10 0 44)) rfl ?_
      refine X_if_le (tgt := 35) C dX0_played_28 (by decide) (fun c68 => ?_) (fun c68 => ?_)
      · have h := h.1 c68
        exact t_X0_played_b35 hX hd C hn s10 p1 h
      · have h := h.2 c68
        exact t_X0_played_b31 hX hd C hn s10 p1 h

def w_X0_stands_b42 (Φ : St → Int64 → Prop) (Φw : St → Nat → Prop) (st : St) (x1 : Int32) (x2 : Int64) (x4 : Int64) (z0 : Int32) : Prop := w_X0_need st z0 5 (fun (s11 : St) => vp_in x1 3 ∧ vp_in x2.toInt32 3 ∧ vp_in x4.toInt32 3 ∧ Φ s11 (sI s11 (2 + (3 + 4 * x1.toNatClampNeg + x2.toInt32.toNatClampNeg)) x4.toInt32.toNatClampNeg).toInt64) Φw
theorem t_X0_stands_b42 {θ : Th} {κ : Kx} {Ph : Ph} (hX : LX θ) {d : Nat} (hd : 5 ≤ d) (C : Cx θ κ yX0_stands cX0_stands 6 (some Jvm.ClassFile.FieldType.long) [] d) {Φ : St → Int64 → Prop} {Φw : St → Nat → Prop} (hn : ∀ st r, Φ st r → Ph.1 st (some (.long r))) (hw : ∀ st a, a < gBIG → sh st a = 6 → Φw st a → Ph.2 st "SecretsWorth$Wrong" (ad θ a)) (st : St) (x1 : Int32) (x2 : Int64) (x4 : Int64) (z0 : Int32) (h : w_X0_stands_b42 Φ Φw st x1 x2 x4 z0) : X θ κ Ph st 42 [(0, .ref (ad θ 0)), (1, .int x1), (2, .long x2), (4, .long x4)] [.int z0] := by
  unfold w_X0_stands_b42 at h
  refine X_iconst (v := 5) C dX0_stands_42 rfl ?_
  refine X_callS (As := [_, _]) (rest := []) C q421 q422 q132 q423 nm_X0_need rfl dX0_stands_43 (m_X0_need (Cx_l C) hX (d := d - 1) (by omega) st z0 5 h) (by omega) (by decide) (Nat.le_of_ble_eq_true rfl) (fun s11 w12 hE13 hP14 => ?_) (fun s17 E15 q16 hE13 hP14 => ?_)
  rotate_left
  · rcases hP14 with ⟨rfl, a_, rfl, hb_, hs_, h⟩
    exact XT_out C rfl (hw s17 a_ hb_ hs_ h)
  obtain ⟨rfl, h⟩ := hP14
  refine X_tln ?_
  refine X_aload_n C dX0_stands_46 rfl 0 rfl (isRV_r _) ?_
  refine X_getF (ci := 0) (j := 1) (q := (RX0, TX0, 49)) C rfl (by decide) q261 rfl dX0_stands_47 (b := 2) (LX_S hX (k := 0) rfl) (LX_F hX (k := 0) (j := 1) rfl) rfl ?_
  refine X_getNF (ci := 1) (j := 5) (q := (RX1, TX1, 10)) C rfl (by decide) q199 rfl dX0_stands_50 (b := (2 + 1)) (LH_0 (LX_H2 hX)) (LH_F (LX_H2 hX) (k := 0) (j := 5) rfl) rfl ?_
  refine X_iload_n C dX0_stands_53 rfl 1 rfl ?_
  have g18 := h.1
  have h := h.2
  refine X_aaldF C 7 rfl (LH_S (LX_H2 hX) (k := 1) rfl) (by decide) rfl (LH_L (LX_H2 hX) (k := 1) rfl) g18 rfl (b := (2 + (2 + 4 * x1.toNatClampNeg))) (LHf_sub (LX_H2 hX) (i := x1.toNatClampNeg) (in_lt g18)).2.2 dX0_stands_54 rfl ?_
  refine X_lload_n C dX0_stands_55 rfl 2 rfl ?_
  refine X_l2i C dX0_stands_56 ?_
  have g19 := h.1
  have h := h.2
  refine X_aaldF C 6 rfl (LHf_sub (LX_H2 hX) (i := x1.toNatClampNeg) (in_lt g18)).1 (by decide) rfl (LHf_sub (LX_H2 hX) (i := x1.toNatClampNeg) (in_lt g18)).2.1 g19 rfl (b := (2 + (3 + 4 * x1.toNatClampNeg + x2.toInt32.toNatClampNeg))) (LHf_game (LX_H2 hX) (i := x1.toNatClampNeg) (j := x2.toInt32.toNatClampNeg) (in_lt g18) (in_lt g19)).2.2 dX0_stands_57 rfl ?_
  refine X_lload C dX0_stands_58 3 rfl ?_
  refine X_l2i C dX0_stands_60 ?_
  have g20 := h.1
  have h := h.2
  refine X_ialdS C (LHf_game (LX_H2 hX) (i := x1.toNatClampNeg) (j := x2.toInt32.toNatClampNeg) (in_lt g18) (in_lt g19)).1 (LHf_game (LX_H2 hX) (i := x1.toNatClampNeg) (j := x2.toInt32.toNatClampNeg) (in_lt g18) (in_lt g19)).2.1 g20 rfl dX0_stands_61 ?_
  refine X_i2l C dX0_stands_62 ?_
  exact X_lret C rfl dX0_stands_63 (hn s11 _ h)
def w_X0_stands_b41 (Φ : St → Int64 → Prop) (Φw : St → Nat → Prop) (st : St) (x1 : Int32) (x2 : Int64) (x4 : Int64) : Prop := w_X0_stands_b42 Φ Φw st x1 x2 x4 0
theorem t_X0_stands_b41 {θ : Th} {κ : Kx} {Ph : Ph} (hX : LX θ) {d : Nat} (hd : 5 ≤ d) (C : Cx θ κ yX0_stands cX0_stands 6 (some Jvm.ClassFile.FieldType.long) [] d) {Φ : St → Int64 → Prop} {Φw : St → Nat → Prop} (hn : ∀ st r, Φ st r → Ph.1 st (some (.long r))) (hw : ∀ st a, a < gBIG → sh st a = 6 → Φw st a → Ph.2 st "SecretsWorth$Wrong" (ad θ a)) (st : St) (x1 : Int32) (x2 : Int64) (x4 : Int64) (h : w_X0_stands_b41 Φ Φw st x1 x2 x4) : X θ κ Ph st 41 [(0, .ref (ad θ 0)), (1, .int x1), (2, .long x2), (4, .long x4)] [] := by
  unfold w_X0_stands_b41 at h
  refine X_iconst (v := 0) C dX0_stands_41 rfl ?_
  exact t_X0_stands_b42 hX hd C hn hw st x1 x2 x4 0 h
def w_X0_stands (st : St) (p1 : Int32) (p2 : Int64) (p3 : Int64) (Φ : St → Int64 → Prop) (Φw : St → Nat → Prop) : Prop := w_X0_in p2 0 ((sI st 2 2) - 1).toInt64 (fun (r1 : Int32) => ((r1 = 0) → w_X0_stands_b41 Φ Φw st p1 p2 p3) ∧ ((¬ r1 = 0) → w_X0_in p3 0 ((sI st 2 3) - 1).toInt64 (fun (r21 : Int32) => ((r21 = 0) → w_X0_stands_b41 Φ Φw st p1 p2 p3) ∧ ((¬ r21 = 0) → w_X0_stands_b42 Φ Φw st p1 p2 p3 1))))
theorem nm_X0_stands : yX0_stands.cls ≠ "java/lang/invoke/MethodHandle" ∧ yX0_stands.cls ≠ "java/lang/invoke/VarHandle" ∧ (parseMethodDescriptor yX0_stands.desc).map (fun d => d.parameters.length) = some 3 := by decide +kernel
theorem e_X0_stands : plainFor yX0_stands = true := plainFor_of_name (by decide +kernel)
theorem m_X0_stands {θ : Th} {l : Launch} (hl0 : l.stackTraces = false) (hX : LX θ) {d : Nat} (hd : 5 ≤ d) (st : St) (p1 : Int32) (p2 : Int64) (p3 : Int64) {Φ : St → Int64 → Prop} {Φw : St → Nat → Prop} (h : w_X0_stands st p1 p2 p3 Φ Φw) : Ct θ l yX0_stands (ws_ yX0_stands cX0_stands 6 (some Jvm.ClassFile.FieldType.long)) d [.ref (ad θ 0), .int p1, .long p2, .long p3] st (pL Φ, (exW θ Φw)) := by
  refine Ct_entry hl0 e_X0_stands (Nat.le_of_ble_eq_true rfl) (fun κ hκ _ C => ?_)
  have hn : ∀ st r, Φ st r → ((pL Φ, (exW θ Φw)) : Ph).1 st (some (.long r)) := fun st r q => ⟨r, rfl, q⟩
  have hw : ∀ st a, a < gBIG → sh st a = 6 → Φw st a → ((pL Φ, (exW θ Φw)) : Ph).2 st "SecretsWorth$Wrong" (ad θ a) := fun st a q1 q2 q => ⟨rfl, a, rfl, q1, q2, q⟩
  change X _ _ _ _ _ [(0, .ref (ad θ 0)), (1, .int p1), (2, .long p2), (4, .long p3)] _
  unfold w_X0_stands at h
  refine X_lload_n C dX0_stands_0 rfl 2 rfl ?_
  refine X_lconst (v := 0) C dX0_stands_1 rfl ?_
  refine X_aload_n C dX0_stands_2 rfl 0 rfl (isRV_r _) ?_
  refine X_getF (ci := 0) (j := 1) (q := (RX0, TX0, 49)) C rfl (by decide) q261 rfl dX0_stands_3 (b := 2) (LX_S hX (k := 0) rfl) (LX_F hX (k := 0) (j := 1) rfl) rfl ?_
  refine X_getNS (ci := 1) (j := 2) (q := (RX1, TX1, 10)) C rfl (by decide) q193 rfl dX0_stands_6 (LH_0 (LX_H2 hX)) (v := .int (sI st 2 2)) rfl ?_
  refine X_iconst (v := 1) C dX0_stands_9 rfl ?_
  refine X_isub C dX0_stands_10 ?_
  refine X_i2l C dX0_stands_11 ?_
  refine X_callS (As := [_, _, _]) (rest := []) C q415 q416 q132 q417 nm_X0_in rfl dX0_stands_12 (m_X0_in (Cx_l C) (d := d - 1) (by omega) st p2 0 ((sI st 2 2) - 1).toInt64 h) (by omega) (by decide) (Nat.le_of_ble_eq_true rfl) (fun s7 w2 hE3 hP4 => ?_) (fun s8 E5 q6 hE3 hP4 => ?_)
  rotate_left
  · exact False.elim hP4
  obtain ⟨r1, rfl, rfl, h⟩ := hP4
  refine X_tls ?_
  refine X_if_eq (tgt := 41) C dX0_stands_15 (by decide) (fun c9 => ?_) (fun c9 => ?_)
  · have h := h.1 c9
    exact t_X0_stands_b41 hX hd C hn hw st p1 p2 p3 h
  · have h := h.2 c9
    refine X_lload C dX0_stands_18 3 rfl ?_
    refine X_lconst (v := 0) C dX0_stands_20 rfl ?_
    refine X_aload_n C dX0_stands_21 rfl 0 rfl (isRV_r _) ?_
    refine X_getF (ci := 0) (j := 1) (q := (RX0, TX0, 49)) C rfl (by decide) q261 rfl dX0_stands_22 (b := 2) (LX_S hX (k := 0) rfl) (LX_F hX (k := 0) (j := 1) rfl) rfl ?_
    refine X_getNS (ci := 1) (j := 3) (q := (RX1, TX1, 10)) C rfl (by decide) q195 rfl dX0_stands_25 (LH_0 (LX_H2 hX)) (v := .int (sI st 2 3)) rfl ?_
    refine X_iconst (v := 1) C dX0_stands_28 rfl ?_
    refine X_isub C dX0_stands_29 ?_
    refine X_i2l C dX0_stands_30 ?_
    refine X_callS (As := [_, _, _]) (rest := []) C q415 q416 q132 q417 nm_X0_in rfl dX0_stands_31 (m_X0_in (Cx_l C) (d := d - 1) (by omega) st p3 0 ((sI st 2 3) - 1).toInt64 h) (by omega) (by decide) (Nat.le_of_ble_eq_true rfl) (fun s27 w22 hE23 hP24 => ?_) (fun s28 E25 q26 hE23 hP24 => ?_)
    rotate_left
    · exact False.elim hP24
    obtain ⟨r21, rfl, rfl, h⟩ := hP24
    refine X_tls ?_
    refine X_if_eq (tgt := 41) C dX0_stands_34 (by decide) (fun c29 => ?_) (fun c29 => ?_)
    · have h := h.1 c29
      exact t_X0_stands_b41 hX hd C hn hw st p1 p2 p3 h
    · have h := h.2 c29
      refine X_iconst (v := 1) C dX0_stands_37 rfl ?_
      refine X_goto (tgt := 42) C dX0_stands_38 (by decide) ?_
      exact t_X0_stands_b42 hX hd C hn hw st p1 p2 p3 1 h

def w_X0_sheet_b63 (Φ : St → Int32 → Prop) (st : St) (x1 : Int32) (x2 : Int32) (x3 : Int32) (z0 : Int32) : Prop := w_X0_must st z0 (fun (s53 : St) => vp_in x1 5 ∧ w_X3_becomes s53 (170 + x1.toNatClampNeg) x2 x3 (fun (s76 : St) => Φ s76 1)) (fun (s54 : St) (a55 : Nat) => w_X0_answers s54 a55 (fun (s59 : St) (r58 : Int32) => Φ s59 r58))
theorem t_X0_sheet_b63 {θ : Th} {κ : Kx} {Ph : Ph} (hX : LX θ) {d : Nat} (hd : 6 ≤ d) (C : Cx θ κ yX0_sheet cX0_sheet 5 (some Jvm.ClassFile.FieldType.int) [(0, 78, 79, 1)] d) {Φ : St → Int32 → Prop} (hn : ∀ st r, Φ st r → Ph.1 st (some (.int r))) (st : St) (x1 : Int32) (x2 : Int32) (x3 : Int32) (z0 : Int32) (h : w_X0_sheet_b63 Φ st x1 x2 x3 z0) : X θ κ Ph st 63 [(0, .ref (ad θ 0)), (1, .int x1), (2, .int x2), (3, .int x3)] [.int z0] := by
  unfold w_X0_sheet_b63 at h
  refine X_callS (As := [_]) (rest := []) C q418 q419 q132 q420 nm_X0_must rfl dX0_sheet_63 (m_X0_must (Cx_l C) hX (d := d - 1) (by omega) st z0 h) (by omega) (by decide) (Nat.le_of_ble_eq_true rfl) (fun s53 w66 hE67 hP68 => ?_) (fun s71 E69 q70 hE67 hP68 => ?_)
  rotate_left
  · rcases hP68 with ⟨rfl, a_, rfl, hb_, hs_, h⟩
    refine XT_catch C [] ⟨0, 78, 79, 1⟩ [] rfl (fun _ h => absurd h List.not_mem_nil) (by decide) (by decide) q412 q425 ?_
    refine X_astore C dX0_sheet_79 (isRV_r _) (lo2 := [(4, _), (0, _), (1, _), (2, _), (3, _)]) (by decide) rfl ?_
    refine X_aload_n C dX0_sheet_81 rfl 1 rfl (isRV_r _) ?_
    refine X_aload C dX0_sheet_82 0 rfl (isRV_r _) ?_
    refine X_callVS (ci := 0) (q := (RX0, TX0, 49)) (As := [_]) (rest := []) C rfl (LX_S hX (k := 0) rfl) q512 q514 qs4 q132 q515 ⟨rfl, nm_X0_answers⟩ rfl dX0_sheet_84 (m_X0_answers (Cx_l C) hX (d := d - 1) (by omega) s71 a_ hs_ hb_ h) (by omega) (by decide) (Nat.le_of_ble_eq_true rfl) (fun s59 w60 hE61 hP62 => ?_) (fun s65 E63 q64 hE61 hP62 => ?_)
    rotate_left
    · exact False.elim hP62
    obtain ⟨r58, rfl, h⟩ := hP62
    refine X_tls ?_
    have hs_ := Ext_sh hE61 hs_ (by decide)
    exact X_iret C rfl dX0_sheet_87 (hn s59 _ h)
  obtain ⟨rfl, h⟩ := hP68
  refine X_tln ?_
  refine X_aload_n C dX0_sheet_66 rfl 0 rfl (isRV_r _) ?_
  refine X_getF (ci := 0) (j := 48) (q := (RX0, TX0, 49)) C rfl (by decide) q308 rfl dX0_sheet_67 (b := 148) (LX_S hX (k := 0) rfl) (LX_F hX (k := 0) (j := 48) rfl) rfl ?_
  refine X_iload_n C dX0_sheet_70 rfl 1 rfl ?_
  have g72 := h.1
  have h := h.2
  refine X_aaldF C 10 rfl (LX_S hX (k := 148) rfl) (by decide) rfl (LX_L hX (k := 148) rfl) g72 rfl (b := (170 + x1.toNatClampNeg)) (LXf_sheet hX (i := x1.toNatClampNeg) (in_lt g72)).2 dX0_sheet_71 rfl ?_
  refine X_iload_n C dX0_sheet_72 rfl 2 rfl ?_
  refine X_iload_n C dX0_sheet_73 rfl 3 rfl ?_
  refine X_sh (LXf_sheet hX (i := x1.toNatClampNeg) (in_lt g72)).1 (by decide) (fun hs73 hb74 => ?_)
  refine X_callV (ci := 3) (q := (RX3, TX3, 1)) (As := [_, _]) (rest := []) C rfl hs73 q1721 q1722 q1723 q135 q1724 ⟨rfl, nm_X3_becomes⟩ rfl dX0_sheet_74 (m_X3_becomes (Cx_l C) hX (d := d - 1) (by omega) s53 (170 + x1.toNatClampNeg) x2 x3 hs73 hb74 h) (by omega) (by decide) (Nat.le_of_ble_eq_true rfl) (fun s76 w77 hE78 hP79 => ?_) (fun s82 E80 q81 hE78 hP79 => ?_)
  rotate_left
  · exact False.elim hP79
  obtain ⟨rfl, h⟩ := hP79
  refine X_tln ?_
  refine X_iconst (v := 1) C dX0_sheet_77 rfl ?_
  exact X_iret C rfl dX0_sheet_78 (hn s76 _ h)
def w_X0_sheet_b58 (Φ : St → Int32 → Prop) (st : St) (x1 : Int32) (x2 : Int32) (x3 : Int32) : Prop := w_X0_sheet_b63 Φ st x1 x2 x3 1
theorem t_X0_sheet_b58 {θ : Th} {κ : Kx} {Ph : Ph} (hX : LX θ) {d : Nat} (hd : 6 ≤ d) (C : Cx θ κ yX0_sheet cX0_sheet 5 (some Jvm.ClassFile.FieldType.int) [(0, 78, 79, 1)] d) {Φ : St → Int32 → Prop} (hn : ∀ st r, Φ st r → Ph.1 st (some (.int r))) (st : St) (x1 : Int32) (x2 : Int32) (x3 : Int32) (h : w_X0_sheet_b58 Φ st x1 x2 x3) : X θ κ Ph st 58 [(0, .ref (ad θ 0)), (1, .int x1), (2, .int x2), (3, .int x3)] [] := by
  unfold w_X0_sheet_b58 at h
  refine X_iconst (v := 1) C dX0_sheet_58 rfl ?_
  refine X_goto (tgt := 63) C dX0_sheet_59 (by decide) ?_
  exact t_X0_sheet_b63 hX hd C hn st x1 x2 x3 1 h
def w_X0_sheet_b44 (Φ : St → Int32 → Prop) (st : St) (x1 : Int32) (x2 : Int32) (x3 : Int32) (z0 : Int32) : Prop := w_X0_need st z0 3 (fun (s32 : St) => ((x2 = 0) → w_X0_sheet_b58 Φ s32 x1 x2 x3) ∧ ((¬ x2 = 0) → ((60 < x3) → w_X0_sheet_b63 Φ s32 x1 x2 x3 0) ∧ ((¬ 60 < x3) → w_X0_sheet_b58 Φ s32 x1 x2 x3))) (fun (s33 : St) (a34 : Nat) => w_X0_answers s33 a34 (fun (s38 : St) (r37 : Int32) => Φ s38 r37))
theorem t_X0_sheet_b44 {θ : Th} {κ : Kx} {Ph : Ph} (hX : LX θ) {d : Nat} (hd : 6 ≤ d) (C : Cx θ κ yX0_sheet cX0_sheet 5 (some Jvm.ClassFile.FieldType.int) [(0, 78, 79, 1)] d) {Φ : St → Int32 → Prop} (hn : ∀ st r, Φ st r → Ph.1 st (some (.int r))) (st : St) (x1 : Int32) (x2 : Int32) (x3 : Int32) (z0 : Int32) (h : w_X0_sheet_b44 Φ st x1 x2 x3 z0) : X θ κ Ph st 44 [(0, .ref (ad θ 0)), (1, .int x1), (2, .int x2), (3, .int x3)] [.int z0] := by
  unfold w_X0_sheet_b44 at h
  refine X_iconst (v := 3) C dX0_sheet_44 rfl ?_
  refine X_callS (As := [_, _]) (rest := []) C q421 q422 q132 q423 nm_X0_need rfl dX0_sheet_45 (m_X0_need (Cx_l C) hX (d := d - 1) (by omega) st z0 3 h) (by omega) (by decide) (Nat.le_of_ble_eq_true rfl) (fun s32 w45 hE46 hP47 => ?_) (fun s50 E48 q49 hE46 hP47 => ?_)
  rotate_left
  · rcases hP47 with ⟨rfl, a_, rfl, hb_, hs_, h⟩
    refine XT_catch C [] ⟨0, 78, 79, 1⟩ [] rfl (fun _ h => absurd h List.not_mem_nil) (by decide) (by decide) q412 q425 ?_
    refine X_astore C dX0_sheet_79 (isRV_r _) (lo2 := [(4, _), (0, _), (1, _), (2, _), (3, _)]) (by decide) rfl ?_
    refine X_aload_n C dX0_sheet_81 rfl 1 rfl (isRV_r _) ?_
    refine X_aload C dX0_sheet_82 0 rfl (isRV_r _) ?_
    refine X_callVS (ci := 0) (q := (RX0, TX0, 49)) (As := [_]) (rest := []) C rfl (LX_S hX (k := 0) rfl) q512 q514 qs4 q132 q515 ⟨rfl, nm_X0_answers⟩ rfl dX0_sheet_84 (m_X0_answers (Cx_l C) hX (d := d - 1) (by omega) s50 a_ hs_ hb_ h) (by omega) (by decide) (Nat.le_of_ble_eq_true rfl) (fun s38 w39 hE40 hP41 => ?_) (fun s44 E42 q43 hE40 hP41 => ?_)
    rotate_left
    · exact False.elim hP41
    obtain ⟨r37, rfl, h⟩ := hP41
    refine X_tls ?_
    have hs_ := Ext_sh hE40 hs_ (by decide)
    exact X_iret C rfl dX0_sheet_87 (hn s38 _ h)
  obtain ⟨rfl, h⟩ := hP47
  refine X_tln ?_
  refine X_iload_n C dX0_sheet_48 rfl 2 rfl ?_
  refine X_if_eq (tgt := 58) C dX0_sheet_49 (by decide) (fun c51 => ?_) (fun c51 => ?_)
  · have h := h.1 c51
    exact t_X0_sheet_b58 hX hd C hn s32 x1 x2 x3 h
  · have h := h.2 c51
    refine X_iload_n C dX0_sheet_52 rfl 3 rfl ?_
    refine X_bipush (v := 60) C dX0_sheet_53 rfl ?_
    refine X_icmp_gt (tgt := 62) C dX0_sheet_55 (by decide) (fun c83 => ?_) (fun c83 => ?_)
    · have h := h.1 c83
      refine X_iconst (v := 0) C dX0_sheet_62 rfl ?_
      exact t_X0_sheet_b63 hX hd C hn s32 x1 x2 x3 0 h
    · have h := h.2 c83
      exact t_X0_sheet_b58 hX hd C hn s32 x1 x2 x3 h
def w_X0_sheet_b39 (Φ : St → Int32 → Prop) (st : St) (x1 : Int32) (x2 : Int32) (x3 : Int32) : Prop := w_X0_sheet_b44 Φ st x1 x2 x3 1
theorem t_X0_sheet_b39 {θ : Th} {κ : Kx} {Ph : Ph} (hX : LX θ) {d : Nat} (hd : 6 ≤ d) (C : Cx θ κ yX0_sheet cX0_sheet 5 (some Jvm.ClassFile.FieldType.int) [(0, 78, 79, 1)] d) {Φ : St → Int32 → Prop} (hn : ∀ st r, Φ st r → Ph.1 st (some (.int r))) (st : St) (x1 : Int32) (x2 : Int32) (x3 : Int32) (h : w_X0_sheet_b39 Φ st x1 x2 x3) : X θ κ Ph st 39 [(0, .ref (ad θ 0)), (1, .int x1), (2, .int x2), (3, .int x3)] [] := by
  unfold w_X0_sheet_b39 at h
  refine X_iconst (v := 1) C dX0_sheet_39 rfl ?_
  refine X_goto (tgt := 44) C dX0_sheet_40 (by decide) ?_
  exact t_X0_sheet_b44 hX hd C hn st x1 x2 x3 1 h
def w_X0_sheet_b28 (Φ : St → Int32 → Prop) (st : St) (x1 : Int32) (x2 : Int32) (x3 : Int32) (z0 : Int32) : Prop := w_X0_must st z0 (fun (s11 : St) => ((x2 = 0) → w_X0_sheet_b39 Φ s11 x1 x2 x3) ∧ ((¬ x2 = 0) → ((x3 < 0) → w_X0_sheet_b44 Φ s11 x1 x2 x3 0) ∧ ((¬ x3 < 0) → w_X0_sheet_b39 Φ s11 x1 x2 x3))) (fun (s12 : St) (a13 : Nat) => w_X0_answers s12 a13 (fun (s17 : St) (r16 : Int32) => Φ s17 r16))
theorem t_X0_sheet_b28 {θ : Th} {κ : Kx} {Ph : Ph} (hX : LX θ) {d : Nat} (hd : 6 ≤ d) (C : Cx θ κ yX0_sheet cX0_sheet 5 (some Jvm.ClassFile.FieldType.int) [(0, 78, 79, 1)] d) {Φ : St → Int32 → Prop} (hn : ∀ st r, Φ st r → Ph.1 st (some (.int r))) (st : St) (x1 : Int32) (x2 : Int32) (x3 : Int32) (z0 : Int32) (h : w_X0_sheet_b28 Φ st x1 x2 x3 z0) : X θ κ Ph st 28 [(0, .ref (ad θ 0)), (1, .int x1), (2, .int x2), (3, .int x3)] [.int z0] := by
  unfold w_X0_sheet_b28 at h
  refine X_callS (As := [_]) (rest := []) C q418 q419 q132 q420 nm_X0_must rfl dX0_sheet_28 (m_X0_must (Cx_l C) hX (d := d - 1) (by omega) st z0 h) (by omega) (by decide) (Nat.le_of_ble_eq_true rfl) (fun s11 w24 hE25 hP26 => ?_) (fun s29 E27 q28 hE25 hP26 => ?_)
  rotate_left
  · rcases hP26 with ⟨rfl, a_, rfl, hb_, hs_, h⟩
    refine XT_catch C [] ⟨0, 78, 79, 1⟩ [] rfl (fun _ h => absurd h List.not_mem_nil) (by decide) (by decide) q412 q425 ?_
    refine X_astore C dX0_sheet_79 (isRV_r _) (lo2 := [(4, _), (0, _), (1, _), (2, _), (3, _)]) (by decide) rfl ?_
    refine X_aload_n C dX0_sheet_81 rfl 1 rfl (isRV_r _) ?_
    refine X_aload C dX0_sheet_82 0 rfl (isRV_r _) ?_
    refine X_callVS (ci := 0) (q := (RX0, TX0, 49)) (As := [_]) (rest := []) C rfl (LX_S hX (k := 0) rfl) q512 q514 qs4 q132 q515 ⟨rfl, nm_X0_answers⟩ rfl dX0_sheet_84 (m_X0_answers (Cx_l C) hX (d := d - 1) (by omega) s29 a_ hs_ hb_ h) (by omega) (by decide) (Nat.le_of_ble_eq_true rfl) (fun s17 w18 hE19 hP20 => ?_) (fun s23 E21 q22 hE19 hP20 => ?_)
    rotate_left
    · exact False.elim hP20
    obtain ⟨r16, rfl, h⟩ := hP20
    refine X_tls ?_
    have hs_ := Ext_sh hE19 hs_ (by decide)
    exact X_iret C rfl dX0_sheet_87 (hn s17 _ h)
  obtain ⟨rfl, h⟩ := hP26
  refine X_tln ?_
  refine X_iload_n C dX0_sheet_31 rfl 2 rfl ?_
  refine X_if_eq (tgt := 39) C dX0_sheet_32 (by decide) (fun c30 => ?_) (fun c30 => ?_)
  · have h := h.1 c30
    exact t_X0_sheet_b39 hX hd C hn s11 x1 x2 x3 h
  · have h := h.2 c30
    refine X_iload_n C dX0_sheet_35 rfl 3 rfl ?_
    refine X_if_lt (tgt := 43) C dX0_sheet_36 (by decide) (fun c84 => ?_) (fun c84 => ?_)
    · have h := h.1 c84
      refine X_iconst (v := 0) C dX0_sheet_43 rfl ?_
      exact t_X0_sheet_b44 hX hd C hn s11 x1 x2 x3 0 h
    · have h := h.2 c84
      exact t_X0_sheet_b39 hX hd C hn s11 x1 x2 x3 h
def w_X0_sheet_b27 (Φ : St → Int32 → Prop) (st : St) (x1 : Int32) (x2 : Int32) (x3 : Int32) : Prop := w_X0_sheet_b28 Φ st x1 x2 x3 0
theorem t_X0_sheet_b27 {θ : Th} {κ : Kx} {Ph : Ph} (hX : LX θ) {d : Nat} (hd : 6 ≤ d) (C : Cx θ κ yX0_sheet cX0_sheet 5 (some Jvm.ClassFile.FieldType.int) [(0, 78, 79, 1)] d) {Φ : St → Int32 → Prop} (hn : ∀ st r, Φ st r → Ph.1 st (some (.int r))) (st : St) (x1 : Int32) (x2 : Int32) (x3 : Int32) (h : w_X0_sheet_b27 Φ st x1 x2 x3) : X θ κ Ph st 27 [(0, .ref (ad θ 0)), (1, .int x1), (2, .int x2), (3, .int x3)] [] := by
  unfold w_X0_sheet_b27 at h
  refine X_iconst (v := 0) C dX0_sheet_27 rfl ?_
  exact t_X0_sheet_b28 hX hd C hn st x1 x2 x3 0 h
def w_X0_sheet_b23 (Φ : St → Int32 → Prop) (st : St) (x1 : Int32) (x2 : Int32) (x3 : Int32) : Prop := w_X0_sheet_b28 Φ st x1 x2 x3 1
theorem t_X0_sheet_b23 {θ : Th} {κ : Kx} {Ph : Ph} (hX : LX θ) {d : Nat} (hd : 6 ≤ d) (C : Cx θ κ yX0_sheet cX0_sheet 5 (some Jvm.ClassFile.FieldType.int) [(0, 78, 79, 1)] d) {Φ : St → Int32 → Prop} (hn : ∀ st r, Φ st r → Ph.1 st (some (.int r))) (st : St) (x1 : Int32) (x2 : Int32) (x3 : Int32) (h : w_X0_sheet_b23 Φ st x1 x2 x3) : X θ κ Ph st 23 [(0, .ref (ad θ 0)), (1, .int x1), (2, .int x2), (3, .int x3)] [] := by
  unfold w_X0_sheet_b23 at h
  refine X_iconst (v := 1) C dX0_sheet_23 rfl ?_
  refine X_goto (tgt := 28) C dX0_sheet_24 (by decide) ?_
  exact t_X0_sheet_b28 hX hd C hn st x1 x2 x3 1 h
def w_X0_sheet (st : St) (p1 : Int32) (p2 : Int32) (p3 : Int32) (Φ : St → Int32 → Prop) : Prop := w_X0_isSheet p1 (fun (r1 : Int32) => ((r1 = 0) → w_X0_sheet_b27 Φ st p1 p2 p3) ∧ ((¬ r1 = 0) → ((p2 = 0) → w_X0_sheet_b23 Φ st p1 p2 p3) ∧ ((¬ p2 = 0) → ((p2 = 16) → w_X0_sheet_b23 Φ st p1 p2 p3) ∧ ((¬ p2 = 16) → ((p2 ≠ 64) → w_X0_sheet_b27 Φ st p1 p2 p3) ∧ ((p2 = 64) → w_X0_sheet_b23 Φ st p1 p2 p3)))))
theorem nm_X0_sheet : yX0_sheet.cls ≠ "java/lang/invoke/MethodHandle" ∧ yX0_sheet.cls ≠ "java/lang/invoke/VarHandle" ∧ (parseMethodDescriptor yX0_sheet.desc).map (fun d => d.parameters.length) = some 3 := by decide +kernel
theorem e_X0_sheet : plainFor yX0_sheet = true := plainFor_of_name (by decide +kernel)
theorem m_X0_sheet {θ : Th} {l : Launch} (hl0 : l.stackTraces = false) (hX : LX θ) {d : Nat} (hd : 6 ≤ d) (st : St) (p1 : Int32) (p2 : Int32) (p3 : Int32) {Φ : St → Int32 → Prop} (h : w_X0_sheet st p1 p2 p3 Φ) : Ct θ l yX0_sheet (wsW_ yX0_sheet cX0_sheet 5 (some Jvm.ClassFile.FieldType.int) [(0, 78, 79, 1)]) d [.ref (ad θ 0), .int p1, .int p2, .int p3] st (pI Φ, noX) := by
  refine Ct_entryW hl0 e_X0_sheet (Nat.le_of_ble_eq_true rfl) (fun κ hκ _ C => ?_)
  have hn : ∀ st r, Φ st r → ((pI Φ, noX) : Ph).1 st (some (.int r)) := fun st r q => ⟨r, rfl, q⟩
  change X _ _ _ _ _ [(0, .ref (ad θ 0)), (1, .int p1), (2, .int p2), (3, .int p3)] _
  unfold w_X0_sheet at h
  refine X_iload_n C dX0_sheet_0 rfl 1 rfl ?_
  refine X_callS (As := [_]) (rest := []) C q543 q544 q132 q545 nm_X0_isSheet rfl dX0_sheet_1 (m_X0_isSheet (Cx_l C) (d := d - 1) (by omega) st p1 h) (by omega) (by decide) (Nat.le_of_ble_eq_true rfl) (fun s7 w2 hE3 hP4 => ?_) (fun s8 E5 q6 hE3 hP4 => ?_)
  rotate_left
  · exact False.elim hP4
  obtain ⟨r1, rfl, rfl, h⟩ := hP4
  refine X_tls ?_
  refine X_if_eq (tgt := 27) C dX0_sheet_4 (by decide) (fun c9 => ?_) (fun c9 => ?_)
  · have h := h.1 c9
    exact t_X0_sheet_b27 hX hd C hn st p1 p2 p3 h
  · have h := h.2 c9
    refine X_iload_n C dX0_sheet_7 rfl 2 rfl ?_
    refine X_if_eq (tgt := 23) C dX0_sheet_8 (by decide) (fun c85 => ?_) (fun c85 => ?_)
    · have h := h.1 c85
      exact t_X0_sheet_b23 hX hd C hn st p1 p2 p3 h
    · have h := h.2 c85
      refine X_iload_n C dX0_sheet_11 rfl 2 rfl ?_
      refine X_bipush (v := 16) C dX0_sheet_12 rfl ?_
      refine X_icmp_eq (tgt := 23) C dX0_sheet_14 (by decide) (fun c86 => ?_) (fun c86 => ?_)
      · have h := h.1 c86
        exact t_X0_sheet_b23 hX hd C hn st p1 p2 p3 h
      · have h := h.2 c86
        refine X_iload_n C dX0_sheet_17 rfl 2 rfl ?_
        refine X_bipush (v := 64) C dX0_sheet_18 rfl ?_
        refine X_icmp_ne (tgt := 27) C dX0_sheet_20 (by decide) (fun c87 => ?_) (fun c87 => ?_)
        · have h := h.1 c87
          exact t_X0_sheet_b27 hX hd C hn st p1 p2 p3 h
        · have h := h.2 c87
          exact t_X0_sheet_b23 hX hd C hn st p1 p2 p3 h

def w_X0_seed (st : St) (p1 : Int32) (Φ : St → Int32 → Prop) : Prop := ∀ v1 : Int32, v1 = (sI st 0 6) → ∀ s3, s3 = putI st 0 6 p1 → Φ s3 v1
theorem nm_X0_seed : yX0_seed.cls ≠ "java/lang/invoke/MethodHandle" ∧ yX0_seed.cls ≠ "java/lang/invoke/VarHandle" ∧ (parseMethodDescriptor yX0_seed.desc).map (fun d => d.parameters.length) = some 1 := by decide +kernel
theorem e_X0_seed : plainFor yX0_seed = true := plainFor_of_name (by decide +kernel)
theorem m_X0_seed {θ : Th} {l : Launch} (hl0 : l.stackTraces = false) (hX : LX θ) {d : Nat} (hd : 0 ≤ d) (st : St) (p1 : Int32) {Φ : St → Int32 → Prop} (h : w_X0_seed st p1 Φ) : Ct θ l yX0_seed (ws_ yX0_seed cX0_seed 3 (some Jvm.ClassFile.FieldType.int)) d [.ref (ad θ 0), .int p1] st (pI Φ, noX) := by
  refine Ct_entry hl0 e_X0_seed (Nat.le_of_ble_eq_true rfl) (fun κ hκ _ C => ?_)
  have hn : ∀ st r, Φ st r → ((pI Φ, noX) : Ph).1 st (some (.int r)) := fun st r q => ⟨r, rfl, q⟩
  change X _ _ _ _ _ [(0, .ref (ad θ 0)), (1, .int p1)] _
  unfold w_X0_seed at h
  refine X_aload_n C dX0_seed_0 rfl 0 rfl (isRV_r _) ?_
  refine X_getS (ci := 0) (j := 6) (q := (RX0, TX0, 49)) C rfl (by decide) q266 rfl dX0_seed_1 (LX_S hX (k := 0) rfl) (v := .int (sI st 0 6)) rfl ?_
  refine X_topi (fun v1 e2 => ?_)
  have h := h v1 e2
  refine X_istore_n C dX0_seed_4 rfl (lo2 := [(2, _), (0, _), (1, _)]) (by decide) rfl ?_
  refine X_aload_n C dX0_seed_5 rfl 1 rfl (isRV_r _) ?_
  refine X_iload_n C dX0_seed_6 rfl 2 rfl ?_
  refine X_putSI (ci := 0) (j := 6) (q := (RX0, TX0, 49)) C rfl (by decide) q266 rfl rfl dX0_seed_7 (LX_S hX (k := 0) rfl) rfl rfl rfl ?_
  refine X_nm (fun s3 e4 => ?_)
  have h := h s3 e4
  refine X_iload_n C dX0_seed_10 rfl 0 rfl ?_
  exact X_iret C rfl dX0_seed_11 (hn s3 _ h)

def w_X0_told (st : St) (p1 : Int32) (Φ : St → Int32 → Prop) : Prop := w_X0_in p1.toInt64 1 8 (fun (r1 : Int32) => w_X0_must st r1 (fun (s10 : St) => vp_in p1 9 ∧ Φ s10 (sI s10 1 p1.toNatClampNeg)) (fun (s11 : St) (a12 : Nat) => w_X0_answers s11 a12 (fun (s16 : St) (r15 : Int32) => Φ s16 r15)))
theorem nm_X0_told : yX0_told.cls ≠ "java/lang/invoke/MethodHandle" ∧ yX0_told.cls ≠ "java/lang/invoke/VarHandle" ∧ (parseMethodDescriptor yX0_told.desc).map (fun d => d.parameters.length) = some 1 := by decide +kernel
theorem e_X0_told : plainFor yX0_told = true := plainFor_of_name (by decide +kernel)
theorem m_X0_told {θ : Th} {l : Launch} (hl0 : l.stackTraces = false) (hX : LX θ) {d : Nat} (hd : 6 ≤ d) (st : St) (p1 : Int32) {Φ : St → Int32 → Prop} (h : w_X0_told st p1 Φ) : Ct θ l yX0_told (wsW_ yX0_told cX0_told 3 (some Jvm.ClassFile.FieldType.int) [(0, 18, 19, 1)]) d [.ref (ad θ 0), .int p1] st (pI Φ, noX) := by
  refine Ct_entryW hl0 e_X0_told (Nat.le_of_ble_eq_true rfl) (fun κ hκ _ C => ?_)
  have hn : ∀ st r, Φ st r → ((pI Φ, noX) : Ph).1 st (some (.int r)) := fun st r q => ⟨r, rfl, q⟩
  change X _ _ _ _ _ [(0, .ref (ad θ 0)), (1, .int p1)] _
  unfold w_X0_told at h
  refine X_iload_n C dX0_told_0 rfl 1 rfl ?_
  refine X_i2l C dX0_told_1 ?_
  refine X_lconst (v := 1) C dX0_told_2 rfl ?_
  refine X_ldc2 C q1759 dX0_told_3 ?_
  refine X_callS (As := [_, _, _]) (rest := []) C q415 q416 q132 q417 nm_X0_in rfl dX0_told_6 (m_X0_in (Cx_l C) (d := d - 1) (by omega) st p1.toInt64 1 8 h) (by omega) (by decide) (Nat.le_of_ble_eq_true rfl) (fun s7 w2 hE3 hP4 => ?_) (fun s8 E5 q6 hE3 hP4 => ?_)
  rotate_left
  · exact False.elim hP4
  obtain ⟨r1, rfl, rfl, h⟩ := hP4
  refine X_tls ?_
  refine X_callS (As := [_]) (rest := []) C q418 q419 q132 q420 nm_X0_must rfl dX0_told_9 (m_X0_must (Cx_l C) hX (d := d - 1) (by omega) st r1 h) (by omega) (by decide) (Nat.le_of_ble_eq_true rfl) (fun s10 w23 hE24 hP25 => ?_) (fun s28 E26 q27 hE24 hP25 => ?_)
  rotate_left
  · rcases hP25 with ⟨rfl, a_, rfl, hb_, hs_, h⟩
    refine XT_catch C [] ⟨0, 18, 19, 1⟩ [] rfl (fun _ h => absurd h List.not_mem_nil) (by decide) (by decide) q412 q425 ?_
    refine X_astore_n C dX0_told_19 rfl (isRV_r _) (lo2 := [(2, _), (0, _), (1, _)]) (by decide) rfl ?_
    refine X_aload_n C dX0_told_20 rfl 1 rfl (isRV_r _) ?_
    refine X_aload_n C dX0_told_21 rfl 0 rfl (isRV_r _) ?_
    refine X_callVS (ci := 0) (q := (RX0, TX0, 49)) (As := [_]) (rest := []) C rfl (LX_S hX (k := 0) rfl) q512 q514 qs4 q132 q515 ⟨rfl, nm_X0_answers⟩ rfl dX0_told_22 (m_X0_answers (Cx_l C) hX (d := d - 1) (by omega) s28 a_ hs_ hb_ h) (by omega) (by decide) (Nat.le_of_ble_eq_true rfl) (fun s16 w17 hE18 hP19 => ?_) (fun s22 E20 q21 hE18 hP19 => ?_)
    rotate_left
    · exact False.elim hP19
    obtain ⟨r15, rfl, h⟩ := hP19
    refine X_tls ?_
    have hs_ := Ext_sh hE18 hs_ (by decide)
    exact X_iret C rfl dX0_told_25 (hn s16 _ h)
  obtain ⟨rfl, h⟩ := hP25
  refine X_tln ?_
  refine X_aload_n C dX0_told_12 rfl 0 rfl (isRV_r _) ?_
  refine X_getF (ci := 0) (j := 0) (q := (RX0, TX0, 49)) C rfl (by decide) q260 rfl dX0_told_13 (b := 1) (LX_S hX (k := 0) rfl) (LX_F hX (k := 0) (j := 0) rfl) rfl ?_
  refine X_iload_n C dX0_told_16 rfl 1 rfl ?_
  have g29 := h.1
  have h := h.2
  refine X_ialdS C (LX_S hX (k := 1) rfl) (LX_L hX (k := 1) rfl) g29 rfl dX0_told_17 ?_
  exact X_iret C rfl dX0_told_18 (hn s10 _ h)

def w_X0_value_b23 (Φ : St → Int64 → Prop) (st : St) (x1 : Int32) (x2 : Int32) (z0 : Int32) : Prop := w_X0_must st z0 (fun (s11 : St) => w_X0_worthOf s11 x1 (fun (s31 : St) (r30 : Nat) => w_X2_part s31 r30 x2 (fun (r52 : Int64) => Φ s31 r52)) (fun (s32 : St) (a33 : Nat) => w_X0_answersFar s32 a33 (fun (s37 : St) (r36 : Int64) => Φ s37 r36)) (fun _ => False)) (fun (s12 : St) (a13 : Nat) => w_X0_answersFar s12 a13 (fun (s17 : St) (r16 : Int64) => Φ s17 r16))
theorem t_X0_value_b23 {θ : Th} {κ : Kx} {Ph : Ph} (hX : LX θ) {d : Nat} (hd : 6 ≤ d) (C : Cx θ κ yX0_value cX0_value 4 (some Jvm.ClassFile.FieldType.long) [(0, 35, 36, 1)] d) {Φ : St → Int64 → Prop} (hn : ∀ st r, Φ st r → Ph.1 st (some (.long r))) (st : St) (x1 : Int32) (x2 : Int32) (z0 : Int32) (h : w_X0_value_b23 Φ st x1 x2 z0) : X θ κ Ph st 23 [(0, .ref (ad θ 0)), (1, .int x1), (2, .int x2)] [.int z0] := by
  unfold w_X0_value_b23 at h
  refine X_callS (As := [_]) (rest := []) C q418 q419 q132 q420 nm_X0_must rfl dX0_value_23 (m_X0_must (Cx_l C) hX (d := d - 1) (by omega) st z0 h) (by omega) (by decide) (Nat.le_of_ble_eq_true rfl) (fun s11 w24 hE25 hP26 => ?_) (fun s29 E27 q28 hE25 hP26 => ?_)
  rotate_left
  · rcases hP26 with ⟨rfl, a_, rfl, hb_, hs_, h⟩
    refine XT_catch C [] ⟨0, 35, 36, 1⟩ [] rfl (fun _ h => absurd h List.not_mem_nil) (by decide) (by decide) q412 q425 ?_
    refine X_astore_n C dX0_value_36 rfl (isRV_r _) (lo2 := [(3, _), (0, _), (1, _), (2, _)]) (by decide) rfl ?_
    refine X_aload_n C dX0_value_37 rfl 1 rfl (isRV_r _) ?_
    refine X_aload_n C dX0_value_38 rfl 0 rfl (isRV_r _) ?_
    refine X_callVS (ci := 0) (q := (RX0, TX0, 49)) (As := [_]) (rest := []) C rfl (LX_S hX (k := 0) rfl) q745 q747 qs14 q132 q748 ⟨rfl, nm_X0_answersFar⟩ rfl dX0_value_39 (m_X0_answersFar (Cx_l C) hX (d := d - 1) (by omega) s29 a_ hs_ hb_ h) (by omega) (by decide) (Nat.le_of_ble_eq_true rfl) (fun s17 w18 hE19 hP20 => ?_) (fun s23 E21 q22 hE19 hP20 => ?_)
    rotate_left
    · exact False.elim hP20
    obtain ⟨r16, rfl, h⟩ := hP20
    refine X_tls ?_
    have hs_ := Ext_sh hE19 hs_ (by decide)
    exact X_lret C rfl dX0_value_42 (hn s17 _ h)
  obtain ⟨rfl, h⟩ := hP26
  refine X_tln ?_
  refine X_aload_n C dX0_value_26 rfl 0 rfl (isRV_r _) ?_
  refine X_iload_n C dX0_value_27 rfl 1 rfl ?_
  refine X_callVS (ci := 0) (q := (RX0, TX0, 49)) (As := [_]) (rest := []) C rfl (LX_S hX (k := 0) rfl) q661 q663 qs5 q132 q664 ⟨rfl, nm_X0_worthOf⟩ rfl dX0_value_28 (m_X0_worthOf (Cx_l C) hX (d := d - 1) (by omega) s11 x1 h) (by omega) (by decide) (Nat.le_of_ble_eq_true rfl) (fun s31 w44 hE45 hP46 => ?_) (fun s49 E47 q48 hE45 hP46 => ?_)
  rotate_left
  · rcases hP46 with ⟨rfl, a_, rfl, hb_, hs_, h⟩ | ⟨rfl, h⟩
    · refine XT_catch C [] ⟨0, 35, 36, 1⟩ [] rfl (fun _ h => absurd h List.not_mem_nil) (by decide) (by decide) q412 q425 ?_
      refine X_astore_n C dX0_value_36 rfl (isRV_r _) (lo2 := [(3, _), (0, _), (1, _), (2, _)]) (by decide) rfl ?_
      refine X_aload_n C dX0_value_37 rfl 1 rfl (isRV_r _) ?_
      refine X_aload_n C dX0_value_38 rfl 0 rfl (isRV_r _) ?_
      refine X_callVS (ci := 0) (q := (RX0, TX0, 49)) (As := [_]) (rest := []) C rfl (LX_S hX (k := 0) rfl) q745 q747 qs14 q132 q748 ⟨rfl, nm_X0_answersFar⟩ rfl dX0_value_39 (m_X0_answersFar (Cx_l C) hX (d := d - 1) (by omega) s49 a_ hs_ hb_ h) (by omega) (by decide) (Nat.le_of_ble_eq_true rfl) (fun s37 w38 hE39 hP40 => ?_) (fun s43 E41 q42 hE39 hP40 => ?_)
      rotate_left
      · exact False.elim hP40
      obtain ⟨r36, rfl, h⟩ := hP40
      refine X_tls ?_
      have hs_ := Ext_sh hE39 hs_ (by decide)
      exact X_lret C rfl dX0_value_42 (hn s37 _ h)
    · exact h.elim
  obtain ⟨r30, rfl, hb50, hs51, h⟩ := hP46
  refine X_tls ?_
  refine X_iload_n C dX0_value_31 rfl 2 rfl ?_
  refine X_callV (ci := 2) (q := (RX2, TX2, 2)) (As := [_]) (rest := []) C rfl hs51 q741 q742 q743 q134 q744 ⟨rfl, nm_X2_part⟩ rfl dX0_value_32 (m_X2_part (Cx_l C) (d := d - 1) (by omega) s31 r30 x2 hs51 hb50 h) (by omega) (by decide) (Nat.le_of_ble_eq_true rfl) (fun s58 w53 hE54 hP55 => ?_) (fun s59 E56 q57 hE54 hP55 => ?_)
  rotate_left
  · exact False.elim hP55
  obtain ⟨r52, rfl, rfl, h⟩ := hP55
  refine X_tls ?_
  exact X_lret C rfl dX0_value_35 (hn s31 _ h)
def w_X0_value_b22 (Φ : St → Int64 → Prop) (st : St) (x1 : Int32) (x2 : Int32) : Prop := w_X0_value_b23 Φ st x1 x2 0
theorem t_X0_value_b22 {θ : Th} {κ : Kx} {Ph : Ph} (hX : LX θ) {d : Nat} (hd : 6 ≤ d) (C : Cx θ κ yX0_value cX0_value 4 (some Jvm.ClassFile.FieldType.long) [(0, 35, 36, 1)] d) {Φ : St → Int64 → Prop} (hn : ∀ st r, Φ st r → Ph.1 st (some (.long r))) (st : St) (x1 : Int32) (x2 : Int32) (h : w_X0_value_b22 Φ st x1 x2) : X θ κ Ph st 22 [(0, .ref (ad θ 0)), (1, .int x1), (2, .int x2)] [] := by
  unfold w_X0_value_b22 at h
  refine X_iconst (v := 0) C dX0_value_22 rfl ?_
  exact t_X0_value_b23 hX hd C hn st x1 x2 0 h
def w_X0_value (st : St) (p1 : Int32) (p2 : Int32) (Φ : St → Int64 → Prop) : Prop := w_X1_isPoint 2 st p1 (fun (r1 : Int32) => ((r1 = 0) → w_X0_value_b22 Φ st p1 p2) ∧ ((¬ r1 = 0) → w_X0_isPart p2 (fun (r60 : Int32) => ((r60 = 0) → w_X0_value_b22 Φ st p1 p2) ∧ ((¬ r60 = 0) → w_X0_value_b23 Φ st p1 p2 1))))
theorem nm_X0_value : yX0_value.cls ≠ "java/lang/invoke/MethodHandle" ∧ yX0_value.cls ≠ "java/lang/invoke/VarHandle" ∧ (parseMethodDescriptor yX0_value.desc).map (fun d => d.parameters.length) = some 2 := by decide +kernel
theorem e_X0_value : plainFor yX0_value = true := plainFor_of_name (by decide +kernel)
theorem m_X0_value {θ : Th} {l : Launch} (hl0 : l.stackTraces = false) (hX : LX θ) {d : Nat} (hd : 6 ≤ d) (st : St) (p1 : Int32) (p2 : Int32) {Φ : St → Int64 → Prop} (h : w_X0_value st p1 p2 Φ) : Ct θ l yX0_value (wsW_ yX0_value cX0_value 4 (some Jvm.ClassFile.FieldType.long) [(0, 35, 36, 1)]) d [.ref (ad θ 0), .int p1, .int p2] st (pL Φ, noX) := by
  refine Ct_entryW hl0 e_X0_value (Nat.le_of_ble_eq_true rfl) (fun κ hκ _ C => ?_)
  have hn : ∀ st r, Φ st r → ((pL Φ, noX) : Ph).1 st (some (.long r)) := fun st r q => ⟨r, rfl, q⟩
  change X _ _ _ _ _ [(0, .ref (ad θ 0)), (1, .int p1), (2, .int p2)] _
  unfold w_X0_value at h
  refine X_aload_n C dX0_value_0 rfl 0 rfl (isRV_r _) ?_
  refine X_getF (ci := 0) (j := 1) (q := (RX0, TX0, 49)) C rfl (by decide) q261 rfl dX0_value_1 (b := 2) (LX_S hX (k := 0) rfl) (LX_F hX (k := 0) (j := 1) rfl) rfl ?_
  refine X_iload_n C dX0_value_4 rfl 1 rfl ?_
  refine X_callVS (ci := 1) (q := (RX1, TX1, 10)) (As := [_]) (rest := []) C rfl (LH_0 (LX_H2 hX)) q619 q620 q621 q133 q622 ⟨rfl, nm_X1_isPoint⟩ rfl dX0_value_5 (m_X1_isPoint (Cx_l C) (LX_H2 hX) (d := d - 1) (by omega) st p1 h) (by omega) (by decide) (Nat.le_of_ble_eq_true rfl) (fun s7 w2 hE3 hP4 => ?_) (fun s8 E5 q6 hE3 hP4 => ?_)
  rotate_left
  · exact False.elim hP4
  obtain ⟨r1, rfl, rfl, h⟩ := hP4
  refine X_tls ?_
  refine X_if_eq (tgt := 22) C dX0_value_8 (by decide) (fun c9 => ?_) (fun c9 => ?_)
  · have h := h.1 c9
    exact t_X0_value_b22 hX hd C hn st p1 p2 h
  · have h := h.2 c9
    refine X_iload_n C dX0_value_11 rfl 2 rfl ?_
    refine X_callS (As := [_]) (rest := []) C q658 q659 q132 q660 nm_X0_isPart rfl dX0_value_12 (m_X0_isPart (Cx_l C) (d := d - 1) (by omega) st p2 h) (by omega) (by decide) (Nat.le_of_ble_eq_true rfl) (fun s66 w61 hE62 hP63 => ?_) (fun s67 E64 q65 hE62 hP63 => ?_)
    rotate_left
    · exact False.elim hP63
    obtain ⟨r60, rfl, rfl, h⟩ := hP63
    refine X_tls ?_
    refine X_if_eq (tgt := 22) C dX0_value_15 (by decide) (fun c68 => ?_) (fun c68 => ?_)
    · have h := h.1 c68
      exact t_X0_value_b22 hX hd C hn st p1 p2 h
    · have h := h.2 c68
      refine X_iconst (v := 1) C dX0_value_18 rfl ?_
      refine X_goto (tgt := 23) C dX0_value_19 (by decide) ?_
      exact t_X0_value_b23 hX hd C hn st p1 p2 1 h

def w_X0_plan_b112 (Φ : St → Int64 → Prop) (K60 : St → Int32 → Int32 → Int32 → Int32 → Int64 → Int32 → Prop) (st : St) (x2 : Int32) (x3 : Int32) (x4 : Int32) (x5 : Int32) (x6 : Int64) (x8 : Int32) : Prop := K60 st x2 x3 x4 x5 x6 (x8 + 1)
theorem t_X0_plan_b112 {θ : Th} {κ : Kx} {Ph : Ph} (hX : LX θ) {d : Nat} (hd : 6 ≤ d) (C : Cx θ κ yX0_plan cX0_plan 9 (some Jvm.ClassFile.FieldType.long) [(0, 136, 137, 1)] d) {Φ : St → Int64 → Prop} (hn : ∀ st r, Φ st r → Ph.1 st (some (.long r))) {K60 : St → Int32 → Int32 → Int32 → Int32 → Int64 → Int32 → Prop} (hK60 : ∀ (st : St) (x2 : Int32) (x3 : Int32) (x4 : Int32) (x5 : Int32) (x6 : Int64) (x8 : Int32), K60 st x2 x3 x4 x5 x6 x8 → X θ κ Ph st 60 [(0, .ref (ad θ 0)), (2, .int x2), (3, .int x3), (4, .int x4), (5, .int x5), (6, .long x6), (8, .int x8)] []) (st : St) (x2 : Int32) (x3 : Int32) (x4 : Int32) (x5 : Int32) (x6 : Int64) (x8 : Int32) (h : w_X0_plan_b112 Φ K60 st x2 x3 x4 x5 x6 x8) : X θ κ Ph st 112 [(0, .ref (ad θ 0)), (2, .int x2), (3, .int x3), (4, .int x4), (5, .int x5), (6, .long x6), (8, .int x8)] [] := by
  unfold w_X0_plan_b112 at h
  refine X_iinc (v := (x8 + 1)) C (j := 6) dX0_plan_112 rfl rfl (lo2 := [(8, _), (0, _), (2, _), (3, _), (4, _), (5, _), (6, _)]) (by decide) rfl ?_
  refine X_goto (tgt := 60) C dX0_plan_115 (by decide) ?_
  refine X_sub [1, 2, 3, 4, 5, 6, 0] (lo2 := [(0, _), (2, _), (3, _), (4, _), (5, _), (6, _), (8, _)]) rfl ?_
  exact hK60 st x2 x3 x4 x5 x6 (x8 + 1) h
def w_X0_plan_b110 (Φ : St → Int64 → Prop) (K60 : St → Int32 → Int32 → Int32 → Int32 → Int64 → Int32 → Prop) (st : St) (x2 : Int32) (x3 : Int32) (x4 : Int32) (x5 : Int32) (x8 : Int32) (z0 : Int64) : Prop := w_X0_plan_b112 Φ K60 st x2 x3 x4 x5 z0 x8
theorem t_X0_plan_b110 {θ : Th} {κ : Kx} {Ph : Ph} (hX : LX θ) {d : Nat} (hd : 6 ≤ d) (C : Cx θ κ yX0_plan cX0_plan 9 (some Jvm.ClassFile.FieldType.long) [(0, 136, 137, 1)] d) {Φ : St → Int64 → Prop} (hn : ∀ st r, Φ st r → Ph.1 st (some (.long r))) {K60 : St → Int32 → Int32 → Int32 → Int32 → Int64 → Int32 → Prop} (hK60 : ∀ (st : St) (x2 : Int32) (x3 : Int32) (x4 : Int32) (x5 : Int32) (x6 : Int64) (x8 : Int32), K60 st x2 x3 x4 x5 x6 x8 → X θ κ Ph st 60 [(0, .ref (ad θ 0)), (2, .int x2), (3, .int x3), (4, .int x4), (5, .int x5), (6, .long x6), (8, .int x8)] []) (st : St) (x2 : Int32) (x3 : Int32) (x4 : Int32) (x5 : Int32) (x8 : Int32) (z0 : Int64) (h : w_X0_plan_b110 Φ K60 st x2 x3 x4 x5 x8 z0) : X θ κ Ph st 110 [(0, .ref (ad θ 0)), (2, .int x2), (3, .int x3), (4, .int x4), (5, .int x5), (8, .int x8)] [.long z0] := by
  unfold w_X0_plan_b110 at h
  refine X_lstore C dX0_plan_110 (lo2 := [(6, _), (0, _), (2, _), (3, _), (4, _), (5, _), (8, _)]) (by decide) rfl ?_
  refine X_sub [1, 2, 3, 4, 5, 0, 6] (lo2 := [(0, _), (2, _), (3, _), (4, _), (5, _), (6, _), (8, _)]) rfl ?_
  exact t_X0_plan_b112 hX hd C hn hK60 st x2 x3 x4 x5 z0 x8 h
def w_X0_plan_b82 (Φ : St → Int64 → Prop) (K60 : St → Int32 → Int32 → Int32 → Int32 → Int64 → Int32 → Prop) (st : St) (x2 : Int32) (x3 : Int32) (x4 : Int32) (x5 : Int32) (x6 : Int64) (x8 : Int32) (z0 : Nat) : Prop := vp_in x8 3 ∧ (((sI st z0 x8.toNatClampNeg) ≠ x3) → w_X0_plan_b112 Φ K60 st x2 x3 x4 x5 x6 x8) ∧ (((sI st z0 x8.toNatClampNeg) = x3) → ((x2 ≠ 0) → w_X0_plan_b110 Φ K60 st x2 x3 x4 x5 x8 (sL st 132 x8.toNatClampNeg)) ∧ ((x2 = 0) → w_X0_plan_b110 Φ K60 st x2 x3 x4 x5 x8 (sL st 131 x8.toNatClampNeg)))
theorem t_X0_plan_b82 {θ : Th} {κ : Kx} {Ph : Ph} (hX : LX θ) {d : Nat} (hd : 6 ≤ d) (C : Cx θ κ yX0_plan cX0_plan 9 (some Jvm.ClassFile.FieldType.long) [(0, 136, 137, 1)] d) {Φ : St → Int64 → Prop} (hn : ∀ st r, Φ st r → Ph.1 st (some (.long r))) {K60 : St → Int32 → Int32 → Int32 → Int32 → Int64 → Int32 → Prop} (hK60 : ∀ (st : St) (x2 : Int32) (x3 : Int32) (x4 : Int32) (x5 : Int32) (x6 : Int64) (x8 : Int32), K60 st x2 x3 x4 x5 x6 x8 → X θ κ Ph st 60 [(0, .ref (ad θ 0)), (2, .int x2), (3, .int x3), (4, .int x4), (5, .int x5), (6, .long x6), (8, .int x8)] []) (st : St) (x2 : Int32) (x3 : Int32) (x4 : Int32) (x5 : Int32) (x6 : Int64) (x8 : Int32) (z0 : Nat) (hs_z0 : sh st z0 = 101) (hb_z0 : z0 < gBIG) (hl_z0 : ln st z0 = 3) (h : w_X0_plan_b82 Φ K60 st x2 x3 x4 x5 x6 x8 z0) : X θ κ Ph st 82 [(0, .ref (ad θ 0)), (2, .int x2), (3, .int x3), (4, .int x4), (5, .int x5), (6, .long x6), (8, .int x8)] [.ref (ad θ z0)] := by
  unfold w_X0_plan_b82 at h
  refine X_iload C dX0_plan_82 6 rfl ?_
  have g63 := h.1
  have h := h.2
  refine X_ialdD C hs_z0 hl_z0 g63 rfl dX0_plan_84 ?_
  refine X_iload_n C dX0_plan_85 rfl 2 rfl ?_
  refine X_icmp_ne (tgt := 112) C dX0_plan_86 (by decide) (fun c64 => ?_) (fun c64 => ?_)
  · have h := h.1 c64
    exact t_X0_plan_b112 hX hd C hn hK60 st x2 x3 x4 x5 x6 x8 h
  · have h := h.2 c64
    refine X_iload_n C dX0_plan_89 rfl 1 rfl ?_
    refine X_if_ne (tgt := 103) C dX0_plan_90 (by decide) (fun c65 => ?_) (fun c65 => ?_)
    · have h := h.1 c65
      refine X_aload_n C dX0_plan_103 rfl 0 rfl (isRV_r _) ?_
      refine X_getF (ci := 0) (j := 15) (q := (RX0, TX0, 49)) C rfl (by decide) q275 rfl dX0_plan_104 (b := 132) (LX_S hX (k := 0) rfl) (LX_F hX (k := 0) (j := 15) rfl) rfl ?_
      refine X_iload C dX0_plan_107 6 rfl ?_
      refine X_laldS C (LX_S hX (k := 132) rfl) (LX_L hX (k := 132) rfl) g63 rfl dX0_plan_109 ?_
      refine X_sub [0, 1, 2, 3, 4, 6] (lo2 := [(0, _), (2, _), (3, _), (4, _), (5, _), (8, _)]) rfl ?_
      exact t_X0_plan_b110 hX hd C hn hK60 st x2 x3 x4 x5 x8 (sL st 132 x8.toNatClampNeg) h
    · have h := h.2 c65
      refine X_aload_n C dX0_plan_93 rfl 0 rfl (isRV_r _) ?_
      refine X_getF (ci := 0) (j := 14) (q := (RX0, TX0, 49)) C rfl (by decide) q274 rfl dX0_plan_94 (b := 131) (LX_S hX (k := 0) rfl) (LX_F hX (k := 0) (j := 14) rfl) rfl ?_
      refine X_iload C dX0_plan_97 6 rfl ?_
      refine X_laldS C (LX_S hX (k := 131) rfl) (LX_L hX (k := 131) rfl) g63 rfl dX0_plan_99 ?_
      refine X_goto (tgt := 110) C dX0_plan_100 (by decide) ?_
      refine X_sub [0, 1, 2, 3, 4, 6] (lo2 := [(0, _), (2, _), (3, _), (4, _), (5, _), (8, _)]) rfl ?_
      exact t_X0_plan_b110 hX hd C hn hK60 st x2 x3 x4 x5 x8 (sL st 131 x8.toNatClampNeg) h
def w_X0_plan_l60 (Φ : St → Int64 → Prop) (E118 : St → Int32 → Int64 → Prop) : Nat → St → Int32 → Int32 → Int32 → Int32 → Int64 → Int32 → Prop
  | 0, _, _, _, _, _, _, _ => False
  | n + 1, st, x2, x3, x4, x5, x6, x8 => ((x5 ≤ x8) → E118 st x4 x6) ∧ ((¬ x5 ≤ x8) → ((x2 ≠ 0) → w_X0_plan_b82 Φ (w_X0_plan_l60 Φ E118 n) st x2 x3 x4 x5 x6 x8 130) ∧ ((x2 = 0) → w_X0_plan_b82 Φ (w_X0_plan_l60 Φ E118 n) st x2 x3 x4 x5 x6 x8 129))
theorem t_X0_plan_l60 {θ : Th} {κ : Kx} {Ph : Ph} (hX : LX θ) {d : Nat} (hd : 6 ≤ d) (C : Cx θ κ yX0_plan cX0_plan 9 (some Jvm.ClassFile.FieldType.long) [(0, 136, 137, 1)] d) {Φ : St → Int64 → Prop} (hn : ∀ st r, Φ st r → Ph.1 st (some (.long r))) {E118 : St → Int32 → Int64 → Prop} (hE118 : ∀ (st : St) (x4 : Int32) (x6 : Int64), E118 st x4 x6 → X θ κ Ph st 118 [(0, .ref (ad θ 0)), (4, .int x4), (6, .long x6)] []) : ∀ (n : Nat) (st : St) (x2 : Int32) (x3 : Int32) (x4 : Int32) (x5 : Int32) (x6 : Int64) (x8 : Int32), w_X0_plan_l60 Φ E118 n st x2 x3 x4 x5 x6 x8 → X θ κ Ph st 60 [(0, .ref (ad θ 0)), (2, .int x2), (3, .int x3), (4, .int x4), (5, .int x5), (6, .long x6), (8, .int x8)] [] := by
  intro n
  induction n with
  | zero => intro st x2 x3 x4 x5 x6 x8 h; exact h.elim
  | succ n hK60 =>
    intro st x2 x3 x4 x5 x6 x8 h
    rw [w_X0_plan_l60] at h
    refine X_iload C dX0_plan_60 6 rfl ?_
    refine X_iload C dX0_plan_62 4 rfl ?_
    refine X_icmp_ge (tgt := 118) C dX0_plan_64 (by decide) (fun c58 => ?_) (fun c58 => ?_)
    · have h := h.1 c58
      refine X_sub [0, 3, 5] (lo2 := [(0, _), (4, _), (6, _)]) rfl ?_
      exact hE118 st x4 x6 h
    · have h := h.2 c58
      refine X_iload_n C dX0_plan_67 rfl 1 rfl ?_
      refine X_if_ne (tgt := 78) C dX0_plan_68 (by decide) (fun c59 => ?_) (fun c59 => ?_)
      · have h := h.1 c59
        refine X_aload_n C dX0_plan_78 rfl 0 rfl (isRV_r _) ?_
        refine X_getF (ci := 0) (j := 13) (q := (RX0, TX0, 49)) C rfl (by decide) q273 rfl dX0_plan_79 (b := 130) (LX_S hX (k := 0) rfl) (LX_F hX (k := 0) (j := 13) rfl) rfl ?_
        refine X_shl (LX_S hX (k := 130) rfl) (by decide) (LX_L hX (k := 130) rfl) (fun hs60 hl62 hb61 => ?_)
        exact t_X0_plan_b82 hX hd C hn hK60 st x2 x3 x4 x5 x6 x8 130 hs60 hb61 hl62 h
      · have h := h.2 c59
        refine X_aload_n C dX0_plan_71 rfl 0 rfl (isRV_r _) ?_
        refine X_getF (ci := 0) (j := 12) (q := (RX0, TX0, 49)) C rfl (by decide) q272 rfl dX0_plan_72 (b := 129) (LX_S hX (k := 0) rfl) (LX_F hX (k := 0) (j := 12) rfl) rfl ?_
        refine X_goto (tgt := 82) C dX0_plan_75 (by decide) ?_
        refine X_shl (LX_S hX (k := 129) rfl) (by decide) (LX_L hX (k := 129) rfl) (fun hs66 hl68 hb67 => ?_)
        exact t_X0_plan_b82 hX hd C hn hK60 st x2 x3 x4 x5 x6 x8 129 hs66 hb67 hl68 h
def w_X0_plan_b118 (Φ : St → Int64 → Prop) (st : St) (x4 : Int32) (x6 : Int64) : Prop := w_X2_is st 143 x6 (sL st 0 16) (fun (s73 : St) (r72 : Nat) => w_X2_part s73 r72 x4 (fun (r82 : Int64) => Φ s73 r82)) (fun _ => False)
theorem t_X0_plan_b118 {θ : Th} {κ : Kx} {Ph : Ph} (hX : LX θ) {d : Nat} (hd : 6 ≤ d) (C : Cx θ κ yX0_plan cX0_plan 9 (some Jvm.ClassFile.FieldType.long) [(0, 136, 137, 1)] d) {Φ : St → Int64 → Prop} (hn : ∀ st r, Φ st r → Ph.1 st (some (.long r))) (st : St) (x4 : Int32) (x6 : Int64) (h : w_X0_plan_b118 Φ st x4 x6) : X θ κ Ph st 118 [(0, .ref (ad θ 0)), (4, .int x4), (6, .long x6)] [] := by
  unfold w_X0_plan_b118 at h
  refine X_aload_n C dX0_plan_118 rfl 0 rfl (isRV_r _) ?_
  refine X_getF (ci := 0) (j := 29) (q := (RX0, TX0, 49)) C rfl (by decide) q289 rfl dX0_plan_119 (b := 143) (LX_S hX (k := 0) rfl) (LX_F hX (k := 0) (j := 29) rfl) rfl ?_
  refine X_lload C dX0_plan_122 2 rfl ?_
  refine X_aload_n C dX0_plan_124 rfl 0 rfl (isRV_r _) ?_
  refine X_getS (ci := 0) (j := 16) (q := (RX0, TX0, 49)) C rfl (by decide) q276 rfl dX0_plan_125 (LX_S hX (k := 0) rfl) (v := .long (sL st 0 16)) rfl ?_
  refine X_sh (LX_S hX (k := 143) rfl) (by decide) (fun hs70 hb71 => ?_)
  refine X_callV (ci := 2) (q := (RX2, TX2, 2)) (As := [_, _]) (rest := []) C rfl hs70 q714 q715 q716 q134 q717 ⟨rfl, nm_X2_is⟩ rfl dX0_plan_128 (m_X2_is (Cx_l C) (d := d - 1) (by omega) st 143 x6 (sL st 0 16) hs70 hb71 h) (by omega) (by decide) (Nat.le_of_ble_eq_true rfl) (fun s73 w74 hE75 hP76 => ?_) (fun s79 E77 q78 hE75 hP76 => ?_)
  rotate_left
  · rcases hP76 with ⟨rfl, h⟩
    exact h.elim
  obtain ⟨r72, rfl, hb80, hs81, h⟩ := hP76
  refine X_tls ?_
  refine X_iload C dX0_plan_131 1 rfl ?_
  refine X_callV (ci := 2) (q := (RX2, TX2, 2)) (As := [_]) (rest := []) C rfl hs81 q741 q742 q743 q134 q744 ⟨rfl, nm_X2_part⟩ rfl dX0_plan_133 (m_X2_part (Cx_l C) (d := d - 1) (by omega) s73 r72 x4 hs81 hb80 h) (by omega) (by decide) (Nat.le_of_ble_eq_true rfl) (fun s88 w83 hE84 hP85 => ?_) (fun s89 E86 q87 hE84 hP85 => ?_)
  rotate_left
  · exact False.elim hP85
  obtain ⟨r82, rfl, rfl, h⟩ := hP85
  refine X_tls ?_
  exact X_lret C rfl dX0_plan_136 (hn s73 _ h)
def w_X0_plan_b40 (Φ : St → Int64 → Prop) (st : St) (x1 : Int32) (x2 : Int32) (x3 : Int32) (x4 : Int32) (z0 : Int32) : Prop := w_X0_must st z0 (fun (s11 : St) => w_X0_laysAverage s11 x1 (fun (s31 : St) => w_X0_kernel s31 (fun (s39 : St) (r38 : Int32) => w_X0_plan_l60 Φ (fun (s69 : St) (x4 : Int32) (x6 : Int64) => w_X0_plan_b118 Φ s69 x4 x6) gFU s39 x2 x3 x4 r38 0 0) (fun (s40 : St) (a41 : Nat) => w_X0_answersFar s40 a41 (fun (s45 : St) (r44 : Int64) => Φ s45 r44)))) (fun (s12 : St) (a13 : Nat) => w_X0_answersFar s12 a13 (fun (s17 : St) (r16 : Int64) => Φ s17 r16))
theorem t_X0_plan_b40 {θ : Th} {κ : Kx} {Ph : Ph} (hX : LX θ) {d : Nat} (hd : 6 ≤ d) (C : Cx θ κ yX0_plan cX0_plan 9 (some Jvm.ClassFile.FieldType.long) [(0, 136, 137, 1)] d) {Φ : St → Int64 → Prop} (hn : ∀ st r, Φ st r → Ph.1 st (some (.long r))) (st : St) (x1 : Int32) (x2 : Int32) (x3 : Int32) (x4 : Int32) (z0 : Int32) (h : w_X0_plan_b40 Φ st x1 x2 x3 x4 z0) : X θ κ Ph st 40 [(0, .ref (ad θ 0)), (1, .int x1), (2, .int x2), (3, .int x3), (4, .int x4)] [.int z0] := by
  unfold w_X0_plan_b40 at h
  refine X_callS (As := [_]) (rest := []) C q418 q419 q132 q420 nm_X0_must rfl dX0_plan_40 (m_X0_must (Cx_l C) hX (d := d - 1) (by omega) st z0 h) (by omega) (by decide) (Nat.le_of_ble_eq_true rfl) (fun s11 w24 hE25 hP26 => ?_) (fun s29 E27 q28 hE25 hP26 => ?_)
  rotate_left
  · rcases hP26 with ⟨rfl, a_, rfl, hb_, hs_, h⟩
    refine XT_catch C [] ⟨0, 136, 137, 1⟩ [] rfl (fun _ h => absurd h List.not_mem_nil) (by decide) (by decide) q412 q425 ?_
    refine X_astore C dX0_plan_137 (isRV_r _) (lo2 := [(5, _), (0, _), (1, _), (2, _), (3, _), (4, _)]) (by decide) rfl ?_
    refine X_aload_n C dX0_plan_139 rfl 1 rfl (isRV_r _) ?_
    refine X_aload C dX0_plan_140 0 rfl (isRV_r _) ?_
    refine X_callVS (ci := 0) (q := (RX0, TX0, 49)) (As := [_]) (rest := []) C rfl (LX_S hX (k := 0) rfl) q745 q747 qs14 q132 q748 ⟨rfl, nm_X0_answersFar⟩ rfl dX0_plan_142 (m_X0_answersFar (Cx_l C) hX (d := d - 1) (by omega) s29 a_ hs_ hb_ h) (by omega) (by decide) (Nat.le_of_ble_eq_true rfl) (fun s17 w18 hE19 hP20 => ?_) (fun s23 E21 q22 hE19 hP20 => ?_)
    rotate_left
    · exact False.elim hP20
    obtain ⟨r16, rfl, h⟩ := hP20
    refine X_tls ?_
    have hs_ := Ext_sh hE19 hs_ (by decide)
    exact X_lret C rfl dX0_plan_145 (hn s17 _ h)
  obtain ⟨rfl, h⟩ := hP26
  refine X_tln ?_
  refine X_aload_n C dX0_plan_43 rfl 0 rfl (isRV_r _) ?_
  refine X_iload_n C dX0_plan_44 rfl 1 rfl ?_
  refine X_callVS (ci := 0) (q := (RX0, TX0, 49)) (As := [_]) (rest := []) C rfl (LX_S hX (k := 0) rfl) q665 q667 qs6 q132 q668 ⟨rfl, nm_X0_laysAverage⟩ rfl dX0_plan_45 (m_X0_laysAverage (Cx_l C) hX (d := d - 1) (by omega) s11 x1 h) (by omega) (by decide) (Nat.le_of_ble_eq_true rfl) (fun s31 w32 hE33 hP34 => ?_) (fun s37 E35 q36 hE33 hP34 => ?_)
  rotate_left
  · exact False.elim hP34
  obtain ⟨rfl, h⟩ := hP34
  refine X_tln ?_
  refine X_aload_n C dX0_plan_48 rfl 0 rfl (isRV_r _) ?_
  refine X_callVS (ci := 0) (q := (RX0, TX0, 49)) (As := []) (rest := []) C rfl (LX_S hX (k := 0) rfl) q669 q671 qs7 q132 q672 ⟨rfl, nm_X0_kernel⟩ rfl dX0_plan_49 (m_X0_kernel (Cx_l C) hX (d := d - 1) (by omega) s31 h) (by omega) (by decide) (Nat.le_of_ble_eq_true rfl) (fun s39 w52 hE53 hP54 => ?_) (fun s57 E55 q56 hE53 hP54 => ?_)
  rotate_left
  · rcases hP54 with ⟨rfl, a_, rfl, hb_, hs_, h⟩
    refine XT_catch C [] ⟨0, 136, 137, 1⟩ [] rfl (fun _ h => absurd h List.not_mem_nil) (by decide) (by decide) q412 q425 ?_
    refine X_astore C dX0_plan_137 (isRV_r _) (lo2 := [(5, _), (0, _), (1, _), (2, _), (3, _), (4, _)]) (by decide) rfl ?_
    refine X_aload_n C dX0_plan_139 rfl 1 rfl (isRV_r _) ?_
    refine X_aload C dX0_plan_140 0 rfl (isRV_r _) ?_
    refine X_callVS (ci := 0) (q := (RX0, TX0, 49)) (As := [_]) (rest := []) C rfl (LX_S hX (k := 0) rfl) q745 q747 qs14 q132 q748 ⟨rfl, nm_X0_answersFar⟩ rfl dX0_plan_142 (m_X0_answersFar (Cx_l C) hX (d := d - 1) (by omega) s57 a_ hs_ hb_ h) (by omega) (by decide) (Nat.le_of_ble_eq_true rfl) (fun s45 w46 hE47 hP48 => ?_) (fun s51 E49 q50 hE47 hP48 => ?_)
    rotate_left
    · exact False.elim hP48
    obtain ⟨r44, rfl, h⟩ := hP48
    refine X_tls ?_
    have hs_ := Ext_sh hE47 hs_ (by decide)
    exact X_lret C rfl dX0_plan_145 (hn s45 _ h)
  obtain ⟨r38, rfl, h⟩ := hP54
  refine X_tls ?_
  refine X_istore C dX0_plan_52 (lo2 := [(5, _), (0, _), (1, _), (2, _), (3, _), (4, _)]) (by decide) rfl ?_
  refine X_lconst (v := 0) C dX0_plan_54 rfl ?_
  refine X_lstore C dX0_plan_55 (lo2 := [(6, _), (5, _), (0, _), (1, _), (2, _), (3, _), (4, _)]) (by decide) rfl ?_
  refine X_iconst (v := 0) C dX0_plan_57 rfl ?_
  refine X_istore C dX0_plan_58 (lo2 := [(8, _), (6, _), (5, _), (0, _), (1, _), (2, _), (3, _), (4, _)]) (by decide) rfl ?_
  refine X_sub [3, 5, 6, 7, 2, 1, 0] (lo2 := [(0, _), (2, _), (3, _), (4, _), (5, _), (6, _), (8, _)]) rfl ?_
  refine t_X0_plan_l60 hX hd C hn ?_ gFU s39 x2 x3 x4 r38 0 0 h
  · intro s69 x4 x6 h
    exact t_X0_plan_b118 hX hd C hn s69 x4 x6 h
def w_X0_plan_b39 (Φ : St → Int64 → Prop) (st : St) (x1 : Int32) (x2 : Int32) (x3 : Int32) (x4 : Int32) : Prop := w_X0_plan_b40 Φ st x1 x2 x3 x4 0
theorem t_X0_plan_b39 {θ : Th} {κ : Kx} {Ph : Ph} (hX : LX θ) {d : Nat} (hd : 6 ≤ d) (C : Cx θ κ yX0_plan cX0_plan 9 (some Jvm.ClassFile.FieldType.long) [(0, 136, 137, 1)] d) {Φ : St → Int64 → Prop} (hn : ∀ st r, Φ st r → Ph.1 st (some (.long r))) (st : St) (x1 : Int32) (x2 : Int32) (x3 : Int32) (x4 : Int32) (h : w_X0_plan_b39 Φ st x1 x2 x3 x4) : X θ κ Ph st 39 [(0, .ref (ad θ 0)), (1, .int x1), (2, .int x2), (3, .int x3), (4, .int x4)] [] := by
  unfold w_X0_plan_b39 at h
  refine X_iconst (v := 0) C dX0_plan_39 rfl ?_
  exact t_X0_plan_b40 hX hd C hn st x1 x2 x3 x4 0 h
def w_X0_plan (st : St) (p1 : Int32) (p2 : Int32) (p3 : Int32) (p4 : Int32) (Φ : St → Int64 → Prop) : Prop := w_X1_isPoint 2 st p1 (fun (r1 : Int32) => ((r1 = 0) → w_X0_plan_b39 Φ st p1 p2 p3 p4) ∧ ((¬ r1 = 0) → w_X0_isPart p2 (fun (r90 : Int32) => ((r90 = 0) → w_X0_plan_b39 Φ st p1 p2 p3 p4) ∧ ((¬ r90 = 0) → w_X0_isLine st p2 p3 (fun (r99 : Int32) => ((r99 = 0) → w_X0_plan_b39 Φ st p1 p2 p3 p4) ∧ ((¬ r99 = 0) → w_X0_isPart p4 (fun (r108 : Int32) => ((r108 = 0) → w_X0_plan_b39 Φ st p1 p2 p3 p4) ∧ ((¬ r108 = 0) → w_X0_plan_b40 Φ st p1 p2 p3 p4 1))))))))
theorem nm_X0_plan : yX0_plan.cls ≠ "java/lang/invoke/MethodHandle" ∧ yX0_plan.cls ≠ "java/lang/invoke/VarHandle" ∧ (parseMethodDescriptor yX0_plan.desc).map (fun d => d.parameters.length) = some 4 := by decide +kernel
theorem e_X0_plan : plainFor yX0_plan = true := plainFor_of_name (by decide +kernel)
theorem m_X0_plan {θ : Th} {l : Launch} (hl0 : l.stackTraces = false) (hX : LX θ) {d : Nat} (hd : 6 ≤ d) (st : St) (p1 : Int32) (p2 : Int32) (p3 : Int32) (p4 : Int32) {Φ : St → Int64 → Prop} (h : w_X0_plan st p1 p2 p3 p4 Φ) : Ct θ l yX0_plan (wsW_ yX0_plan cX0_plan 9 (some Jvm.ClassFile.FieldType.long) [(0, 136, 137, 1)]) d [.ref (ad θ 0), .int p1, .int p2, .int p3, .int p4] st (pL Φ, noX) := by
  refine Ct_entryW hl0 e_X0_plan (Nat.le_of_ble_eq_true rfl) (fun κ hκ _ C => ?_)
  have hn : ∀ st r, Φ st r → ((pL Φ, noX) : Ph).1 st (some (.long r)) := fun st r q => ⟨r, rfl, q⟩
  change X _ _ _ _ _ [(0, .ref (ad θ 0)), (1, .int p1), (2, .int p2), (3, .int p3), (4, .int p4)] _
  unfold w_X0_plan at h
  refine X_aload_n C dX0_plan_0 rfl 0 rfl (isRV_r _) ?_
  refine X_getF (ci := 0) (j := 1) (q := (RX0, TX0, 49)) C rfl (by decide) q261 rfl dX0_plan_1 (b := 2) (LX_S hX (k := 0) rfl) (LX_F hX (k := 0) (j := 1) rfl) rfl ?_
  refine X_iload_n C dX0_plan_4 rfl 1 rfl ?_
  refine X_callVS (ci := 1) (q := (RX1, TX1, 10)) (As := [_]) (rest := []) C rfl (LH_0 (LX_H2 hX)) q619 q620 q621 q133 q622 ⟨rfl, nm_X1_isPoint⟩ rfl dX0_plan_5 (m_X1_isPoint (Cx_l C) (LX_H2 hX) (d := d - 1) (by omega) st p1 h) (by omega) (by decide) (Nat.le_of_ble_eq_true rfl) (fun s7 w2 hE3 hP4 => ?_) (fun s8 E5 q6 hE3 hP4 => ?_)
  rotate_left
  · exact False.elim hP4
  obtain ⟨r1, rfl, rfl, h⟩ := hP4
  refine X_tls ?_
  refine X_if_eq (tgt := 39) C dX0_plan_8 (by decide) (fun c9 => ?_) (fun c9 => ?_)
  · have h := h.1 c9
    exact t_X0_plan_b39 hX hd C hn st p1 p2 p3 p4 h
  · have h := h.2 c9
    refine X_iload_n C dX0_plan_11 rfl 2 rfl ?_
    refine X_callS (As := [_]) (rest := []) C q658 q659 q132 q660 nm_X0_isPart rfl dX0_plan_12 (m_X0_isPart (Cx_l C) (d := d - 1) (by omega) st p2 h) (by omega) (by decide) (Nat.le_of_ble_eq_true rfl) (fun s96 w91 hE92 hP93 => ?_) (fun s97 E94 q95 hE92 hP93 => ?_)
    rotate_left
    · exact False.elim hP93
    obtain ⟨r90, rfl, rfl, h⟩ := hP93
    refine X_tls ?_
    refine X_if_eq (tgt := 39) C dX0_plan_15 (by decide) (fun c98 => ?_) (fun c98 => ?_)
    · have h := h.1 c98
      exact t_X0_plan_b39 hX hd C hn st p1 p2 p3 p4 h
    · have h := h.2 c98
      refine X_aload_n C dX0_plan_18 rfl 0 rfl (isRV_r _) ?_
      refine X_iload_n C dX0_plan_19 rfl 2 rfl ?_
      refine X_iload_n C dX0_plan_20 rfl 3 rfl ?_
      refine X_callVS (ci := 0) (q := (RX0, TX0, 49)) (As := [_, _]) (rest := []) C rfl (LX_S hX (k := 0) rfl) q754 q756 qs15 q132 q757 ⟨rfl, nm_X0_isLine⟩ rfl dX0_plan_21 (m_X0_isLine (Cx_l C) hX (d := d - 1) (by omega) st p2 p3 h) (by omega) (by decide) (Nat.le_of_ble_eq_true rfl) (fun s105 w100 hE101 hP102 => ?_) (fun s106 E103 q104 hE101 hP102 => ?_)
      rotate_left
      · exact False.elim hP102
      obtain ⟨r99, rfl, rfl, h⟩ := hP102
      refine X_tls ?_
      refine X_if_eq (tgt := 39) C dX0_plan_24 (by decide) (fun c107 => ?_) (fun c107 => ?_)
      · have h := h.1 c107
        exact t_X0_plan_b39 hX hd C hn st p1 p2 p3 p4 h
      · have h := h.2 c107
        refine X_iload C dX0_plan_27 4 rfl ?_
        refine X_callS (As := [_]) (rest := []) C q658 q659 q132 q660 nm_X0_isPart rfl dX0_plan_29 (m_X0_isPart (Cx_l C) (d := d - 1) (by omega) st p4 h) (by omega) (by decide) (Nat.le_of_ble_eq_true rfl) (fun s114 w109 hE110 hP111 => ?_) (fun s115 E112 q113 hE110 hP111 => ?_)
        rotate_left
        · exact False.elim hP111
        obtain ⟨r108, rfl, rfl, h⟩ := hP111
        refine X_tls ?_
        refine X_if_eq (tgt := 39) C dX0_plan_32 (by decide) (fun c116 => ?_) (fun c116 => ?_)
        · have h := h.1 c116
          exact t_X0_plan_b39 hX hd C hn st p1 p2 p3 p4 h
        · have h := h.2 c116
          refine X_iconst (v := 1) C dX0_plan_35 rfl ?_
          refine X_goto (tgt := 40) C dX0_plan_36 (by decide) ?_
          exact t_X0_plan_b40 hX hd C hn st p1 p2 p3 p4 1 h

def w_X0_once_b23 (Φ : St → Int64 → Prop) (st : St) (x1 : Int32) (x2 : Int32) (z0 : Int32) : Prop := w_X0_must st z0 (fun (s11 : St) => w_X0_onceAt s11 x1 (fun (s31 : St) (r30 : Nat) => w_X2_part s31 r30 x2 (fun (r52 : Int64) => Φ s31 r52)) (fun (s32 : St) (a33 : Nat) => w_X0_answersFar s32 a33 (fun (s37 : St) (r36 : Int64) => Φ s37 r36)) (fun _ => False)) (fun (s12 : St) (a13 : Nat) => w_X0_answersFar s12 a13 (fun (s17 : St) (r16 : Int64) => Φ s17 r16))
theorem t_X0_once_b23 {θ : Th} {κ : Kx} {Ph : Ph} (hX : LX θ) {d : Nat} (hd : 6 ≤ d) (C : Cx θ κ yX0_once cX0_once 4 (some Jvm.ClassFile.FieldType.long) [(0, 35, 36, 1)] d) {Φ : St → Int64 → Prop} (hn : ∀ st r, Φ st r → Ph.1 st (some (.long r))) (st : St) (x1 : Int32) (x2 : Int32) (z0 : Int32) (h : w_X0_once_b23 Φ st x1 x2 z0) : X θ κ Ph st 23 [(0, .ref (ad θ 0)), (1, .int x1), (2, .int x2)] [.int z0] := by
  unfold w_X0_once_b23 at h
  refine X_callS (As := [_]) (rest := []) C q418 q419 q132 q420 nm_X0_must rfl dX0_once_23 (m_X0_must (Cx_l C) hX (d := d - 1) (by omega) st z0 h) (by omega) (by decide) (Nat.le_of_ble_eq_true rfl) (fun s11 w24 hE25 hP26 => ?_) (fun s29 E27 q28 hE25 hP26 => ?_)
  rotate_left
  · rcases hP26 with ⟨rfl, a_, rfl, hb_, hs_, h⟩
    refine XT_catch C [] ⟨0, 35, 36, 1⟩ [] rfl (fun _ h => absurd h List.not_mem_nil) (by decide) (by decide) q412 q425 ?_
    refine X_astore_n C dX0_once_36 rfl (isRV_r _) (lo2 := [(3, _), (0, _), (1, _), (2, _)]) (by decide) rfl ?_
    refine X_aload_n C dX0_once_37 rfl 1 rfl (isRV_r _) ?_
    refine X_aload_n C dX0_once_38 rfl 0 rfl (isRV_r _) ?_
    refine X_callVS (ci := 0) (q := (RX0, TX0, 49)) (As := [_]) (rest := []) C rfl (LX_S hX (k := 0) rfl) q745 q747 qs14 q132 q748 ⟨rfl, nm_X0_answersFar⟩ rfl dX0_once_39 (m_X0_answersFar (Cx_l C) hX (d := d - 1) (by omega) s29 a_ hs_ hb_ h) (by omega) (by decide) (Nat.le_of_ble_eq_true rfl) (fun s17 w18 hE19 hP20 => ?_) (fun s23 E21 q22 hE19 hP20 => ?_)
    rotate_left
    · exact False.elim hP20
    obtain ⟨r16, rfl, h⟩ := hP20
    refine X_tls ?_
    have hs_ := Ext_sh hE19 hs_ (by decide)
    exact X_lret C rfl dX0_once_42 (hn s17 _ h)
  obtain ⟨rfl, h⟩ := hP26
  refine X_tln ?_
  refine X_aload_n C dX0_once_26 rfl 0 rfl (isRV_r _) ?_
  refine X_iload_n C dX0_once_27 rfl 1 rfl ?_
  refine X_callVS (ci := 0) (q := (RX0, TX0, 49)) (As := [_]) (rest := []) C rfl (LX_S hX (k := 0) rfl) q908 q910 qs35 q132 q911 ⟨rfl, nm_X0_onceAt⟩ rfl dX0_once_28 (m_X0_onceAt (Cx_l C) hX (d := d - 1) (by omega) s11 x1 h) (by omega) (by decide) (Nat.le_of_ble_eq_true rfl) (fun s31 w44 hE45 hP46 => ?_) (fun s49 E47 q48 hE45 hP46 => ?_)
  rotate_left
  · rcases hP46 with ⟨rfl, a_, rfl, hb_, hs_, h⟩ | ⟨rfl, h⟩
    · refine XT_catch C [] ⟨0, 35, 36, 1⟩ [] rfl (fun _ h => absurd h List.not_mem_nil) (by decide) (by decide) q412 q425 ?_
      refine X_astore_n C dX0_once_36 rfl (isRV_r _) (lo2 := [(3, _), (0, _), (1, _), (2, _)]) (by decide) rfl ?_
      refine X_aload_n C dX0_once_37 rfl 1 rfl (isRV_r _) ?_
      refine X_aload_n C dX0_once_38 rfl 0 rfl (isRV_r _) ?_
      refine X_callVS (ci := 0) (q := (RX0, TX0, 49)) (As := [_]) (rest := []) C rfl (LX_S hX (k := 0) rfl) q745 q747 qs14 q132 q748 ⟨rfl, nm_X0_answersFar⟩ rfl dX0_once_39 (m_X0_answersFar (Cx_l C) hX (d := d - 1) (by omega) s49 a_ hs_ hb_ h) (by omega) (by decide) (Nat.le_of_ble_eq_true rfl) (fun s37 w38 hE39 hP40 => ?_) (fun s43 E41 q42 hE39 hP40 => ?_)
      rotate_left
      · exact False.elim hP40
      obtain ⟨r36, rfl, h⟩ := hP40
      refine X_tls ?_
      have hs_ := Ext_sh hE39 hs_ (by decide)
      exact X_lret C rfl dX0_once_42 (hn s37 _ h)
    · exact h.elim
  obtain ⟨r30, rfl, hb50, hs51, h⟩ := hP46
  refine X_tls ?_
  refine X_iload_n C dX0_once_31 rfl 2 rfl ?_
  refine X_callV (ci := 2) (q := (RX2, TX2, 2)) (As := [_]) (rest := []) C rfl hs51 q741 q742 q743 q134 q744 ⟨rfl, nm_X2_part⟩ rfl dX0_once_32 (m_X2_part (Cx_l C) (d := d - 1) (by omega) s31 r30 x2 hs51 hb50 h) (by omega) (by decide) (Nat.le_of_ble_eq_true rfl) (fun s58 w53 hE54 hP55 => ?_) (fun s59 E56 q57 hE54 hP55 => ?_)
  rotate_left
  · exact False.elim hP55
  obtain ⟨r52, rfl, rfl, h⟩ := hP55
  refine X_tls ?_
  exact X_lret C rfl dX0_once_35 (hn s31 _ h)
def w_X0_once_b22 (Φ : St → Int64 → Prop) (st : St) (x1 : Int32) (x2 : Int32) : Prop := w_X0_once_b23 Φ st x1 x2 0
theorem t_X0_once_b22 {θ : Th} {κ : Kx} {Ph : Ph} (hX : LX θ) {d : Nat} (hd : 6 ≤ d) (C : Cx θ κ yX0_once cX0_once 4 (some Jvm.ClassFile.FieldType.long) [(0, 35, 36, 1)] d) {Φ : St → Int64 → Prop} (hn : ∀ st r, Φ st r → Ph.1 st (some (.long r))) (st : St) (x1 : Int32) (x2 : Int32) (h : w_X0_once_b22 Φ st x1 x2) : X θ κ Ph st 22 [(0, .ref (ad θ 0)), (1, .int x1), (2, .int x2)] [] := by
  unfold w_X0_once_b22 at h
  refine X_iconst (v := 0) C dX0_once_22 rfl ?_
  exact t_X0_once_b23 hX hd C hn st x1 x2 0 h
def w_X0_once (st : St) (p1 : Int32) (p2 : Int32) (Φ : St → Int64 → Prop) : Prop := w_X1_isPoint 2 st p1 (fun (r1 : Int32) => ((r1 = 0) → w_X0_once_b22 Φ st p1 p2) ∧ ((¬ r1 = 0) → w_X0_isPart p2 (fun (r60 : Int32) => ((r60 = 0) → w_X0_once_b22 Φ st p1 p2) ∧ ((¬ r60 = 0) → w_X0_once_b23 Φ st p1 p2 1))))
theorem nm_X0_once : yX0_once.cls ≠ "java/lang/invoke/MethodHandle" ∧ yX0_once.cls ≠ "java/lang/invoke/VarHandle" ∧ (parseMethodDescriptor yX0_once.desc).map (fun d => d.parameters.length) = some 2 := by decide +kernel
theorem e_X0_once : plainFor yX0_once = true := plainFor_of_name (by decide +kernel)
theorem m_X0_once {θ : Th} {l : Launch} (hl0 : l.stackTraces = false) (hX : LX θ) {d : Nat} (hd : 6 ≤ d) (st : St) (p1 : Int32) (p2 : Int32) {Φ : St → Int64 → Prop} (h : w_X0_once st p1 p2 Φ) : Ct θ l yX0_once (wsW_ yX0_once cX0_once 4 (some Jvm.ClassFile.FieldType.long) [(0, 35, 36, 1)]) d [.ref (ad θ 0), .int p1, .int p2] st (pL Φ, noX) := by
  refine Ct_entryW hl0 e_X0_once (Nat.le_of_ble_eq_true rfl) (fun κ hκ _ C => ?_)
  have hn : ∀ st r, Φ st r → ((pL Φ, noX) : Ph).1 st (some (.long r)) := fun st r q => ⟨r, rfl, q⟩
  change X _ _ _ _ _ [(0, .ref (ad θ 0)), (1, .int p1), (2, .int p2)] _
  unfold w_X0_once at h
  refine X_aload_n C dX0_once_0 rfl 0 rfl (isRV_r _) ?_
  refine X_getF (ci := 0) (j := 1) (q := (RX0, TX0, 49)) C rfl (by decide) q261 rfl dX0_once_1 (b := 2) (LX_S hX (k := 0) rfl) (LX_F hX (k := 0) (j := 1) rfl) rfl ?_
  refine X_iload_n C dX0_once_4 rfl 1 rfl ?_
  refine X_callVS (ci := 1) (q := (RX1, TX1, 10)) (As := [_]) (rest := []) C rfl (LH_0 (LX_H2 hX)) q619 q620 q621 q133 q622 ⟨rfl, nm_X1_isPoint⟩ rfl dX0_once_5 (m_X1_isPoint (Cx_l C) (LX_H2 hX) (d := d - 1) (by omega) st p1 h) (by omega) (by decide) (Nat.le_of_ble_eq_true rfl) (fun s7 w2 hE3 hP4 => ?_) (fun s8 E5 q6 hE3 hP4 => ?_)
  rotate_left
  · exact False.elim hP4
  obtain ⟨r1, rfl, rfl, h⟩ := hP4
  refine X_tls ?_
  refine X_if_eq (tgt := 22) C dX0_once_8 (by decide) (fun c9 => ?_) (fun c9 => ?_)
  · have h := h.1 c9
    exact t_X0_once_b22 hX hd C hn st p1 p2 h
  · have h := h.2 c9
    refine X_iload_n C dX0_once_11 rfl 2 rfl ?_
    refine X_callS (As := [_]) (rest := []) C q658 q659 q132 q660 nm_X0_isPart rfl dX0_once_12 (m_X0_isPart (Cx_l C) (d := d - 1) (by omega) st p2 h) (by omega) (by decide) (Nat.le_of_ble_eq_true rfl) (fun s66 w61 hE62 hP63 => ?_) (fun s67 E64 q65 hE62 hP63 => ?_)
    rotate_left
    · exact False.elim hP63
    obtain ⟨r60, rfl, rfl, h⟩ := hP63
    refine X_tls ?_
    refine X_if_eq (tgt := 22) C dX0_once_15 (by decide) (fun c68 => ?_) (fun c68 => ?_)
    · have h := h.1 c68
      exact t_X0_once_b22 hX hd C hn st p1 p2 h
    · have h := h.2 c68
      refine X_iconst (v := 1) C dX0_once_18 rfl ?_
      refine X_goto (tgt := 23) C dX0_once_19 (by decide) ?_
      exact t_X0_once_b23 hX hd C hn st p1 p2 1 h

def w_X0_mustGrow_b15 (Φ : St → Prop) (Φw : St → Nat → Prop) (st : St) (z0 : Int32) : Prop := w_X0_need st z0 2 (fun (s3 : St) => Φ s3) Φw
theorem t_X0_mustGrow_b15 {θ : Th} {κ : Kx} {Ph : Ph} (hX : LX θ) {d : Nat} (hd : 5 ≤ d) (C : Cx θ κ yX0_mustGrow cX0_mustGrow 1 (none : Option Jvm.ClassFile.FieldType) [] d) {Φ : St → Prop} {Φw : St → Nat → Prop} (hn : ∀ st, Φ st → Ph.1 st none) (hw : ∀ st a, a < gBIG → sh st a = 6 → Φw st a → Ph.2 st "SecretsWorth$Wrong" (ad θ a)) (st : St) (z0 : Int32) (h : w_X0_mustGrow_b15 Φ Φw st z0) : X θ κ Ph st 15 [] [.int z0] := by
  unfold w_X0_mustGrow_b15 at h
  refine X_iconst (v := 2) C dX0_mustGrow_15 rfl ?_
  refine X_callS (As := [_, _]) (rest := []) C q421 q422 q132 q423 nm_X0_need rfl dX0_mustGrow_16 (m_X0_need (Cx_l C) hX (d := d - 1) (by omega) st z0 2 h) (by omega) (by decide) (Nat.le_of_ble_eq_true rfl) (fun s3 w4 hE5 hP6 => ?_) (fun s9 E7 q8 hE5 hP6 => ?_)
  rotate_left
  · rcases hP6 with ⟨rfl, a_, rfl, hb_, hs_, h⟩
    exact XT_out C rfl (hw s9 a_ hb_ hs_ h)
  obtain ⟨rfl, h⟩ := hP6
  refine X_tln ?_
  exact X_vret C rfl dX0_mustGrow_19 (hn s3 h)
def w_X0_mustGrow (st : St) (Φ : St → Prop) (Φw : St → Nat → Prop) : Prop := (((sR st 2 7) = none) → w_X0_mustGrow_b15 Φ Φw st 0) ∧ ((¬ (sR st 2 7) = none) → w_X0_mustGrow_b15 Φ Φw st 1)
theorem nm_X0_mustGrow : yX0_mustGrow.cls ≠ "java/lang/invoke/MethodHandle" ∧ yX0_mustGrow.cls ≠ "java/lang/invoke/VarHandle" ∧ (parseMethodDescriptor yX0_mustGrow.desc).map (fun d => d.parameters.length) = some 0 := by decide +kernel
theorem e_X0_mustGrow : plainFor yX0_mustGrow = true := plainFor_of_name (by decide +kernel)
theorem m_X0_mustGrow {θ : Th} {l : Launch} (hl0 : l.stackTraces = false) (hX : LX θ) {d : Nat} (hd : 5 ≤ d) (st : St) {Φ : St → Prop} {Φw : St → Nat → Prop} (h : w_X0_mustGrow st Φ Φw) : Ct θ l yX0_mustGrow (ws_ yX0_mustGrow cX0_mustGrow 1 (none : Option Jvm.ClassFile.FieldType)) d [.ref (ad θ 0)] st (pV Φ, (exW θ Φw)) := by
  refine Ct_entry hl0 e_X0_mustGrow (Nat.le_of_ble_eq_true rfl) (fun κ hκ _ C => ?_)
  have hn : ∀ st, Φ st → ((pV Φ, (exW θ Φw)) : Ph).1 st none := fun st q => ⟨rfl, q⟩
  have hw : ∀ st a, a < gBIG → sh st a = 6 → Φw st a → ((pV Φ, (exW θ Φw)) : Ph).2 st "SecretsWorth$Wrong" (ad θ a) := fun st a q1 q2 q => ⟨rfl, a, rfl, q1, q2, q⟩
  change X _ _ _ _ _ [(0, .ref (ad θ 0))] _
  unfold w_X0_mustGrow at h
  refine X_aload_n C dX0_mustGrow_0 rfl 0 rfl (isRV_r _) ?_
  refine X_getF (ci := 0) (j := 1) (q := (RX0, TX0, 49)) C rfl (by decide) q261 rfl dX0_mustGrow_1 (b := 2) (LX_S hX (k := 0) rfl) (LX_F hX (k := 0) (j := 1) rfl) rfl ?_
  refine X_getNS (ci := 1) (j := 7) (q := (RX1, TX1, 10)) C rfl (by decide) q203 rfl dX0_mustGrow_4 (LH_0 (LX_H2 hX)) (v := rv θ (sR st 2 7)) rfl ?_
  refine X_ifnull (tgt := 14) C (isRV_v _ _) dX0_mustGrow_7 (by decide) (fun c1 => ?_) (fun c1 => ?_)
  · have h := h.1 (rv_none.mp c1)
    refine X_iconst (v := 0) C dX0_mustGrow_14 rfl ?_
    refine X_sub [] (lo2 := []) rfl ?_
    exact t_X0_mustGrow_b15 hX hd C hn hw st 0 h
  · have h := h.2 (fun q => c1 (rv_none.mpr q))
    refine X_iconst (v := 1) C dX0_mustGrow_10 rfl ?_
    refine X_goto (tgt := 15) C dX0_mustGrow_11 (by decide) ?_
    refine X_sub [] (lo2 := []) rfl ?_
    exact t_X0_mustGrow_b15 hX hd C hn hw st 1 h

def w_X0_wants (st : St) (p1 : Int32) (Φ : St → Prop) (Φf : St → Nat → Prop) : Prop := ((p1 ≠ 0) → Φ st) ∧ ((p1 = 0) → sN st + 1 ≤ gCAP ∧ sS st + 7 ≤ gCAPS ∧ ∀ s4, s4 = mk st 7 7 → w_X6_init s4 (sN st) (sI s4 0 35) (fun (s10 : St) => Φf s10 (sN st)))
theorem nm_X0_wants : yX0_wants.cls ≠ "java/lang/invoke/MethodHandle" ∧ yX0_wants.cls ≠ "java/lang/invoke/VarHandle" ∧ (parseMethodDescriptor yX0_wants.desc).map (fun d => d.parameters.length) = some 1 := by decide +kernel
theorem e_X0_wants : plainFor yX0_wants = true := plainFor_of_name (by decide +kernel)
theorem m_X0_wants {θ : Th} {l : Launch} (hl0 : l.stackTraces = false) (hX : LX θ) {d : Nat} (hd : 4 ≤ d) (st : St) (p1 : Int32) {Φ : St → Prop} {Φf : St → Nat → Prop} (h : w_X0_wants st p1 Φ Φf) : Ct θ l yX0_wants (ws_ yX0_wants cX0_wants 2 (none : Option Jvm.ClassFile.FieldType)) d [.ref (ad θ 0), .int p1] st (pV Φ, (exF θ Φf)) := by
  refine Ct_entry hl0 e_X0_wants (Nat.le_of_ble_eq_true rfl) (fun κ hκ _ C => ?_)
  have hn : ∀ st, Φ st → ((pV Φ, (exF θ Φf)) : Ph).1 st none := fun st q => ⟨rfl, q⟩
  have hf : ∀ st a, a < gBIG → sh st a = 7 → Φf st a → ((pV Φ, (exF θ Φf)) : Ph).2 st "SecretsWorth$Fault" (ad θ a) := fun st a q1 q2 q => ⟨rfl, a, rfl, q1, q2, q⟩
  change X _ _ _ _ _ [(0, .ref (ad θ 0)), (1, .int p1)] _
  unfold w_X0_wants at h
  refine X_iload_n C dX0_wants_0 rfl 1 rfl ?_
  refine X_if_ne (tgt := 16) C dX0_wants_1 (by decide) (fun c1 => ?_) (fun c1 => ?_)
  · have h := h.1 c1
    exact X_vret C rfl dX0_wants_16 (hn st h)
  · have h := h.2 c1
    have g2 := h.1
    have h := h.2
    have g3 := h.1
    have h := h.2
    refine X_new (ci := 6) (q := (RX6, TX6, 7)) C rfl q938 q1148 q157 g2 g3 dX0_wants_4 (fun hE6 => ?_)
    refine X_nm (fun s4 e5 => ?_)
    have h := h s4 e5
    rw [← e5] at hE6
    have hs7 : sh s4 (sN st) = 7 := by rw [e5]; exact sh_mk
    have hb8 := nb_N g2
    refine X_dup C dX0_wants_7 rfl ?_
    refine X_aload_n C dX0_wants_8 rfl 0 rfl (isRV_r _) ?_
    refine X_getS (ci := 0) (j := 35) (q := (RX0, TX0, 49)) C rfl (by decide) q295 rfl dX0_wants_9 (LX_S hX (k := 0) rfl) (v := .int (sI s4 0 35)) rfl ?_
    refine X_callI (As := [_]) (rest := [_]) C q1156 q1157 q157 q1158 rfl nm_X6_init rfl dX0_wants_12 (m_X6_init (Cx_l C) hX (d := d - 1) (by omega) s4 (sN st) (sI s4 0 35) hs7 hb8 h) (by omega) (by decide) (Nat.le_of_ble_eq_true rfl) (fun s10 w11 hE12 hP13 => ?_) (fun s16 E14 q15 hE12 hP13 => ?_)
    rotate_left
    · exact False.elim hP13
    obtain ⟨rfl, h⟩ := hP13
    refine X_tln ?_
    have hs7 := Ext_sh hE12 hs7 (by decide)
    refine X_athrow C (ci := 6) rfl hs7 dX0_wants_15 ?_
    exact XT_out C rfl (hf s10 (sN st) hb8 hs7 h)
